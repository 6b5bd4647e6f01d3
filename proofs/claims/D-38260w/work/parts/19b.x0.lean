/-! THE LAW's WRAPPERS (printed by wip gen/x0.py) -/
set_option maxRecDepth 100000
abbrev rm_X0_village : Room := { frames := 8, cells := 9, slots := 60, locals := 230 }
def sp_X0_village (κ : Kx) (y : Ly) (post : Int32 → Int64 → Wd → Ly → Prop) (n0 : Int64) (w : Wd) (p1 : Int32) (p2 : Int32) (p3 : Int32) (p4 : Int32) : Prop := sp_X1_village κ y (fun r w y9 => post (0 : Int32) r.toInt64 w y9) (fun E w => (E = "java/lang/IllegalArgumentException" ∧ post (1 : Int32) n0 w y) ∨ (E = "java/lang/IllegalStateException" ∧ post (2 : Int32) n0 w y)) w p1 p2 p3 p4
set_option maxHeartbeats 4000000 in
theorem m_X0_village {l : Launch} {κ : Kx} {y : Ly} {X : XR} {post : Int32 → Int64 → Wd → Ly → Prop} {w : Wd} {oa : Nat} {n0 : Int64} {dd : UInt64} {ss : Value} {p1 : Int32} {p2 : Int32} {p3 : Int32} {p4 : Int32} (hfl : l.stackTraces = false) (hW : WFc κ y) (l0 : live y 0 0) (hX : X oa (.inr (15, [.long n0, .double dd, ss]))) (h : sp_X0_village κ y post n0 w p1 p2 p3 p4) : vx_Met l yX0_village (wsW_ yX0_village cX0_village 7 (Option.some Jvm.ClassFile.FieldType.int) [(0, 15, 18, 19), (0, 15, 22, 21)]) rm_X0_village (va_Pc [.ref (y.2 0 0), .int (p1), .int (p2), .int (p3), .int (p4), .ref oa] (RC κ w y X)) (va_Qi (fun r (u : Wd × Ly × Int64) => post r u.2.2 u.1 u.2.1) (fun (u : Wd × Ly × Int64) t => Rp κ u.1 u.2.1 (upX X oa (.inr (15, [.long u.2.2, .double dd, ss]))) [] t.heap ∧ WFc κ u.2.1) (Af κ)) (XF κ) 9 60 (Af κ) := by
  unfold sp_X0_village at h
  refine vx_ofWH (cc := cX0_village) (maxL := 7) (ret := (Option.some Jvm.ClassFile.FieldType.int)) (hh := [(0, 15, 18, 19), (0, 15, 22, 21)]) (by decide) rfl ?_
  intro p e s m args below meth c s₁ B hml hv
  obtain ⟨rfl, hR, hK⟩ := hv
  have hx := B.exec
  have hb := B.bytes
  have hr := B.returns
  have hts := atoms_spec (ws := wsW_ yX0_village cX0_village 7 (Option.some Jvm.ClassFile.FieldType.int) [(0, 15, 18, 19), (0, 15, 22, 21)]) B.pre
  have htab : c.exceptionTable.toList = tableOf [(0, 15, 18, 19), (0, 15, 22, 21)] := vx_table (x := yX0_village) B (hts _ List.mem_cons_self)
  have hts : ∀ w ∈ lw_all, w.before _ s = true := fun w h => hts w (List.mem_cons_of_mem _ h)
  have hown : s.vm.findClass RX0 = some m.cls := findClass_of_methodNamed B.named
  have hS : va_S (Af κ) s.heap s.heap [] := va_S.rf
  have hl := lv_entry ([.ref (y.2 0 0), .int (p1), .int (p2), .int (p3), .int (p4), .ref oa]) (n := 7) (Nat.le_of_ble_eq_true rfl)
  rw [lg_entry_eq]
  generalize (lg_sl ([.ref (y.2 0 0), .int (p1), .int (p2), .int (p3), .int (p4), .ref oa]) ++ List.replicate (7 - (lg_sl ([.ref (y.2 0 0), .int (p1), .int (p2), .int (p3), .int (p4), .ref oa])).length) Slot.unset).toArray = ls at hl ⊢
  have hl : lv_has ls 7 [(0, .ref (y.2 0 0)), (1, .int (p1)), (2, .int (p2)), (3, .int (p3)), (4, .int (p4)), (5, .ref oa)] := hl
  refine lv_aload hx hb dX0_village_0 (lv_at hl 5 rfl) ?_
  refine lv_aload_n hx hb dX0_village_2 rfl (lv_at hl 0 rfl) ?_
  refine lv_iload_n hx hb dX0_village_3 rfl (lv_at hl 1 rfl) ?_
  refine lv_iload_n hx hb dX0_village_4 rfl (lv_at hl 2 rfl) ?_
  refine lv_iload_n hx hb dX0_village_5 rfl (lv_at hl 3 rfl) ?_
  refine lv_iload hx hb dX0_village_6 (lv_at hl 4 rfl) ?_
  refine cew_qi (fw := fun u : Wd × Ly => u.1) (fy := fun u => u.2) (X := X) (L := []) (PB := fun (u : Wd × Ly) t => Rp κ u.1 u.2 (xl X []) [] t.heap ∧ WFc κ u.2) (BB := fun (u : Wd × Ly) => WFc κ u.2) (fun _ _ h => h) (crx_V (n := 4) (As := [.int (p1), .int (p2), .int (p3), .int (p4)]) (rest := [.ref oa]) ⟨hx, hb, hml, hown, hts⟩ hK hR (m_X1_village hfl hW l0 h) q786 q787 q788 q74 q789 rfl rfl hd_X1_village ⟨Nat.le_of_ble_eq_true rfl, Nat.le_of_ble_eq_true rfl⟩ (rv hK hR l0 (ci := 0) rfl rfl) rfl rfl hl.1 rfl (lv_room (Nat.le_of_ble_eq_true rfl)) dX0_village_8 ⟨(Nat.le_of_ble_eq_true rfl), (Nat.le_of_ble_eq_true rfl)⟩) hR hS (fun E ce9 q9 u H locs hp hR hS hcell hv9 hcl => ?_) (fun r u H locs h hB hR hS => ?_)
  · have hR := hR.xsame hX
    rcases hp with ⟨rfl, h⟩ | ⟨rfl, h⟩
    · refine vx_catch (name := "java/lang/IllegalArgumentException") hown [] ⟨0, 15, 18, 19⟩ [⟨0, 15, 22, 21⟩] htab (fun z9 hz9 => nomatch hz9) rfl (by decide) (hts _ q784) (va_Nw.use rfl (hK.2.1.2.2.1 _ (List.mem_of_getElem? (i := 14) rfl))) hcell hv9 hcl ?_
      refine lv_astore (lv' := [(6, .ref q9), (0, .ref (y.2 0 0)), (1, .int (p1)), (2, .int (p2)), (3, .int (p3)), (4, .int (p4)), (5, .ref oa)]) hx hb dX0_village_18 hl (by decide) rfl (fun ls hl => ?_)
      refine lv_iconst (v := (1 : Int32)) hx hb dX0_village_20 (by decide) ?_
      exact vx_ret (W.iret (v := (1 : Int32)) hx hb hr (fun t ht hW9 => ⟨⟨(1 : Int32), (u, y, n0), rfl, h, rpt ht hR, hW⟩, hS.F ht⟩) hS.2.2 dX0_village_21)
    · refine vx_catch (name := "java/lang/IllegalStateException") hown [⟨0, 15, 18, 19⟩] ⟨0, 15, 22, 21⟩ [] htab (fun z9 hz9 => by rcases List.mem_cons.mp hz9 with rfl | hz9; exact Or.inr ⟨by decide, _, hts _ q784, hK.2.1.2.2.2.2.2.2.2.2.2.2.2.2.2 _ (List.mem_of_getElem? (i := 2) rfl)⟩; exact (nomatch hz9)) rfl (by decide) (hts _ q785) (va_Nw.use rfl (hK.2.1.2.2.1 _ (List.mem_of_getElem? (i := 16) rfl))) hcell hv9 hcl ?_
      refine lv_astore (lv' := [(6, .ref q9), (0, .ref (y.2 0 0)), (1, .int (p1)), (2, .int (p2)), (3, .int (p3)), (4, .int (p4)), (5, .ref oa)]) hx hb dX0_village_22 hl (by decide) rfl (fun ls hl => ?_)
      refine lv_iconst (v := (2 : Int32)) hx hb dX0_village_24 (by decide) ?_
      exact vx_ret (W.iret (v := (2 : Int32)) hx hb hr (fun t ht hW9 => ⟨⟨(2 : Int32), (u, y, n0), rfl, h, rpt ht hR, hW⟩, hS.F ht⟩) hS.2.2 dX0_village_25)
  · refine lv_i2l hx hb dX0_village_11 rfl ?_
    refine xa_putN (T := TX9) (N := 3) (ref := "PublicanryLaw$Out") (host := "PublicanryLaw") hx hb hts in_X9 tyX9 tyX9_ok nmX9 hown hK.1 hS (hR.2.2.2.1 _ _ hX).2.1 (hR.2.2.2.1 _ _ hX).1 rfl 0 (by decide) (va_Nw.use rfl (hK.2.1.2.1 _ (List.mem_of_getElem? (i := 1) rfl))) rfl rfl rfl rfl (Nat.le_of_ble_eq_true rfl) dX0_village_12 (fun H1 locs h1 hz ho hS => ?_)
    have hR := hR.putXL hX h1 hz ho
    refine lv_goto (tgt := 26) hx hb dX0_village_15 (by decide) ?_
    refine lv_iconst (v := (0 : Int32)) hx hb dX0_village_26 (by decide) ?_
    exact vx_ret (W.iret (v := (0 : Int32)) hx hb hr (fun t ht hW9 => ⟨⟨(0 : Int32), (u.1, u.2, r.toInt64), rfl, h, rpt ht hR, hB⟩, hS.F ht⟩) hS.2.2 dX0_village_27)
abbrev rm_X0_clear : Room := { frames := 9, cells := 2, slots := 12, locals := 164 }
def sp_X0_clear (κ : Kx) (y : Ly) (post : Int32 → Int64 → Wd → Prop) (n0 : Int64) (w : Wd) (p1 : Int32) (p2 : Int32) : Prop := sp_X1_clear κ y (fun r w => post (0 : Int32) r.toInt64 w) (fun E w => (E = "java/lang/IndexOutOfBoundsException" ∧ post (1 : Int32) n0 w) ∨ (E = "java/lang/IllegalArgumentException" ∧ post (2 : Int32) n0 w)) w p1 p2
set_option maxHeartbeats 4000000 in
theorem m_X0_clear {l : Launch} {κ : Kx} {y : Ly} {X : XR} {post : Int32 → Int64 → Wd → Prop} {w : Wd} {oa : Nat} {n0 : Int64} {dd : UInt64} {ss : Value} {p1 : Int32} {p2 : Int32} (hfl : l.stackTraces = false) (hW : WFc κ y) (l0 : live y 0 0) (hX : X oa (.inr (15, [.long n0, .double dd, ss]))) (h : sp_X0_clear κ y post n0 w p1 p2) : vx_Met l yX0_clear (wsW_ yX0_clear cX0_clear 5 (Option.some Jvm.ClassFile.FieldType.int) [(0, 11, 14, 27), (0, 11, 18, 19)]) rm_X0_clear (va_Pc [.ref (y.2 0 0), .int (p1), .int (p2), .ref oa] (RC κ w y X)) (va_Qi (fun r (u : Wd × Int64) => post r u.2 u.1) (fun (u : Wd × Int64) t => Rp κ u.1 y (upX X oa (.inr (15, [.long u.2, .double dd, ss]))) [] t.heap) (Af κ)) (XF κ) 2 12 (Af κ) := by
  unfold sp_X0_clear at h
  refine vx_ofWH (cc := cX0_clear) (maxL := 5) (ret := (Option.some Jvm.ClassFile.FieldType.int)) (hh := [(0, 11, 14, 27), (0, 11, 18, 19)]) (by decide) rfl ?_
  intro p e s m args below meth c s₁ B hml hv
  obtain ⟨rfl, hR, hK⟩ := hv
  have hx := B.exec
  have hb := B.bytes
  have hr := B.returns
  have hts := atoms_spec (ws := wsW_ yX0_clear cX0_clear 5 (Option.some Jvm.ClassFile.FieldType.int) [(0, 11, 14, 27), (0, 11, 18, 19)]) B.pre
  have htab : c.exceptionTable.toList = tableOf [(0, 11, 14, 27), (0, 11, 18, 19)] := vx_table (x := yX0_clear) B (hts _ List.mem_cons_self)
  have hts : ∀ w ∈ lw_all, w.before _ s = true := fun w h => hts w (List.mem_cons_of_mem _ h)
  have hown : s.vm.findClass RX0 = some m.cls := findClass_of_methodNamed B.named
  have hS : va_S (Af κ) s.heap s.heap [] := va_S.rf
  have hl := lv_entry ([.ref (y.2 0 0), .int (p1), .int (p2), .ref oa]) (n := 5) (Nat.le_of_ble_eq_true rfl)
  rw [lg_entry_eq]
  generalize (lg_sl ([.ref (y.2 0 0), .int (p1), .int (p2), .ref oa]) ++ List.replicate (5 - (lg_sl ([.ref (y.2 0 0), .int (p1), .int (p2), .ref oa])).length) Slot.unset).toArray = ls at hl ⊢
  have hl : lv_has ls 5 [(0, .ref (y.2 0 0)), (1, .int (p1)), (2, .int (p2)), (3, .ref oa)] := hl
  refine lv_aload_n hx hb dX0_clear_0 rfl (lv_at hl 3 rfl) ?_
  refine lv_aload_n hx hb dX0_clear_1 rfl (lv_at hl 0 rfl) ?_
  refine lv_iload_n hx hb dX0_clear_2 rfl (lv_at hl 1 rfl) ?_
  refine lv_iload_n hx hb dX0_clear_3 rfl (lv_at hl 2 rfl) ?_
  refine cew_qi (fw := fun u => u) (fy := fun _ => y) (X := X) (L := []) (BB := fun _ => True) (fun _ _ h => ⟨h, trivial⟩) (crx_V (n := 2) (As := [.int (p1), .int (p2)]) (rest := [.ref oa]) ⟨hx, hb, hml, hown, hts⟩ hK hR (m_X1_clear hfl hW l0 h) q1025 q1026 q1027 q74 q1028 rfl rfl hd_X1_clear ⟨Nat.le_of_ble_eq_true rfl, Nat.le_of_ble_eq_true rfl⟩ (rv hK hR l0 (ci := 0) rfl rfl) rfl rfl hl.1 rfl (lv_room (Nat.le_of_ble_eq_true rfl)) dX0_clear_4 ⟨(Nat.le_of_ble_eq_true rfl), (Nat.le_of_ble_eq_true rfl)⟩) hR hS (fun E ce9 q9 u H locs hp hR hS hcell hv9 hcl => ?_) (fun r u H locs h hB hR hS => ?_)
  · have hR := hR.xsame hX
    rcases hp with ⟨rfl, h⟩ | ⟨rfl, h⟩
    · refine vx_catch (name := "java/lang/IndexOutOfBoundsException") hown [] ⟨0, 11, 14, 27⟩ [⟨0, 11, 18, 19⟩] htab (fun z9 hz9 => nomatch hz9) rfl (by decide) (hts _ q1006) (va_Nw.use rfl (hK.2.1.2.2.1 _ (List.mem_of_getElem? (i := 0) rfl))) hcell hv9 hcl ?_
      refine lv_astore (lv' := [(4, .ref q9), (0, .ref (y.2 0 0)), (1, .int (p1)), (2, .int (p2)), (3, .ref oa)]) hx hb dX0_clear_14 hl (by decide) rfl (fun ls hl => ?_)
      refine lv_iconst (v := (1 : Int32)) hx hb dX0_clear_16 (by decide) ?_
      exact vx_ret (W.iret (v := (1 : Int32)) hx hb hr (fun t ht hW9 => ⟨⟨(1 : Int32), (u, n0), rfl, h, rpt ht hR⟩, hS.F ht⟩) hS.2.2 dX0_clear_17)
    · refine vx_catch (name := "java/lang/IllegalArgumentException") hown [⟨0, 11, 14, 27⟩] ⟨0, 11, 18, 19⟩ [] htab (fun z9 hz9 => by rcases List.mem_cons.mp hz9 with rfl | hz9; exact Or.inr ⟨by decide, _, hts _ q1006, hK.2.1.2.2.2.2.2.2.2.2.2.2.2.2.2 _ (List.mem_of_getElem? (i := 0) rfl)⟩; exact (nomatch hz9)) rfl (by decide) (hts _ q784) (va_Nw.use rfl (hK.2.1.2.2.1 _ (List.mem_of_getElem? (i := 14) rfl))) hcell hv9 hcl ?_
      refine lv_astore (lv' := [(4, .ref q9), (0, .ref (y.2 0 0)), (1, .int (p1)), (2, .int (p2)), (3, .ref oa)]) hx hb dX0_clear_18 hl (by decide) rfl (fun ls hl => ?_)
      refine lv_iconst (v := (2 : Int32)) hx hb dX0_clear_20 (by decide) ?_
      exact vx_ret (W.iret (v := (2 : Int32)) hx hb hr (fun t ht hW9 => ⟨⟨(2 : Int32), (u, n0), rfl, h, rpt ht hR⟩, hS.F ht⟩) hS.2.2 dX0_clear_21)
  · refine lv_i2l hx hb dX0_clear_7 rfl ?_
    refine xa_putN (T := TX9) (N := 3) (ref := "PublicanryLaw$Out") (host := "PublicanryLaw") hx hb hts in_X9 tyX9 tyX9_ok nmX9 hown hK.1 hS (hR.2.2.2.1 _ _ hX).2.1 (hR.2.2.2.1 _ _ hX).1 rfl 0 (by decide) (va_Nw.use rfl (hK.2.1.2.1 _ (List.mem_of_getElem? (i := 1) rfl))) rfl rfl rfl rfl (Nat.le_of_ble_eq_true rfl) dX0_clear_8 (fun H1 locs h1 hz ho hS => ?_)
    have hR := hR.putXL hX h1 hz ho
    refine lv_goto (tgt := 22) hx hb dX0_clear_11 (by decide) ?_
    refine lv_iconst (v := (0 : Int32)) hx hb dX0_clear_22 (by decide) ?_
    exact vx_ret (W.iret (v := (0 : Int32)) hx hb hr (fun t ht hW9 => ⟨⟨(0 : Int32), (u, r.toInt64), rfl, h, rpt ht hR⟩, hS.F ht⟩) hS.2.2 dX0_clear_23)
abbrev rm_X0_survey : Room := { frames := 9, cells := 1, slots := 6, locals := 164 }
def sp_X0_survey (κ : Kx) (y : Ly) (post : Int32 → Int64 → Wd → Prop) (n0 : Int64) (w : Wd) (p1 : Int32) : Prop := sp_X1_survey κ y (fun r w => post (0 : Int32) r.toInt64 w) (fun E w => (E = "java/lang/IndexOutOfBoundsException" ∧ post (1 : Int32) n0 w)) w p1
set_option maxHeartbeats 4000000 in
theorem m_X0_survey {l : Launch} {κ : Kx} {y : Ly} {X : XR} {post : Int32 → Int64 → Wd → Prop} {w : Wd} {oa : Nat} {n0 : Int64} {dd : UInt64} {ss : Value} {p1 : Int32} (hfl : l.stackTraces = false) (hW : WFc κ y) (l0 : live y 0 0) (hX : X oa (.inr (15, [.long n0, .double dd, ss]))) (h : sp_X0_survey κ y post n0 w p1) : vx_Met l yX0_survey (wsW_ yX0_survey cX0_survey 4 (Option.some Jvm.ClassFile.FieldType.int) [(0, 10, 13, 27)]) rm_X0_survey (va_Pc [.ref (y.2 0 0), .int (p1), .ref oa] (RC κ w y X)) (va_Qi (fun r (u : Wd × Int64) => post r u.2 u.1) (fun (u : Wd × Int64) t => Rp κ u.1 y (upX X oa (.inr (15, [.long u.2, .double dd, ss]))) [] t.heap) (Af κ)) (XF κ) 1 6 (Af κ) := by
  unfold sp_X0_survey at h
  refine vx_ofWH (cc := cX0_survey) (maxL := 4) (ret := (Option.some Jvm.ClassFile.FieldType.int)) (hh := [(0, 10, 13, 27)]) (by decide) rfl ?_
  intro p e s m args below meth c s₁ B hml hv
  obtain ⟨rfl, hR, hK⟩ := hv
  have hx := B.exec
  have hb := B.bytes
  have hr := B.returns
  have hts := atoms_spec (ws := wsW_ yX0_survey cX0_survey 4 (Option.some Jvm.ClassFile.FieldType.int) [(0, 10, 13, 27)]) B.pre
  have htab : c.exceptionTable.toList = tableOf [(0, 10, 13, 27)] := vx_table (x := yX0_survey) B (hts _ List.mem_cons_self)
  have hts : ∀ w ∈ lw_all, w.before _ s = true := fun w h => hts w (List.mem_cons_of_mem _ h)
  have hown : s.vm.findClass RX0 = some m.cls := findClass_of_methodNamed B.named
  have hS : va_S (Af κ) s.heap s.heap [] := va_S.rf
  have hl := lv_entry ([.ref (y.2 0 0), .int (p1), .ref oa]) (n := 4) (Nat.le_of_ble_eq_true rfl)
  rw [lg_entry_eq]
  generalize (lg_sl ([.ref (y.2 0 0), .int (p1), .ref oa]) ++ List.replicate (4 - (lg_sl ([.ref (y.2 0 0), .int (p1), .ref oa])).length) Slot.unset).toArray = ls at hl ⊢
  have hl : lv_has ls 4 [(0, .ref (y.2 0 0)), (1, .int (p1)), (2, .ref oa)] := hl
  refine lv_aload_n hx hb dX0_survey_0 rfl (lv_at hl 2 rfl) ?_
  refine lv_aload_n hx hb dX0_survey_1 rfl (lv_at hl 0 rfl) ?_
  refine lv_iload_n hx hb dX0_survey_2 rfl (lv_at hl 1 rfl) ?_
  refine cew_qi (fw := fun u => u) (fy := fun _ => y) (X := X) (L := []) (BB := fun _ => True) (fun _ _ h => ⟨h, trivial⟩) (crx_V (n := 1) (As := [.int (p1)]) (rest := [.ref oa]) ⟨hx, hb, hml, hown, hts⟩ hK hR (m_X1_survey hfl hW l0 h) q1052 q1053 q1054 q74 q1055 rfl rfl hd_X1_survey ⟨Nat.le_of_ble_eq_true rfl, Nat.le_of_ble_eq_true rfl⟩ (rv hK hR l0 (ci := 0) rfl rfl) rfl rfl hl.1 rfl (lv_room (Nat.le_of_ble_eq_true rfl)) dX0_survey_3 ⟨(Nat.le_of_ble_eq_true rfl), (Nat.le_of_ble_eq_true rfl)⟩) hR hS (fun E ce9 q9 u H locs hp hR hS hcell hv9 hcl => ?_) (fun r u H locs h hB hR hS => ?_)
  · have hR := hR.xsame hX
    obtain ⟨rfl, h⟩ := hp
    refine vx_catch (name := "java/lang/IndexOutOfBoundsException") hown [] ⟨0, 10, 13, 27⟩ [] htab (fun z9 hz9 => nomatch hz9) rfl (by decide) (hts _ q1006) (va_Nw.use rfl (hK.2.1.2.2.1 _ (List.mem_of_getElem? (i := 0) rfl))) hcell hv9 hcl ?_
    refine lv_astore_n (lv' := [(3, .ref q9), (0, .ref (y.2 0 0)), (1, .int (p1)), (2, .ref oa)]) hx hb dX0_survey_13 rfl hl (by decide) rfl (fun ls hl => ?_)
    refine lv_iconst (v := (1 : Int32)) hx hb dX0_survey_14 (by decide) ?_
    exact vx_ret (W.iret (v := (1 : Int32)) hx hb hr (fun t ht hW9 => ⟨⟨(1 : Int32), (u, n0), rfl, h, rpt ht hR⟩, hS.F ht⟩) hS.2.2 dX0_survey_15)
  · refine lv_i2l hx hb dX0_survey_6 rfl ?_
    refine xa_putN (T := TX9) (N := 3) (ref := "PublicanryLaw$Out") (host := "PublicanryLaw") hx hb hts in_X9 tyX9 tyX9_ok nmX9 hown hK.1 hS (hR.2.2.2.1 _ _ hX).2.1 (hR.2.2.2.1 _ _ hX).1 rfl 0 (by decide) (va_Nw.use rfl (hK.2.1.2.1 _ (List.mem_of_getElem? (i := 1) rfl))) rfl rfl rfl rfl (Nat.le_of_ble_eq_true rfl) dX0_survey_7 (fun H1 locs h1 hz ho hS => ?_)
    have hR := hR.putXL hX h1 hz ho
    refine lv_goto (tgt := 16) hx hb dX0_survey_10 (by decide) ?_
    refine lv_iconst (v := (0 : Int32)) hx hb dX0_survey_16 (by decide) ?_
    exact vx_ret (W.iret (v := (0 : Int32)) hx hb hr (fun t ht hW9 => ⟨⟨(0 : Int32), (u, r.toInt64), rfl, h, rpt ht hR⟩, hS.F ht⟩) hS.2.2 dX0_survey_17)
abbrev rm_X0_war : Room := { frames := 8, cells := 2, slots := 10, locals := 143 }
def sp_X0_war (κ : Kx) (y : Ly) (post : Int32 → Int64 → Wd → Prop) (n0 : Int64) (w : Wd) (p1 : Int32) : Prop := sp_X1_war κ y (fun r w => post (0 : Int32) r.toInt64 w) (fun E w => (E = "java/lang/IllegalArgumentException" ∧ post (1 : Int32) n0 w)) w p1
set_option maxHeartbeats 4000000 in
theorem m_X0_war {l : Launch} {κ : Kx} {y : Ly} {X : XR} {post : Int32 → Int64 → Wd → Prop} {w : Wd} {oa : Nat} {n0 : Int64} {dd : UInt64} {ss : Value} {p1 : Int32} (hfl : l.stackTraces = false) (hW : WFc κ y) (l0 : live y 0 0) (hX : X oa (.inr (15, [.long n0, .double dd, ss]))) (h : sp_X0_war κ y post n0 w p1) : vx_Met l yX0_war (wsW_ yX0_war cX0_war 4 (Option.some Jvm.ClassFile.FieldType.int) [(0, 10, 13, 19)]) rm_X0_war (va_Pc [.ref (y.2 0 0), .int (p1), .ref oa] (RC κ w y X)) (va_Qi (fun r (u : Wd × Int64) => post r u.2 u.1) (fun (u : Wd × Int64) t => Rp κ u.1 y (upX X oa (.inr (15, [.long u.2, .double dd, ss]))) [] t.heap) (Af κ)) (XF κ) 2 10 (Af κ) := by
  unfold sp_X0_war at h
  refine vx_ofWH (cc := cX0_war) (maxL := 4) (ret := (Option.some Jvm.ClassFile.FieldType.int)) (hh := [(0, 10, 13, 19)]) (by decide) rfl ?_
  intro p e s m args below meth c s₁ B hml hv
  obtain ⟨rfl, hR, hK⟩ := hv
  have hx := B.exec
  have hb := B.bytes
  have hr := B.returns
  have hts := atoms_spec (ws := wsW_ yX0_war cX0_war 4 (Option.some Jvm.ClassFile.FieldType.int) [(0, 10, 13, 19)]) B.pre
  have htab : c.exceptionTable.toList = tableOf [(0, 10, 13, 19)] := vx_table (x := yX0_war) B (hts _ List.mem_cons_self)
  have hts : ∀ w ∈ lw_all, w.before _ s = true := fun w h => hts w (List.mem_cons_of_mem _ h)
  have hown : s.vm.findClass RX0 = some m.cls := findClass_of_methodNamed B.named
  have hS : va_S (Af κ) s.heap s.heap [] := va_S.rf
  have hl := lv_entry ([.ref (y.2 0 0), .int (p1), .ref oa]) (n := 4) (Nat.le_of_ble_eq_true rfl)
  rw [lg_entry_eq]
  generalize (lg_sl ([.ref (y.2 0 0), .int (p1), .ref oa]) ++ List.replicate (4 - (lg_sl ([.ref (y.2 0 0), .int (p1), .ref oa])).length) Slot.unset).toArray = ls at hl ⊢
  have hl : lv_has ls 4 [(0, .ref (y.2 0 0)), (1, .int (p1)), (2, .ref oa)] := hl
  refine lv_aload_n hx hb dX0_war_0 rfl (lv_at hl 2 rfl) ?_
  refine lv_aload_n hx hb dX0_war_1 rfl (lv_at hl 0 rfl) ?_
  refine lv_iload_n hx hb dX0_war_2 rfl (lv_at hl 1 rfl) ?_
  refine cew_qi (fw := fun u => u) (fy := fun _ => y) (X := X) (L := []) (BB := fun _ => True) (fun _ _ h => ⟨h, trivial⟩) (crx_V (n := 1) (As := [.int (p1)]) (rest := [.ref oa]) ⟨hx, hb, hml, hown, hts⟩ hK hR (m_X1_war hfl hW l0 h) q1059 q1060 q1061 q74 q1062 rfl rfl hd_X1_war ⟨Nat.le_of_ble_eq_true rfl, Nat.le_of_ble_eq_true rfl⟩ (rv hK hR l0 (ci := 0) rfl rfl) rfl rfl hl.1 rfl (lv_room (Nat.le_of_ble_eq_true rfl)) dX0_war_3 ⟨(Nat.le_of_ble_eq_true rfl), (Nat.le_of_ble_eq_true rfl)⟩) hR hS (fun E ce9 q9 u H locs hp hR hS hcell hv9 hcl => ?_) (fun r u H locs h hB hR hS => ?_)
  · have hR := hR.xsame hX
    obtain ⟨rfl, h⟩ := hp
    refine vx_catch (name := "java/lang/IllegalArgumentException") hown [] ⟨0, 10, 13, 19⟩ [] htab (fun z9 hz9 => nomatch hz9) rfl (by decide) (hts _ q784) (va_Nw.use rfl (hK.2.1.2.2.1 _ (List.mem_of_getElem? (i := 14) rfl))) hcell hv9 hcl ?_
    refine lv_astore_n (lv' := [(3, .ref q9), (0, .ref (y.2 0 0)), (1, .int (p1)), (2, .ref oa)]) hx hb dX0_war_13 rfl hl (by decide) rfl (fun ls hl => ?_)
    refine lv_iconst (v := (1 : Int32)) hx hb dX0_war_14 (by decide) ?_
    exact vx_ret (W.iret (v := (1 : Int32)) hx hb hr (fun t ht hW9 => ⟨⟨(1 : Int32), (u, n0), rfl, h, rpt ht hR⟩, hS.F ht⟩) hS.2.2 dX0_war_15)
  · refine lv_i2l hx hb dX0_war_6 rfl ?_
    refine xa_putN (T := TX9) (N := 3) (ref := "PublicanryLaw$Out") (host := "PublicanryLaw") hx hb hts in_X9 tyX9 tyX9_ok nmX9 hown hK.1 hS (hR.2.2.2.1 _ _ hX).2.1 (hR.2.2.2.1 _ _ hX).1 rfl 0 (by decide) (va_Nw.use rfl (hK.2.1.2.1 _ (List.mem_of_getElem? (i := 1) rfl))) rfl rfl rfl rfl (Nat.le_of_ble_eq_true rfl) dX0_war_7 (fun H1 locs h1 hz ho hS => ?_)
    have hR := hR.putXL hX h1 hz ho
    refine lv_goto (tgt := 16) hx hb dX0_war_10 (by decide) ?_
    refine lv_iconst (v := (0 : Int32)) hx hb dX0_war_16 (by decide) ?_
    exact vx_ret (W.iret (v := (0 : Int32)) hx hb hr (fun t ht hW9 => ⟨⟨(0 : Int32), (u, r.toInt64), rfl, h, rpt ht hR⟩, hS.F ht⟩) hS.2.2 dX0_war_17)
abbrev rm_X0_edict : Room := { frames := 9, cells := 3, slots := 15, locals := 164 }
def sp_X0_edict (κ : Kx) (y : Ly) (post : Int32 → Int64 → Wd → Prop) (n0 : Int64) (w : Wd) (p1 : Int32) (p2 : Int32) (p3 : Int32) : Prop := sp_X1_edict κ y (fun r w => post (0 : Int32) r.toInt64 w) (fun E w => (E = "java/lang/IndexOutOfBoundsException" ∧ post (1 : Int32) n0 w) ∨ (E = "java/lang/IllegalArgumentException" ∧ post (2 : Int32) n0 w)) w p1 p2 p3
set_option maxHeartbeats 4000000 in
theorem m_X0_edict {l : Launch} {κ : Kx} {y : Ly} {X : XR} {post : Int32 → Int64 → Wd → Prop} {w : Wd} {oa : Nat} {n0 : Int64} {dd : UInt64} {ss : Value} {p1 : Int32} {p2 : Int32} {p3 : Int32} (hfl : l.stackTraces = false) (hW : WFc κ y) (l0 : live y 0 0) (hX : X oa (.inr (15, [.long n0, .double dd, ss]))) (h : sp_X0_edict κ y post n0 w p1 p2 p3) : vx_Met l yX0_edict (wsW_ yX0_edict cX0_edict 6 (Option.some Jvm.ClassFile.FieldType.int) [(0, 13, 16, 27), (0, 13, 20, 19)]) rm_X0_edict (va_Pc [.ref (y.2 0 0), .int (p1), .int (p2), .int (p3), .ref oa] (RC κ w y X)) (va_Qi (fun r (u : Wd × Int64) => post r u.2 u.1) (fun (u : Wd × Int64) t => Rp κ u.1 y (upX X oa (.inr (15, [.long u.2, .double dd, ss]))) [] t.heap) (Af κ)) (XF κ) 3 15 (Af κ) := by
  unfold sp_X0_edict at h
  refine vx_ofWH (cc := cX0_edict) (maxL := 6) (ret := (Option.some Jvm.ClassFile.FieldType.int)) (hh := [(0, 13, 16, 27), (0, 13, 20, 19)]) (by decide) rfl ?_
  intro p e s m args below meth c s₁ B hml hv
  obtain ⟨rfl, hR, hK⟩ := hv
  have hx := B.exec
  have hb := B.bytes
  have hr := B.returns
  have hts := atoms_spec (ws := wsW_ yX0_edict cX0_edict 6 (Option.some Jvm.ClassFile.FieldType.int) [(0, 13, 16, 27), (0, 13, 20, 19)]) B.pre
  have htab : c.exceptionTable.toList = tableOf [(0, 13, 16, 27), (0, 13, 20, 19)] := vx_table (x := yX0_edict) B (hts _ List.mem_cons_self)
  have hts : ∀ w ∈ lw_all, w.before _ s = true := fun w h => hts w (List.mem_cons_of_mem _ h)
  have hown : s.vm.findClass RX0 = some m.cls := findClass_of_methodNamed B.named
  have hS : va_S (Af κ) s.heap s.heap [] := va_S.rf
  have hl := lv_entry ([.ref (y.2 0 0), .int (p1), .int (p2), .int (p3), .ref oa]) (n := 6) (Nat.le_of_ble_eq_true rfl)
  rw [lg_entry_eq]
  generalize (lg_sl ([.ref (y.2 0 0), .int (p1), .int (p2), .int (p3), .ref oa]) ++ List.replicate (6 - (lg_sl ([.ref (y.2 0 0), .int (p1), .int (p2), .int (p3), .ref oa])).length) Slot.unset).toArray = ls at hl ⊢
  have hl : lv_has ls 6 [(0, .ref (y.2 0 0)), (1, .int (p1)), (2, .int (p2)), (3, .int (p3)), (4, .ref oa)] := hl
  refine lv_aload hx hb dX0_edict_0 (lv_at hl 4 rfl) ?_
  refine lv_aload_n hx hb dX0_edict_2 rfl (lv_at hl 0 rfl) ?_
  refine lv_iload_n hx hb dX0_edict_3 rfl (lv_at hl 1 rfl) ?_
  refine lv_iload_n hx hb dX0_edict_4 rfl (lv_at hl 2 rfl) ?_
  refine lv_iload_n hx hb dX0_edict_5 rfl (lv_at hl 3 rfl) ?_
  refine cew_qi (fw := fun u => u) (fy := fun _ => y) (X := X) (L := []) (BB := fun _ => True) (fun _ _ h => ⟨h, trivial⟩) (crx_V (n := 3) (As := [.int (p1), .int (p2), .int (p3)]) (rest := [.ref oa]) ⟨hx, hb, hml, hown, hts⟩ hK hR (m_X1_edict hfl hW l0 h) q1071 q1072 q1073 q74 q1074 rfl rfl hd_X1_edict ⟨Nat.le_of_ble_eq_true rfl, Nat.le_of_ble_eq_true rfl⟩ (rv hK hR l0 (ci := 0) rfl rfl) rfl rfl hl.1 rfl (lv_room (Nat.le_of_ble_eq_true rfl)) dX0_edict_6 ⟨(Nat.le_of_ble_eq_true rfl), (Nat.le_of_ble_eq_true rfl)⟩) hR hS (fun E ce9 q9 u H locs hp hR hS hcell hv9 hcl => ?_) (fun r u H locs h hB hR hS => ?_)
  · have hR := hR.xsame hX
    rcases hp with ⟨rfl, h⟩ | ⟨rfl, h⟩
    · refine vx_catch (name := "java/lang/IndexOutOfBoundsException") hown [] ⟨0, 13, 16, 27⟩ [⟨0, 13, 20, 19⟩] htab (fun z9 hz9 => nomatch hz9) rfl (by decide) (hts _ q1006) (va_Nw.use rfl (hK.2.1.2.2.1 _ (List.mem_of_getElem? (i := 0) rfl))) hcell hv9 hcl ?_
      refine lv_astore (lv' := [(5, .ref q9), (0, .ref (y.2 0 0)), (1, .int (p1)), (2, .int (p2)), (3, .int (p3)), (4, .ref oa)]) hx hb dX0_edict_16 hl (by decide) rfl (fun ls hl => ?_)
      refine lv_iconst (v := (1 : Int32)) hx hb dX0_edict_18 (by decide) ?_
      exact vx_ret (W.iret (v := (1 : Int32)) hx hb hr (fun t ht hW9 => ⟨⟨(1 : Int32), (u, n0), rfl, h, rpt ht hR⟩, hS.F ht⟩) hS.2.2 dX0_edict_19)
    · refine vx_catch (name := "java/lang/IllegalArgumentException") hown [⟨0, 13, 16, 27⟩] ⟨0, 13, 20, 19⟩ [] htab (fun z9 hz9 => by rcases List.mem_cons.mp hz9 with rfl | hz9; exact Or.inr ⟨by decide, _, hts _ q1006, hK.2.1.2.2.2.2.2.2.2.2.2.2.2.2.2 _ (List.mem_of_getElem? (i := 0) rfl)⟩; exact (nomatch hz9)) rfl (by decide) (hts _ q784) (va_Nw.use rfl (hK.2.1.2.2.1 _ (List.mem_of_getElem? (i := 14) rfl))) hcell hv9 hcl ?_
      refine lv_astore (lv' := [(5, .ref q9), (0, .ref (y.2 0 0)), (1, .int (p1)), (2, .int (p2)), (3, .int (p3)), (4, .ref oa)]) hx hb dX0_edict_20 hl (by decide) rfl (fun ls hl => ?_)
      refine lv_iconst (v := (2 : Int32)) hx hb dX0_edict_22 (by decide) ?_
      exact vx_ret (W.iret (v := (2 : Int32)) hx hb hr (fun t ht hW9 => ⟨⟨(2 : Int32), (u, n0), rfl, h, rpt ht hR⟩, hS.F ht⟩) hS.2.2 dX0_edict_23)
  · refine lv_i2l hx hb dX0_edict_9 rfl ?_
    refine xa_putN (T := TX9) (N := 3) (ref := "PublicanryLaw$Out") (host := "PublicanryLaw") hx hb hts in_X9 tyX9 tyX9_ok nmX9 hown hK.1 hS (hR.2.2.2.1 _ _ hX).2.1 (hR.2.2.2.1 _ _ hX).1 rfl 0 (by decide) (va_Nw.use rfl (hK.2.1.2.1 _ (List.mem_of_getElem? (i := 1) rfl))) rfl rfl rfl rfl (Nat.le_of_ble_eq_true rfl) dX0_edict_10 (fun H1 locs h1 hz ho hS => ?_)
    have hR := hR.putXL hX h1 hz ho
    refine lv_goto (tgt := 24) hx hb dX0_edict_13 (by decide) ?_
    refine lv_iconst (v := (0 : Int32)) hx hb dX0_edict_24 (by decide) ?_
    exact vx_ret (W.iret (v := (0 : Int32)) hx hb hr (fun t ht hW9 => ⟨⟨(0 : Int32), (u, r.toInt64), rfl, h, rpt ht hR⟩, hS.F ht⟩) hS.2.2 dX0_edict_25)
abbrev rm_X0_cut : Room := { frames := 9, cells := 1, slots := 6, locals := 164 }
def sp_X0_cut (κ : Kx) (y : Ly) (post : Int32 → Int64 → Wd → Prop) (n0 : Int64) (w : Wd) (p1 : Int32) : Prop := sp_X1_cut κ y (fun r w => post (0 : Int32) r.toInt64 w) (fun E w => (E = "java/lang/IndexOutOfBoundsException" ∧ post (1 : Int32) n0 w)) w p1
set_option maxHeartbeats 4000000 in
theorem m_X0_cut {l : Launch} {κ : Kx} {y : Ly} {X : XR} {post : Int32 → Int64 → Wd → Prop} {w : Wd} {oa : Nat} {n0 : Int64} {dd : UInt64} {ss : Value} {p1 : Int32} (hfl : l.stackTraces = false) (hW : WFc κ y) (l0 : live y 0 0) (hX : X oa (.inr (15, [.long n0, .double dd, ss]))) (h : sp_X0_cut κ y post n0 w p1) : vx_Met l yX0_cut (wsW_ yX0_cut cX0_cut 4 (Option.some Jvm.ClassFile.FieldType.int) [(0, 10, 13, 27)]) rm_X0_cut (va_Pc [.ref (y.2 0 0), .int (p1), .ref oa] (RC κ w y X)) (va_Qi (fun r (u : Wd × Int64) => post r u.2 u.1) (fun (u : Wd × Int64) t => Rp κ u.1 y (upX X oa (.inr (15, [.long u.2, .double dd, ss]))) [] t.heap) (Af κ)) (XF κ) 1 6 (Af κ) := by
  unfold sp_X0_cut at h
  refine vx_ofWH (cc := cX0_cut) (maxL := 4) (ret := (Option.some Jvm.ClassFile.FieldType.int)) (hh := [(0, 10, 13, 27)]) (by decide) rfl ?_
  intro p e s m args below meth c s₁ B hml hv
  obtain ⟨rfl, hR, hK⟩ := hv
  have hx := B.exec
  have hb := B.bytes
  have hr := B.returns
  have hts := atoms_spec (ws := wsW_ yX0_cut cX0_cut 4 (Option.some Jvm.ClassFile.FieldType.int) [(0, 10, 13, 27)]) B.pre
  have htab : c.exceptionTable.toList = tableOf [(0, 10, 13, 27)] := vx_table (x := yX0_cut) B (hts _ List.mem_cons_self)
  have hts : ∀ w ∈ lw_all, w.before _ s = true := fun w h => hts w (List.mem_cons_of_mem _ h)
  have hown : s.vm.findClass RX0 = some m.cls := findClass_of_methodNamed B.named
  have hS : va_S (Af κ) s.heap s.heap [] := va_S.rf
  have hl := lv_entry ([.ref (y.2 0 0), .int (p1), .ref oa]) (n := 4) (Nat.le_of_ble_eq_true rfl)
  rw [lg_entry_eq]
  generalize (lg_sl ([.ref (y.2 0 0), .int (p1), .ref oa]) ++ List.replicate (4 - (lg_sl ([.ref (y.2 0 0), .int (p1), .ref oa])).length) Slot.unset).toArray = ls at hl ⊢
  have hl : lv_has ls 4 [(0, .ref (y.2 0 0)), (1, .int (p1)), (2, .ref oa)] := hl
  refine lv_aload_n hx hb dX0_cut_0 rfl (lv_at hl 2 rfl) ?_
  refine lv_aload_n hx hb dX0_cut_1 rfl (lv_at hl 0 rfl) ?_
  refine lv_iload_n hx hb dX0_cut_2 rfl (lv_at hl 1 rfl) ?_
  refine cew_qi (fw := fun u => u) (fy := fun _ => y) (X := X) (L := []) (BB := fun _ => True) (fun _ _ h => ⟨h, trivial⟩) (crx_V (n := 1) (As := [.int (p1)]) (rest := [.ref oa]) ⟨hx, hb, hml, hown, hts⟩ hK hR (m_X1_cut hfl hW l0 h) q1099 q1100 q1101 q74 q1102 rfl rfl hd_X1_cut ⟨Nat.le_of_ble_eq_true rfl, Nat.le_of_ble_eq_true rfl⟩ (rv hK hR l0 (ci := 0) rfl rfl) rfl rfl hl.1 rfl (lv_room (Nat.le_of_ble_eq_true rfl)) dX0_cut_3 ⟨(Nat.le_of_ble_eq_true rfl), (Nat.le_of_ble_eq_true rfl)⟩) hR hS (fun E ce9 q9 u H locs hp hR hS hcell hv9 hcl => ?_) (fun r u H locs h hB hR hS => ?_)
  · have hR := hR.xsame hX
    obtain ⟨rfl, h⟩ := hp
    refine vx_catch (name := "java/lang/IndexOutOfBoundsException") hown [] ⟨0, 10, 13, 27⟩ [] htab (fun z9 hz9 => nomatch hz9) rfl (by decide) (hts _ q1006) (va_Nw.use rfl (hK.2.1.2.2.1 _ (List.mem_of_getElem? (i := 0) rfl))) hcell hv9 hcl ?_
    refine lv_astore_n (lv' := [(3, .ref q9), (0, .ref (y.2 0 0)), (1, .int (p1)), (2, .ref oa)]) hx hb dX0_cut_13 rfl hl (by decide) rfl (fun ls hl => ?_)
    refine lv_iconst (v := (1 : Int32)) hx hb dX0_cut_14 (by decide) ?_
    exact vx_ret (W.iret (v := (1 : Int32)) hx hb hr (fun t ht hW9 => ⟨⟨(1 : Int32), (u, n0), rfl, h, rpt ht hR⟩, hS.F ht⟩) hS.2.2 dX0_cut_15)
  · refine lv_i2l hx hb dX0_cut_6 rfl ?_
    refine xa_putN (T := TX9) (N := 3) (ref := "PublicanryLaw$Out") (host := "PublicanryLaw") hx hb hts in_X9 tyX9 tyX9_ok nmX9 hown hK.1 hS (hR.2.2.2.1 _ _ hX).2.1 (hR.2.2.2.1 _ _ hX).1 rfl 0 (by decide) (va_Nw.use rfl (hK.2.1.2.1 _ (List.mem_of_getElem? (i := 1) rfl))) rfl rfl rfl rfl (Nat.le_of_ble_eq_true rfl) dX0_cut_7 (fun H1 locs h1 hz ho hS => ?_)
    have hR := hR.putXL hX h1 hz ho
    refine lv_goto (tgt := 16) hx hb dX0_cut_10 (by decide) ?_
    refine lv_iconst (v := (0 : Int32)) hx hb dX0_cut_16 (by decide) ?_
    exact vx_ret (W.iret (v := (0 : Int32)) hx hb hr (fun t ht hW9 => ⟨⟨(0 : Int32), (u, r.toInt64), rfl, h, rpt ht hR⟩, hS.F ht⟩) hS.2.2 dX0_cut_17)
abbrev rm_X0_company : Room := { frames := 8, cells := 6, slots := 38, locals := 201 }
def sp_X0_company (κ : Kx) (y : Ly) (post : Int32 → Int64 → Wd → Ly → Prop) (n0 : Int64) (w : Wd) (p1 : Int32) (p2 : Int32) : Prop := sp_X1_company κ y (fun r w y9 => post (0 : Int32) r.toInt64 w y9) (fun E w => (E = "java/lang/IllegalArgumentException" ∧ post (1 : Int32) n0 w y) ∨ (E = "java/lang/IllegalStateException" ∧ post (2 : Int32) n0 w y)) w p1 p2
set_option maxHeartbeats 4000000 in
theorem m_X0_company {l : Launch} {κ : Kx} {y : Ly} {X : XR} {post : Int32 → Int64 → Wd → Ly → Prop} {w : Wd} {oa : Nat} {n0 : Int64} {dd : UInt64} {ss : Value} {p1 : Int32} {p2 : Int32} (hfl : l.stackTraces = false) (hW : WFc κ y) (l0 : live y 0 0) (hX : X oa (.inr (15, [.long n0, .double dd, ss]))) (h : sp_X0_company κ y post n0 w p1 p2) : vx_Met l yX0_company (wsW_ yX0_company cX0_company 5 (Option.some Jvm.ClassFile.FieldType.int) [(0, 11, 14, 19), (0, 11, 18, 21)]) rm_X0_company (va_Pc [.ref (y.2 0 0), .int (p1), .int (p2), .ref oa] (RC κ w y X)) (va_Qi (fun r (u : Wd × Ly × Int64) => post r u.2.2 u.1 u.2.1) (fun (u : Wd × Ly × Int64) t => Rp κ u.1 u.2.1 (upX X oa (.inr (15, [.long u.2.2, .double dd, ss]))) [] t.heap ∧ WFc κ u.2.1) (Af κ)) (XF κ) 6 38 (Af κ) := by
  unfold sp_X0_company at h
  refine vx_ofWH (cc := cX0_company) (maxL := 5) (ret := (Option.some Jvm.ClassFile.FieldType.int)) (hh := [(0, 11, 14, 19), (0, 11, 18, 21)]) (by decide) rfl ?_
  intro p e s m args below meth c s₁ B hml hv
  obtain ⟨rfl, hR, hK⟩ := hv
  have hx := B.exec
  have hb := B.bytes
  have hr := B.returns
  have hts := atoms_spec (ws := wsW_ yX0_company cX0_company 5 (Option.some Jvm.ClassFile.FieldType.int) [(0, 11, 14, 19), (0, 11, 18, 21)]) B.pre
  have htab : c.exceptionTable.toList = tableOf [(0, 11, 14, 19), (0, 11, 18, 21)] := vx_table (x := yX0_company) B (hts _ List.mem_cons_self)
  have hts : ∀ w ∈ lw_all, w.before _ s = true := fun w h => hts w (List.mem_cons_of_mem _ h)
  have hown : s.vm.findClass RX0 = some m.cls := findClass_of_methodNamed B.named
  have hS : va_S (Af κ) s.heap s.heap [] := va_S.rf
  have hl := lv_entry ([.ref (y.2 0 0), .int (p1), .int (p2), .ref oa]) (n := 5) (Nat.le_of_ble_eq_true rfl)
  rw [lg_entry_eq]
  generalize (lg_sl ([.ref (y.2 0 0), .int (p1), .int (p2), .ref oa]) ++ List.replicate (5 - (lg_sl ([.ref (y.2 0 0), .int (p1), .int (p2), .ref oa])).length) Slot.unset).toArray = ls at hl ⊢
  have hl : lv_has ls 5 [(0, .ref (y.2 0 0)), (1, .int (p1)), (2, .int (p2)), (3, .ref oa)] := hl
  refine lv_aload_n hx hb dX0_company_0 rfl (lv_at hl 3 rfl) ?_
  refine lv_aload_n hx hb dX0_company_1 rfl (lv_at hl 0 rfl) ?_
  refine lv_iload_n hx hb dX0_company_2 rfl (lv_at hl 1 rfl) ?_
  refine lv_iload_n hx hb dX0_company_3 rfl (lv_at hl 2 rfl) ?_
  refine cew_qi (fw := fun u : Wd × Ly => u.1) (fy := fun u => u.2) (X := X) (L := []) (PB := fun (u : Wd × Ly) t => Rp κ u.1 u.2 (xl X []) [] t.heap ∧ WFc κ u.2) (BB := fun (u : Wd × Ly) => WFc κ u.2) (fun _ _ h => h) (crx_V (n := 2) (As := [.int (p1), .int (p2)]) (rest := [.ref oa]) ⟨hx, hb, hml, hown, hts⟩ hK hR (m_X1_company hfl hW l0 h) q1106 q1107 q1108 q74 q1109 rfl rfl hd_X1_company ⟨Nat.le_of_ble_eq_true rfl, Nat.le_of_ble_eq_true rfl⟩ (rv hK hR l0 (ci := 0) rfl rfl) rfl rfl hl.1 rfl (lv_room (Nat.le_of_ble_eq_true rfl)) dX0_company_4 ⟨(Nat.le_of_ble_eq_true rfl), (Nat.le_of_ble_eq_true rfl)⟩) hR hS (fun E ce9 q9 u H locs hp hR hS hcell hv9 hcl => ?_) (fun r u H locs h hB hR hS => ?_)
  · have hR := hR.xsame hX
    rcases hp with ⟨rfl, h⟩ | ⟨rfl, h⟩
    · refine vx_catch (name := "java/lang/IllegalArgumentException") hown [] ⟨0, 11, 14, 19⟩ [⟨0, 11, 18, 21⟩] htab (fun z9 hz9 => nomatch hz9) rfl (by decide) (hts _ q784) (va_Nw.use rfl (hK.2.1.2.2.1 _ (List.mem_of_getElem? (i := 14) rfl))) hcell hv9 hcl ?_
      refine lv_astore (lv' := [(4, .ref q9), (0, .ref (y.2 0 0)), (1, .int (p1)), (2, .int (p2)), (3, .ref oa)]) hx hb dX0_company_14 hl (by decide) rfl (fun ls hl => ?_)
      refine lv_iconst (v := (1 : Int32)) hx hb dX0_company_16 (by decide) ?_
      exact vx_ret (W.iret (v := (1 : Int32)) hx hb hr (fun t ht hW9 => ⟨⟨(1 : Int32), (u, y, n0), rfl, h, rpt ht hR, hW⟩, hS.F ht⟩) hS.2.2 dX0_company_17)
    · refine vx_catch (name := "java/lang/IllegalStateException") hown [⟨0, 11, 14, 19⟩] ⟨0, 11, 18, 21⟩ [] htab (fun z9 hz9 => by rcases List.mem_cons.mp hz9 with rfl | hz9; exact Or.inr ⟨by decide, _, hts _ q784, hK.2.1.2.2.2.2.2.2.2.2.2.2.2.2.2 _ (List.mem_of_getElem? (i := 2) rfl)⟩; exact (nomatch hz9)) rfl (by decide) (hts _ q785) (va_Nw.use rfl (hK.2.1.2.2.1 _ (List.mem_of_getElem? (i := 16) rfl))) hcell hv9 hcl ?_
      refine lv_astore (lv' := [(4, .ref q9), (0, .ref (y.2 0 0)), (1, .int (p1)), (2, .int (p2)), (3, .ref oa)]) hx hb dX0_company_18 hl (by decide) rfl (fun ls hl => ?_)
      refine lv_iconst (v := (2 : Int32)) hx hb dX0_company_20 (by decide) ?_
      exact vx_ret (W.iret (v := (2 : Int32)) hx hb hr (fun t ht hW9 => ⟨⟨(2 : Int32), (u, y, n0), rfl, h, rpt ht hR, hW⟩, hS.F ht⟩) hS.2.2 dX0_company_21)
  · refine lv_i2l hx hb dX0_company_7 rfl ?_
    refine xa_putN (T := TX9) (N := 3) (ref := "PublicanryLaw$Out") (host := "PublicanryLaw") hx hb hts in_X9 tyX9 tyX9_ok nmX9 hown hK.1 hS (hR.2.2.2.1 _ _ hX).2.1 (hR.2.2.2.1 _ _ hX).1 rfl 0 (by decide) (va_Nw.use rfl (hK.2.1.2.1 _ (List.mem_of_getElem? (i := 1) rfl))) rfl rfl rfl rfl (Nat.le_of_ble_eq_true rfl) dX0_company_8 (fun H1 locs h1 hz ho hS => ?_)
    have hR := hR.putXL hX h1 hz ho
    refine lv_goto (tgt := 22) hx hb dX0_company_11 (by decide) ?_
    refine lv_iconst (v := (0 : Int32)) hx hb dX0_company_22 (by decide) ?_
    exact vx_ret (W.iret (v := (0 : Int32)) hx hb hr (fun t ht hW9 => ⟨⟨(0 : Int32), (u.1, u.2, r.toInt64), rfl, h, rpt ht hR, hB⟩, hS.F ht⟩) hS.2.2 dX0_company_23)
abbrev rm_X0_join : Room := { frames := 9, cells := 5, slots := 30, locals := 202 }
def sp_X0_join (κ : Kx) (y : Ly) (post : Int32 → Int64 → Wd → Ly → Prop) (n0 : Int64) (w : Wd) (p1 : Int32) (p2 : Int32) : Prop := sp_X1_join κ y (fun r w y9 => post (0 : Int32) r.toInt64 w y9) (fun E w => (E = "java/lang/IndexOutOfBoundsException" ∧ post (1 : Int32) n0 w y) ∨ (E = "java/lang/IllegalArgumentException" ∧ post (2 : Int32) n0 w y) ∨ (E = "java/lang/IllegalStateException" ∧ post (3 : Int32) n0 w y)) w p1 p2
set_option maxHeartbeats 4000000 in
theorem m_X0_join {l : Launch} {κ : Kx} {y : Ly} {X : XR} {post : Int32 → Int64 → Wd → Ly → Prop} {w : Wd} {oa : Nat} {n0 : Int64} {dd : UInt64} {ss : Value} {p1 : Int32} {p2 : Int32} (hfl : l.stackTraces = false) (hW : WFc κ y) (l0 : live y 0 0) (hX : X oa (.inr (15, [.long n0, .double dd, ss]))) (h : sp_X0_join κ y post n0 w p1 p2) : vx_Met l yX0_join (wsW_ yX0_join cX0_join 5 (Option.some Jvm.ClassFile.FieldType.int) [(0, 11, 14, 27), (0, 11, 18, 19), (0, 11, 22, 21)]) rm_X0_join (va_Pc [.ref (y.2 0 0), .int (p1), .int (p2), .ref oa] (RC κ w y X)) (va_Qi (fun r (u : Wd × Ly × Int64) => post r u.2.2 u.1 u.2.1) (fun (u : Wd × Ly × Int64) t => Rp κ u.1 u.2.1 (upX X oa (.inr (15, [.long u.2.2, .double dd, ss]))) [] t.heap ∧ WFc κ u.2.1) (Af κ)) (XF κ) 5 30 (Af κ) := by
  unfold sp_X0_join at h
  refine vx_ofWH (cc := cX0_join) (maxL := 5) (ret := (Option.some Jvm.ClassFile.FieldType.int)) (hh := [(0, 11, 14, 27), (0, 11, 18, 19), (0, 11, 22, 21)]) (by decide) rfl ?_
  intro p e s m args below meth c s₁ B hml hv
  obtain ⟨rfl, hR, hK⟩ := hv
  have hx := B.exec
  have hb := B.bytes
  have hr := B.returns
  have hts := atoms_spec (ws := wsW_ yX0_join cX0_join 5 (Option.some Jvm.ClassFile.FieldType.int) [(0, 11, 14, 27), (0, 11, 18, 19), (0, 11, 22, 21)]) B.pre
  have htab : c.exceptionTable.toList = tableOf [(0, 11, 14, 27), (0, 11, 18, 19), (0, 11, 22, 21)] := vx_table (x := yX0_join) B (hts _ List.mem_cons_self)
  have hts : ∀ w ∈ lw_all, w.before _ s = true := fun w h => hts w (List.mem_cons_of_mem _ h)
  have hown : s.vm.findClass RX0 = some m.cls := findClass_of_methodNamed B.named
  have hS : va_S (Af κ) s.heap s.heap [] := va_S.rf
  have hl := lv_entry ([.ref (y.2 0 0), .int (p1), .int (p2), .ref oa]) (n := 5) (Nat.le_of_ble_eq_true rfl)
  rw [lg_entry_eq]
  generalize (lg_sl ([.ref (y.2 0 0), .int (p1), .int (p2), .ref oa]) ++ List.replicate (5 - (lg_sl ([.ref (y.2 0 0), .int (p1), .int (p2), .ref oa])).length) Slot.unset).toArray = ls at hl ⊢
  have hl : lv_has ls 5 [(0, .ref (y.2 0 0)), (1, .int (p1)), (2, .int (p2)), (3, .ref oa)] := hl
  refine lv_aload_n hx hb dX0_join_0 rfl (lv_at hl 3 rfl) ?_
  refine lv_aload_n hx hb dX0_join_1 rfl (lv_at hl 0 rfl) ?_
  refine lv_iload_n hx hb dX0_join_2 rfl (lv_at hl 1 rfl) ?_
  refine lv_iload_n hx hb dX0_join_3 rfl (lv_at hl 2 rfl) ?_
  refine cew_qi (fw := fun u : Wd × Ly => u.1) (fy := fun u => u.2) (X := X) (L := []) (PB := fun (u : Wd × Ly) t => Rp κ u.1 u.2 (xl X []) [] t.heap ∧ WFc κ u.2) (BB := fun (u : Wd × Ly) => WFc κ u.2) (fun _ _ h => h) (crx_V (n := 2) (As := [.int (p1), .int (p2)]) (rest := [.ref oa]) ⟨hx, hb, hml, hown, hts⟩ hK hR (m_X1_join hfl hW l0 h) q1172 q1173 q1174 q74 q1175 rfl rfl hd_X1_join ⟨Nat.le_of_ble_eq_true rfl, Nat.le_of_ble_eq_true rfl⟩ (rv hK hR l0 (ci := 0) rfl rfl) rfl rfl hl.1 rfl (lv_room (Nat.le_of_ble_eq_true rfl)) dX0_join_4 ⟨(Nat.le_of_ble_eq_true rfl), (Nat.le_of_ble_eq_true rfl)⟩) hR hS (fun E ce9 q9 u H locs hp hR hS hcell hv9 hcl => ?_) (fun r u H locs h hB hR hS => ?_)
  · have hR := hR.xsame hX
    rcases hp with ⟨rfl, h⟩ | ⟨rfl, h⟩ | ⟨rfl, h⟩
    · refine vx_catch (name := "java/lang/IndexOutOfBoundsException") hown [] ⟨0, 11, 14, 27⟩ [⟨0, 11, 18, 19⟩, ⟨0, 11, 22, 21⟩] htab (fun z9 hz9 => nomatch hz9) rfl (by decide) (hts _ q1006) (va_Nw.use rfl (hK.2.1.2.2.1 _ (List.mem_of_getElem? (i := 0) rfl))) hcell hv9 hcl ?_
      refine lv_astore (lv' := [(4, .ref q9), (0, .ref (y.2 0 0)), (1, .int (p1)), (2, .int (p2)), (3, .ref oa)]) hx hb dX0_join_14 hl (by decide) rfl (fun ls hl => ?_)
      refine lv_iconst (v := (1 : Int32)) hx hb dX0_join_16 (by decide) ?_
      exact vx_ret (W.iret (v := (1 : Int32)) hx hb hr (fun t ht hW9 => ⟨⟨(1 : Int32), (u, y, n0), rfl, h, rpt ht hR, hW⟩, hS.F ht⟩) hS.2.2 dX0_join_17)
    · refine vx_catch (name := "java/lang/IllegalArgumentException") hown [⟨0, 11, 14, 27⟩] ⟨0, 11, 18, 19⟩ [⟨0, 11, 22, 21⟩] htab (fun z9 hz9 => by rcases List.mem_cons.mp hz9 with rfl | hz9; exact Or.inr ⟨by decide, _, hts _ q1006, hK.2.1.2.2.2.2.2.2.2.2.2.2.2.2.2 _ (List.mem_of_getElem? (i := 0) rfl)⟩; exact (nomatch hz9)) rfl (by decide) (hts _ q784) (va_Nw.use rfl (hK.2.1.2.2.1 _ (List.mem_of_getElem? (i := 14) rfl))) hcell hv9 hcl ?_
      refine lv_astore (lv' := [(4, .ref q9), (0, .ref (y.2 0 0)), (1, .int (p1)), (2, .int (p2)), (3, .ref oa)]) hx hb dX0_join_18 hl (by decide) rfl (fun ls hl => ?_)
      refine lv_iconst (v := (2 : Int32)) hx hb dX0_join_20 (by decide) ?_
      exact vx_ret (W.iret (v := (2 : Int32)) hx hb hr (fun t ht hW9 => ⟨⟨(2 : Int32), (u, y, n0), rfl, h, rpt ht hR, hW⟩, hS.F ht⟩) hS.2.2 dX0_join_21)
    · refine vx_catch (name := "java/lang/IllegalStateException") hown [⟨0, 11, 14, 27⟩, ⟨0, 11, 18, 19⟩] ⟨0, 11, 22, 21⟩ [] htab (fun z9 hz9 => by rcases List.mem_cons.mp hz9 with rfl | hz9; exact Or.inr ⟨by decide, _, hts _ q1006, hK.2.1.2.2.2.2.2.2.2.2.2.2.2.2.2 _ (List.mem_of_getElem? (i := 1) rfl)⟩; rcases List.mem_cons.mp hz9 with rfl | hz9; exact Or.inr ⟨by decide, _, hts _ q784, hK.2.1.2.2.2.2.2.2.2.2.2.2.2.2.2 _ (List.mem_of_getElem? (i := 2) rfl)⟩; exact (nomatch hz9)) rfl (by decide) (hts _ q785) (va_Nw.use rfl (hK.2.1.2.2.1 _ (List.mem_of_getElem? (i := 16) rfl))) hcell hv9 hcl ?_
      refine lv_astore (lv' := [(4, .ref q9), (0, .ref (y.2 0 0)), (1, .int (p1)), (2, .int (p2)), (3, .ref oa)]) hx hb dX0_join_22 hl (by decide) rfl (fun ls hl => ?_)
      refine lv_iconst (v := (3 : Int32)) hx hb dX0_join_24 (by decide) ?_
      exact vx_ret (W.iret (v := (3 : Int32)) hx hb hr (fun t ht hW9 => ⟨⟨(3 : Int32), (u, y, n0), rfl, h, rpt ht hR, hW⟩, hS.F ht⟩) hS.2.2 dX0_join_25)
  · refine lv_i2l hx hb dX0_join_7 rfl ?_
    refine xa_putN (T := TX9) (N := 3) (ref := "PublicanryLaw$Out") (host := "PublicanryLaw") hx hb hts in_X9 tyX9 tyX9_ok nmX9 hown hK.1 hS (hR.2.2.2.1 _ _ hX).2.1 (hR.2.2.2.1 _ _ hX).1 rfl 0 (by decide) (va_Nw.use rfl (hK.2.1.2.1 _ (List.mem_of_getElem? (i := 1) rfl))) rfl rfl rfl rfl (Nat.le_of_ble_eq_true rfl) dX0_join_8 (fun H1 locs h1 hz ho hS => ?_)
    have hR := hR.putXL hX h1 hz ho
    refine lv_goto (tgt := 26) hx hb dX0_join_11 (by decide) ?_
    refine lv_iconst (v := (0 : Int32)) hx hb dX0_join_26 (by decide) ?_
    exact vx_ret (W.iret (v := (0 : Int32)) hx hb hr (fun t ht hW9 => ⟨⟨(0 : Int32), (u.1, u.2, r.toInt64), rfl, h, rpt ht hR, hB⟩, hS.F ht⟩) hS.2.2 dX0_join_27)
abbrev rm_X0_shareOut : Room := { frames := 9, cells := 5, slots := 27, locals := 164 }
def sp_X0_shareOut (κ : Kx) (y : Ly) (post : Int32 → Int64 → Wd → Prop) (n0 : Int64) (w : Wd) (p1 : Int32) (p2 : Int32) : Prop := sp_X1_shareOut κ y (fun r w => post (0 : Int32) r.toInt64 w) (fun E w => (E = "java/lang/IndexOutOfBoundsException" ∧ post (1 : Int32) n0 w) ∨ (E = "java/lang/IllegalArgumentException" ∧ post (2 : Int32) n0 w) ∨ (E = "java/lang/IllegalStateException" ∧ post (3 : Int32) n0 w)) w p1 p2
set_option maxHeartbeats 4000000 in
theorem m_X0_shareOut {l : Launch} {κ : Kx} {y : Ly} {X : XR} {post : Int32 → Int64 → Wd → Prop} {w : Wd} {oa : Nat} {n0 : Int64} {dd : UInt64} {ss : Value} {p1 : Int32} {p2 : Int32} (hfl : l.stackTraces = false) (hW : WFc κ y) (l0 : live y 0 0) (hX : X oa (.inr (15, [.long n0, .double dd, ss]))) (h : sp_X0_shareOut κ y post n0 w p1 p2) : vx_Met l yX0_shareOut (wsW_ yX0_shareOut cX0_shareOut 5 (Option.some Jvm.ClassFile.FieldType.int) [(0, 11, 14, 27), (0, 11, 18, 19), (0, 11, 22, 21)]) rm_X0_shareOut (va_Pc [.ref (y.2 0 0), .int (p1), .int (p2), .ref oa] (RC κ w y X)) (va_Qi (fun r (u : Wd × Int64) => post r u.2 u.1) (fun (u : Wd × Int64) t => Rp κ u.1 y (upX X oa (.inr (15, [.long u.2, .double dd, ss]))) [] t.heap) (Af κ)) (XF κ) 5 27 (Af κ) := by
  unfold sp_X0_shareOut at h
  refine vx_ofWH (cc := cX0_shareOut) (maxL := 5) (ret := (Option.some Jvm.ClassFile.FieldType.int)) (hh := [(0, 11, 14, 27), (0, 11, 18, 19), (0, 11, 22, 21)]) (by decide) rfl ?_
  intro p e s m args below meth c s₁ B hml hv
  obtain ⟨rfl, hR, hK⟩ := hv
  have hx := B.exec
  have hb := B.bytes
  have hr := B.returns
  have hts := atoms_spec (ws := wsW_ yX0_shareOut cX0_shareOut 5 (Option.some Jvm.ClassFile.FieldType.int) [(0, 11, 14, 27), (0, 11, 18, 19), (0, 11, 22, 21)]) B.pre
  have htab : c.exceptionTable.toList = tableOf [(0, 11, 14, 27), (0, 11, 18, 19), (0, 11, 22, 21)] := vx_table (x := yX0_shareOut) B (hts _ List.mem_cons_self)
  have hts : ∀ w ∈ lw_all, w.before _ s = true := fun w h => hts w (List.mem_cons_of_mem _ h)
  have hown : s.vm.findClass RX0 = some m.cls := findClass_of_methodNamed B.named
  have hS : va_S (Af κ) s.heap s.heap [] := va_S.rf
  have hl := lv_entry ([.ref (y.2 0 0), .int (p1), .int (p2), .ref oa]) (n := 5) (Nat.le_of_ble_eq_true rfl)
  rw [lg_entry_eq]
  generalize (lg_sl ([.ref (y.2 0 0), .int (p1), .int (p2), .ref oa]) ++ List.replicate (5 - (lg_sl ([.ref (y.2 0 0), .int (p1), .int (p2), .ref oa])).length) Slot.unset).toArray = ls at hl ⊢
  have hl : lv_has ls 5 [(0, .ref (y.2 0 0)), (1, .int (p1)), (2, .int (p2)), (3, .ref oa)] := hl
  refine lv_aload_n hx hb dX0_shareOut_0 rfl (lv_at hl 3 rfl) ?_
  refine lv_aload_n hx hb dX0_shareOut_1 rfl (lv_at hl 0 rfl) ?_
  refine lv_iload_n hx hb dX0_shareOut_2 rfl (lv_at hl 1 rfl) ?_
  refine lv_iload_n hx hb dX0_shareOut_3 rfl (lv_at hl 2 rfl) ?_
  refine cew_qi (fw := fun u => u) (fy := fun _ => y) (X := X) (L := []) (BB := fun _ => True) (fun _ _ h => ⟨h, trivial⟩) (crx_V (n := 2) (As := [.int (p1), .int (p2)]) (rest := [.ref oa]) ⟨hx, hb, hml, hown, hts⟩ hK hR (m_X1_shareOut hfl hW l0 h) q1199 q1200 q1201 q74 q1202 rfl rfl hd_X1_shareOut ⟨Nat.le_of_ble_eq_true rfl, Nat.le_of_ble_eq_true rfl⟩ (rv hK hR l0 (ci := 0) rfl rfl) rfl rfl hl.1 rfl (lv_room (Nat.le_of_ble_eq_true rfl)) dX0_shareOut_4 ⟨(Nat.le_of_ble_eq_true rfl), (Nat.le_of_ble_eq_true rfl)⟩) hR hS (fun E ce9 q9 u H locs hp hR hS hcell hv9 hcl => ?_) (fun r u H locs h hB hR hS => ?_)
  · have hR := hR.xsame hX
    rcases hp with ⟨rfl, h⟩ | ⟨rfl, h⟩ | ⟨rfl, h⟩
    · refine vx_catch (name := "java/lang/IndexOutOfBoundsException") hown [] ⟨0, 11, 14, 27⟩ [⟨0, 11, 18, 19⟩, ⟨0, 11, 22, 21⟩] htab (fun z9 hz9 => nomatch hz9) rfl (by decide) (hts _ q1006) (va_Nw.use rfl (hK.2.1.2.2.1 _ (List.mem_of_getElem? (i := 0) rfl))) hcell hv9 hcl ?_
      refine lv_astore (lv' := [(4, .ref q9), (0, .ref (y.2 0 0)), (1, .int (p1)), (2, .int (p2)), (3, .ref oa)]) hx hb dX0_shareOut_14 hl (by decide) rfl (fun ls hl => ?_)
      refine lv_iconst (v := (1 : Int32)) hx hb dX0_shareOut_16 (by decide) ?_
      exact vx_ret (W.iret (v := (1 : Int32)) hx hb hr (fun t ht hW9 => ⟨⟨(1 : Int32), (u, n0), rfl, h, rpt ht hR⟩, hS.F ht⟩) hS.2.2 dX0_shareOut_17)
    · refine vx_catch (name := "java/lang/IllegalArgumentException") hown [⟨0, 11, 14, 27⟩] ⟨0, 11, 18, 19⟩ [⟨0, 11, 22, 21⟩] htab (fun z9 hz9 => by rcases List.mem_cons.mp hz9 with rfl | hz9; exact Or.inr ⟨by decide, _, hts _ q1006, hK.2.1.2.2.2.2.2.2.2.2.2.2.2.2.2 _ (List.mem_of_getElem? (i := 0) rfl)⟩; exact (nomatch hz9)) rfl (by decide) (hts _ q784) (va_Nw.use rfl (hK.2.1.2.2.1 _ (List.mem_of_getElem? (i := 14) rfl))) hcell hv9 hcl ?_
      refine lv_astore (lv' := [(4, .ref q9), (0, .ref (y.2 0 0)), (1, .int (p1)), (2, .int (p2)), (3, .ref oa)]) hx hb dX0_shareOut_18 hl (by decide) rfl (fun ls hl => ?_)
      refine lv_iconst (v := (2 : Int32)) hx hb dX0_shareOut_20 (by decide) ?_
      exact vx_ret (W.iret (v := (2 : Int32)) hx hb hr (fun t ht hW9 => ⟨⟨(2 : Int32), (u, n0), rfl, h, rpt ht hR⟩, hS.F ht⟩) hS.2.2 dX0_shareOut_21)
    · refine vx_catch (name := "java/lang/IllegalStateException") hown [⟨0, 11, 14, 27⟩, ⟨0, 11, 18, 19⟩] ⟨0, 11, 22, 21⟩ [] htab (fun z9 hz9 => by rcases List.mem_cons.mp hz9 with rfl | hz9; exact Or.inr ⟨by decide, _, hts _ q1006, hK.2.1.2.2.2.2.2.2.2.2.2.2.2.2.2 _ (List.mem_of_getElem? (i := 1) rfl)⟩; rcases List.mem_cons.mp hz9 with rfl | hz9; exact Or.inr ⟨by decide, _, hts _ q784, hK.2.1.2.2.2.2.2.2.2.2.2.2.2.2.2 _ (List.mem_of_getElem? (i := 2) rfl)⟩; exact (nomatch hz9)) rfl (by decide) (hts _ q785) (va_Nw.use rfl (hK.2.1.2.2.1 _ (List.mem_of_getElem? (i := 16) rfl))) hcell hv9 hcl ?_
      refine lv_astore (lv' := [(4, .ref q9), (0, .ref (y.2 0 0)), (1, .int (p1)), (2, .int (p2)), (3, .ref oa)]) hx hb dX0_shareOut_22 hl (by decide) rfl (fun ls hl => ?_)
      refine lv_iconst (v := (3 : Int32)) hx hb dX0_shareOut_24 (by decide) ?_
      exact vx_ret (W.iret (v := (3 : Int32)) hx hb hr (fun t ht hW9 => ⟨⟨(3 : Int32), (u, n0), rfl, h, rpt ht hR⟩, hS.F ht⟩) hS.2.2 dX0_shareOut_25)
  · refine lv_i2l hx hb dX0_shareOut_7 rfl ?_
    refine xa_putN (T := TX9) (N := 3) (ref := "PublicanryLaw$Out") (host := "PublicanryLaw") hx hb hts in_X9 tyX9 tyX9_ok nmX9 hown hK.1 hS (hR.2.2.2.1 _ _ hX).2.1 (hR.2.2.2.1 _ _ hX).1 rfl 0 (by decide) (va_Nw.use rfl (hK.2.1.2.1 _ (List.mem_of_getElem? (i := 1) rfl))) rfl rfl rfl rfl (Nat.le_of_ble_eq_true rfl) dX0_shareOut_8 (fun H1 locs h1 hz ho hS => ?_)
    have hR := hR.putXL hX h1 hz ho
    refine lv_goto (tgt := 26) hx hb dX0_shareOut_11 (by decide) ?_
    refine lv_iconst (v := (0 : Int32)) hx hb dX0_shareOut_26 (by decide) ?_
    exact vx_ret (W.iret (v := (0 : Int32)) hx hb hr (fun t ht hW9 => ⟨⟨(0 : Int32), (u, r.toInt64), rfl, h, rpt ht hR⟩, hS.F ht⟩) hS.2.2 dX0_shareOut_27)
abbrev rm_X0_ring : Room := { frames := 9, cells := 2, slots := 12, locals := 165 }
def sp_X0_ring (κ : Kx) (y : Ly) (post : Int32 → Int64 → Wd → Prop) (n0 : Int64) (w : Wd) (p1 : Int32) (p2 : Int32) : Prop := sp_X1_ring κ y (fun r w => post (0 : Int32) r.toInt64 w) (fun E w => (E = "java/lang/IndexOutOfBoundsException" ∧ post (1 : Int32) n0 w) ∨ (E = "java/lang/IllegalArgumentException" ∧ post (2 : Int32) n0 w)) w p1 p2
set_option maxHeartbeats 4000000 in
theorem m_X0_ring {l : Launch} {κ : Kx} {y : Ly} {X : XR} {post : Int32 → Int64 → Wd → Prop} {w : Wd} {oa : Nat} {n0 : Int64} {dd : UInt64} {ss : Value} {p1 : Int32} {p2 : Int32} (hfl : l.stackTraces = false) (hW : WFc κ y) (l0 : live y 0 0) (hX : X oa (.inr (15, [.long n0, .double dd, ss]))) (h : sp_X0_ring κ y post n0 w p1 p2) : vx_Met l yX0_ring (wsW_ yX0_ring cX0_ring 5 (Option.some Jvm.ClassFile.FieldType.int) [(0, 11, 14, 27), (0, 11, 18, 19)]) rm_X0_ring (va_Pc [.ref (y.2 0 0), .int (p1), .int (p2), .ref oa] (RC κ w y X)) (va_Qi (fun r (u : Wd × Int64) => post r u.2 u.1) (fun (u : Wd × Int64) t => Rp κ u.1 y (upX X oa (.inr (15, [.long u.2, .double dd, ss]))) [] t.heap) (Af κ)) (XF κ) 2 12 (Af κ) := by
  unfold sp_X0_ring at h
  refine vx_ofWH (cc := cX0_ring) (maxL := 5) (ret := (Option.some Jvm.ClassFile.FieldType.int)) (hh := [(0, 11, 14, 27), (0, 11, 18, 19)]) (by decide) rfl ?_
  intro p e s m args below meth c s₁ B hml hv
  obtain ⟨rfl, hR, hK⟩ := hv
  have hx := B.exec
  have hb := B.bytes
  have hr := B.returns
  have hts := atoms_spec (ws := wsW_ yX0_ring cX0_ring 5 (Option.some Jvm.ClassFile.FieldType.int) [(0, 11, 14, 27), (0, 11, 18, 19)]) B.pre
  have htab : c.exceptionTable.toList = tableOf [(0, 11, 14, 27), (0, 11, 18, 19)] := vx_table (x := yX0_ring) B (hts _ List.mem_cons_self)
  have hts : ∀ w ∈ lw_all, w.before _ s = true := fun w h => hts w (List.mem_cons_of_mem _ h)
  have hown : s.vm.findClass RX0 = some m.cls := findClass_of_methodNamed B.named
  have hS : va_S (Af κ) s.heap s.heap [] := va_S.rf
  have hl := lv_entry ([.ref (y.2 0 0), .int (p1), .int (p2), .ref oa]) (n := 5) (Nat.le_of_ble_eq_true rfl)
  rw [lg_entry_eq]
  generalize (lg_sl ([.ref (y.2 0 0), .int (p1), .int (p2), .ref oa]) ++ List.replicate (5 - (lg_sl ([.ref (y.2 0 0), .int (p1), .int (p2), .ref oa])).length) Slot.unset).toArray = ls at hl ⊢
  have hl : lv_has ls 5 [(0, .ref (y.2 0 0)), (1, .int (p1)), (2, .int (p2)), (3, .ref oa)] := hl
  refine lv_aload_n hx hb dX0_ring_0 rfl (lv_at hl 3 rfl) ?_
  refine lv_aload_n hx hb dX0_ring_1 rfl (lv_at hl 0 rfl) ?_
  refine lv_iload_n hx hb dX0_ring_2 rfl (lv_at hl 1 rfl) ?_
  refine lv_iload_n hx hb dX0_ring_3 rfl (lv_at hl 2 rfl) ?_
  refine cew_qi (fw := fun u => u) (fy := fun _ => y) (X := X) (L := []) (BB := fun _ => True) (fun _ _ h => ⟨h, trivial⟩) (crx_V (n := 2) (As := [.int (p1), .int (p2)]) (rest := [.ref oa]) ⟨hx, hb, hml, hown, hts⟩ hK hR (m_X1_ring hfl hW l0 h) q1233 q1234 q1235 q74 q1236 rfl rfl hd_X1_ring ⟨Nat.le_of_ble_eq_true rfl, Nat.le_of_ble_eq_true rfl⟩ (rv hK hR l0 (ci := 0) rfl rfl) rfl rfl hl.1 rfl (lv_room (Nat.le_of_ble_eq_true rfl)) dX0_ring_4 ⟨(Nat.le_of_ble_eq_true rfl), (Nat.le_of_ble_eq_true rfl)⟩) hR hS (fun E ce9 q9 u H locs hp hR hS hcell hv9 hcl => ?_) (fun r u H locs h hB hR hS => ?_)
  · have hR := hR.xsame hX
    rcases hp with ⟨rfl, h⟩ | ⟨rfl, h⟩
    · refine vx_catch (name := "java/lang/IndexOutOfBoundsException") hown [] ⟨0, 11, 14, 27⟩ [⟨0, 11, 18, 19⟩] htab (fun z9 hz9 => nomatch hz9) rfl (by decide) (hts _ q1006) (va_Nw.use rfl (hK.2.1.2.2.1 _ (List.mem_of_getElem? (i := 0) rfl))) hcell hv9 hcl ?_
      refine lv_astore (lv' := [(4, .ref q9), (0, .ref (y.2 0 0)), (1, .int (p1)), (2, .int (p2)), (3, .ref oa)]) hx hb dX0_ring_14 hl (by decide) rfl (fun ls hl => ?_)
      refine lv_iconst (v := (1 : Int32)) hx hb dX0_ring_16 (by decide) ?_
      exact vx_ret (W.iret (v := (1 : Int32)) hx hb hr (fun t ht hW9 => ⟨⟨(1 : Int32), (u, n0), rfl, h, rpt ht hR⟩, hS.F ht⟩) hS.2.2 dX0_ring_17)
    · refine vx_catch (name := "java/lang/IllegalArgumentException") hown [⟨0, 11, 14, 27⟩] ⟨0, 11, 18, 19⟩ [] htab (fun z9 hz9 => by rcases List.mem_cons.mp hz9 with rfl | hz9; exact Or.inr ⟨by decide, _, hts _ q1006, hK.2.1.2.2.2.2.2.2.2.2.2.2.2.2.2 _ (List.mem_of_getElem? (i := 0) rfl)⟩; exact (nomatch hz9)) rfl (by decide) (hts _ q784) (va_Nw.use rfl (hK.2.1.2.2.1 _ (List.mem_of_getElem? (i := 14) rfl))) hcell hv9 hcl ?_
      refine lv_astore (lv' := [(4, .ref q9), (0, .ref (y.2 0 0)), (1, .int (p1)), (2, .int (p2)), (3, .ref oa)]) hx hb dX0_ring_18 hl (by decide) rfl (fun ls hl => ?_)
      refine lv_iconst (v := (2 : Int32)) hx hb dX0_ring_20 (by decide) ?_
      exact vx_ret (W.iret (v := (2 : Int32)) hx hb hr (fun t ht hW9 => ⟨⟨(2 : Int32), (u, n0), rfl, h, rpt ht hR⟩, hS.F ht⟩) hS.2.2 dX0_ring_21)
  · refine lv_i2l hx hb dX0_ring_7 rfl ?_
    refine xa_putN (T := TX9) (N := 3) (ref := "PublicanryLaw$Out") (host := "PublicanryLaw") hx hb hts in_X9 tyX9 tyX9_ok nmX9 hown hK.1 hS (hR.2.2.2.1 _ _ hX).2.1 (hR.2.2.2.1 _ _ hX).1 rfl 0 (by decide) (va_Nw.use rfl (hK.2.1.2.1 _ (List.mem_of_getElem? (i := 1) rfl))) rfl rfl rfl rfl (Nat.le_of_ble_eq_true rfl) dX0_ring_8 (fun H1 locs h1 hz ho hS => ?_)
    have hR := hR.putXL hX h1 hz ho
    refine lv_goto (tgt := 22) hx hb dX0_ring_11 (by decide) ?_
    refine lv_iconst (v := (0 : Int32)) hx hb dX0_ring_22 (by decide) ?_
    exact vx_ret (W.iret (v := (0 : Int32)) hx hb hr (fun t ht hW9 => ⟨⟨(0 : Int32), (u, r.toInt64), rfl, h, rpt ht hR⟩, hS.F ht⟩) hS.2.2 dX0_ring_23)
abbrev rm_X0_lot : Room := { frames := 9, cells := 9, slots := 62, locals := 205 }
def sp_X0_lot (κ : Kx) (y : Ly) (post : Int32 → Int64 → Wd → Ly → Prop) (n0 : Int64) (w : Wd) (p1 : Int32) (p2 : Int32) (p3 : Int32) (p4 : Int32) : Prop := sp_X1_lot κ y (fun r w y9 => post (0 : Int32) r.toInt64 w y9) (fun E w => (E = "java/lang/IndexOutOfBoundsException" ∧ post (1 : Int32) n0 w y) ∨ (E = "java/lang/IllegalArgumentException" ∧ post (2 : Int32) n0 w y) ∨ (E = "java/lang/IllegalStateException" ∧ post (3 : Int32) n0 w y)) w p1 p2 p3 p4
set_option maxHeartbeats 4000000 in
theorem m_X0_lot {l : Launch} {κ : Kx} {y : Ly} {X : XR} {post : Int32 → Int64 → Wd → Ly → Prop} {w : Wd} {oa : Nat} {n0 : Int64} {dd : UInt64} {ss : Value} {p1 : Int32} {p2 : Int32} {p3 : Int32} {p4 : Int32} (hfl : l.stackTraces = false) (hW : WFc κ y) (l0 : live y 0 0) (hX : X oa (.inr (15, [.long n0, .double dd, ss]))) (h : sp_X0_lot κ y post n0 w p1 p2 p3 p4) : vx_Met l yX0_lot (wsW_ yX0_lot cX0_lot 7 (Option.some Jvm.ClassFile.FieldType.int) [(0, 15, 18, 27), (0, 15, 22, 19), (0, 15, 26, 21)]) rm_X0_lot (va_Pc [.ref (y.2 0 0), .int (p1), .int (p2), .int (p3), .int (p4), .ref oa] (RC κ w y X)) (va_Qi (fun r (u : Wd × Ly × Int64) => post r u.2.2 u.1 u.2.1) (fun (u : Wd × Ly × Int64) t => Rp κ u.1 u.2.1 (upX X oa (.inr (15, [.long u.2.2, .double dd, ss]))) [] t.heap ∧ WFc κ u.2.1) (Af κ)) (XF κ) 9 62 (Af κ) := by
  unfold sp_X0_lot at h
  refine vx_ofWH (cc := cX0_lot) (maxL := 7) (ret := (Option.some Jvm.ClassFile.FieldType.int)) (hh := [(0, 15, 18, 27), (0, 15, 22, 19), (0, 15, 26, 21)]) (by decide) rfl ?_
  intro p e s m args below meth c s₁ B hml hv
  obtain ⟨rfl, hR, hK⟩ := hv
  have hx := B.exec
  have hb := B.bytes
  have hr := B.returns
  have hts := atoms_spec (ws := wsW_ yX0_lot cX0_lot 7 (Option.some Jvm.ClassFile.FieldType.int) [(0, 15, 18, 27), (0, 15, 22, 19), (0, 15, 26, 21)]) B.pre
  have htab : c.exceptionTable.toList = tableOf [(0, 15, 18, 27), (0, 15, 22, 19), (0, 15, 26, 21)] := vx_table (x := yX0_lot) B (hts _ List.mem_cons_self)
  have hts : ∀ w ∈ lw_all, w.before _ s = true := fun w h => hts w (List.mem_cons_of_mem _ h)
  have hown : s.vm.findClass RX0 = some m.cls := findClass_of_methodNamed B.named
  have hS : va_S (Af κ) s.heap s.heap [] := va_S.rf
  have hl := lv_entry ([.ref (y.2 0 0), .int (p1), .int (p2), .int (p3), .int (p4), .ref oa]) (n := 7) (Nat.le_of_ble_eq_true rfl)
  rw [lg_entry_eq]
  generalize (lg_sl ([.ref (y.2 0 0), .int (p1), .int (p2), .int (p3), .int (p4), .ref oa]) ++ List.replicate (7 - (lg_sl ([.ref (y.2 0 0), .int (p1), .int (p2), .int (p3), .int (p4), .ref oa])).length) Slot.unset).toArray = ls at hl ⊢
  have hl : lv_has ls 7 [(0, .ref (y.2 0 0)), (1, .int (p1)), (2, .int (p2)), (3, .int (p3)), (4, .int (p4)), (5, .ref oa)] := hl
  refine lv_aload hx hb dX0_lot_0 (lv_at hl 5 rfl) ?_
  refine lv_aload_n hx hb dX0_lot_2 rfl (lv_at hl 0 rfl) ?_
  refine lv_iload_n hx hb dX0_lot_3 rfl (lv_at hl 1 rfl) ?_
  refine lv_iload_n hx hb dX0_lot_4 rfl (lv_at hl 2 rfl) ?_
  refine lv_iload_n hx hb dX0_lot_5 rfl (lv_at hl 3 rfl) ?_
  refine lv_iload hx hb dX0_lot_6 (lv_at hl 4 rfl) ?_
  refine cew_qi (fw := fun u : Wd × Ly => u.1) (fy := fun u => u.2) (X := X) (L := []) (PB := fun (u : Wd × Ly) t => Rp κ u.1 u.2 (xl X []) [] t.heap ∧ WFc κ u.2) (BB := fun (u : Wd × Ly) => WFc κ u.2) (fun _ _ h => h) (crx_V (n := 4) (As := [.int (p1), .int (p2), .int (p3), .int (p4)]) (rest := [.ref oa]) ⟨hx, hb, hml, hown, hts⟩ hK hR (m_X1_lot hfl hW l0 h) q1241 q1242 q1243 q74 q1244 rfl rfl hd_X1_lot ⟨Nat.le_of_ble_eq_true rfl, Nat.le_of_ble_eq_true rfl⟩ (rv hK hR l0 (ci := 0) rfl rfl) rfl rfl hl.1 rfl (lv_room (Nat.le_of_ble_eq_true rfl)) dX0_lot_8 ⟨(Nat.le_of_ble_eq_true rfl), (Nat.le_of_ble_eq_true rfl)⟩) hR hS (fun E ce9 q9 u H locs hp hR hS hcell hv9 hcl => ?_) (fun r u H locs h hB hR hS => ?_)
  · have hR := hR.xsame hX
    rcases hp with ⟨rfl, h⟩ | ⟨rfl, h⟩ | ⟨rfl, h⟩
    · refine vx_catch (name := "java/lang/IndexOutOfBoundsException") hown [] ⟨0, 15, 18, 27⟩ [⟨0, 15, 22, 19⟩, ⟨0, 15, 26, 21⟩] htab (fun z9 hz9 => nomatch hz9) rfl (by decide) (hts _ q1006) (va_Nw.use rfl (hK.2.1.2.2.1 _ (List.mem_of_getElem? (i := 0) rfl))) hcell hv9 hcl ?_
      refine lv_astore (lv' := [(6, .ref q9), (0, .ref (y.2 0 0)), (1, .int (p1)), (2, .int (p2)), (3, .int (p3)), (4, .int (p4)), (5, .ref oa)]) hx hb dX0_lot_18 hl (by decide) rfl (fun ls hl => ?_)
      refine lv_iconst (v := (1 : Int32)) hx hb dX0_lot_20 (by decide) ?_
      exact vx_ret (W.iret (v := (1 : Int32)) hx hb hr (fun t ht hW9 => ⟨⟨(1 : Int32), (u, y, n0), rfl, h, rpt ht hR, hW⟩, hS.F ht⟩) hS.2.2 dX0_lot_21)
    · refine vx_catch (name := "java/lang/IllegalArgumentException") hown [⟨0, 15, 18, 27⟩] ⟨0, 15, 22, 19⟩ [⟨0, 15, 26, 21⟩] htab (fun z9 hz9 => by rcases List.mem_cons.mp hz9 with rfl | hz9; exact Or.inr ⟨by decide, _, hts _ q1006, hK.2.1.2.2.2.2.2.2.2.2.2.2.2.2.2 _ (List.mem_of_getElem? (i := 0) rfl)⟩; exact (nomatch hz9)) rfl (by decide) (hts _ q784) (va_Nw.use rfl (hK.2.1.2.2.1 _ (List.mem_of_getElem? (i := 14) rfl))) hcell hv9 hcl ?_
      refine lv_astore (lv' := [(6, .ref q9), (0, .ref (y.2 0 0)), (1, .int (p1)), (2, .int (p2)), (3, .int (p3)), (4, .int (p4)), (5, .ref oa)]) hx hb dX0_lot_22 hl (by decide) rfl (fun ls hl => ?_)
      refine lv_iconst (v := (2 : Int32)) hx hb dX0_lot_24 (by decide) ?_
      exact vx_ret (W.iret (v := (2 : Int32)) hx hb hr (fun t ht hW9 => ⟨⟨(2 : Int32), (u, y, n0), rfl, h, rpt ht hR, hW⟩, hS.F ht⟩) hS.2.2 dX0_lot_25)
    · refine vx_catch (name := "java/lang/IllegalStateException") hown [⟨0, 15, 18, 27⟩, ⟨0, 15, 22, 19⟩] ⟨0, 15, 26, 21⟩ [] htab (fun z9 hz9 => by rcases List.mem_cons.mp hz9 with rfl | hz9; exact Or.inr ⟨by decide, _, hts _ q1006, hK.2.1.2.2.2.2.2.2.2.2.2.2.2.2.2 _ (List.mem_of_getElem? (i := 1) rfl)⟩; rcases List.mem_cons.mp hz9 with rfl | hz9; exact Or.inr ⟨by decide, _, hts _ q784, hK.2.1.2.2.2.2.2.2.2.2.2.2.2.2.2 _ (List.mem_of_getElem? (i := 2) rfl)⟩; exact (nomatch hz9)) rfl (by decide) (hts _ q785) (va_Nw.use rfl (hK.2.1.2.2.1 _ (List.mem_of_getElem? (i := 16) rfl))) hcell hv9 hcl ?_
      refine lv_astore (lv' := [(6, .ref q9), (0, .ref (y.2 0 0)), (1, .int (p1)), (2, .int (p2)), (3, .int (p3)), (4, .int (p4)), (5, .ref oa)]) hx hb dX0_lot_26 hl (by decide) rfl (fun ls hl => ?_)
      refine lv_iconst (v := (3 : Int32)) hx hb dX0_lot_28 (by decide) ?_
      exact vx_ret (W.iret (v := (3 : Int32)) hx hb hr (fun t ht hW9 => ⟨⟨(3 : Int32), (u, y, n0), rfl, h, rpt ht hR, hW⟩, hS.F ht⟩) hS.2.2 dX0_lot_29)
  · refine lv_i2l hx hb dX0_lot_11 rfl ?_
    refine xa_putN (T := TX9) (N := 3) (ref := "PublicanryLaw$Out") (host := "PublicanryLaw") hx hb hts in_X9 tyX9 tyX9_ok nmX9 hown hK.1 hS (hR.2.2.2.1 _ _ hX).2.1 (hR.2.2.2.1 _ _ hX).1 rfl 0 (by decide) (va_Nw.use rfl (hK.2.1.2.1 _ (List.mem_of_getElem? (i := 1) rfl))) rfl rfl rfl rfl (Nat.le_of_ble_eq_true rfl) dX0_lot_12 (fun H1 locs h1 hz ho hS => ?_)
    have hR := hR.putXL hX h1 hz ho
    refine lv_goto (tgt := 30) hx hb dX0_lot_15 (by decide) ?_
    refine lv_iconst (v := (0 : Int32)) hx hb dX0_lot_30 (by decide) ?_
    exact vx_ret (W.iret (v := (0 : Int32)) hx hb hr (fun t ht hW9 => ⟨⟨(0 : Int32), (u.1, u.2, r.toInt64), rfl, h, rpt ht hR, hB⟩, hS.F ht⟩) hS.2.2 dX0_lot_31)
abbrev rm_X0_bid : Room := { frames := 9, cells := 4, slots := 24, locals := 166 }
def sp_X0_bid (κ : Kx) (y : Ly) (post : Int32 → Int64 → Wd → Prop) (n0 : Int64) (w : Wd) (p1 : Int32) (p2 : Int32) (p3 : Int32) : Prop := sp_X1_bid κ y (fun r w => post (0 : Int32) r.toInt64 w) (fun E w => (E = "java/lang/IndexOutOfBoundsException" ∧ post (1 : Int32) n0 w) ∨ (E = "java/lang/IllegalArgumentException" ∧ post (2 : Int32) n0 w) ∨ (E = "java/lang/IllegalStateException" ∧ post (3 : Int32) n0 w)) w p1 p2 p3
set_option maxHeartbeats 4000000 in
theorem m_X0_bid {l : Launch} {κ : Kx} {y : Ly} {X : XR} {post : Int32 → Int64 → Wd → Prop} {w : Wd} {oa : Nat} {n0 : Int64} {dd : UInt64} {ss : Value} {p1 : Int32} {p2 : Int32} {p3 : Int32} (hfl : l.stackTraces = false) (hW : WFc κ y) (l0 : live y 0 0) (hX : X oa (.inr (15, [.long n0, .double dd, ss]))) (h : sp_X0_bid κ y post n0 w p1 p2 p3) : vx_Met l yX0_bid (wsW_ yX0_bid cX0_bid 6 (Option.some Jvm.ClassFile.FieldType.int) [(0, 13, 16, 27), (0, 13, 20, 19), (0, 13, 24, 21)]) rm_X0_bid (va_Pc [.ref (y.2 0 0), .int (p1), .int (p2), .int (p3), .ref oa] (RC κ w y X)) (va_Qi (fun r (u : Wd × Int64) => post r u.2 u.1) (fun (u : Wd × Int64) t => Rp κ u.1 y (upX X oa (.inr (15, [.long u.2, .double dd, ss]))) [] t.heap) (Af κ)) (XF κ) 4 24 (Af κ) := by
  unfold sp_X0_bid at h
  refine vx_ofWH (cc := cX0_bid) (maxL := 6) (ret := (Option.some Jvm.ClassFile.FieldType.int)) (hh := [(0, 13, 16, 27), (0, 13, 20, 19), (0, 13, 24, 21)]) (by decide) rfl ?_
  intro p e s m args below meth c s₁ B hml hv
  obtain ⟨rfl, hR, hK⟩ := hv
  have hx := B.exec
  have hb := B.bytes
  have hr := B.returns
  have hts := atoms_spec (ws := wsW_ yX0_bid cX0_bid 6 (Option.some Jvm.ClassFile.FieldType.int) [(0, 13, 16, 27), (0, 13, 20, 19), (0, 13, 24, 21)]) B.pre
  have htab : c.exceptionTable.toList = tableOf [(0, 13, 16, 27), (0, 13, 20, 19), (0, 13, 24, 21)] := vx_table (x := yX0_bid) B (hts _ List.mem_cons_self)
  have hts : ∀ w ∈ lw_all, w.before _ s = true := fun w h => hts w (List.mem_cons_of_mem _ h)
  have hown : s.vm.findClass RX0 = some m.cls := findClass_of_methodNamed B.named
  have hS : va_S (Af κ) s.heap s.heap [] := va_S.rf
  have hl := lv_entry ([.ref (y.2 0 0), .int (p1), .int (p2), .int (p3), .ref oa]) (n := 6) (Nat.le_of_ble_eq_true rfl)
  rw [lg_entry_eq]
  generalize (lg_sl ([.ref (y.2 0 0), .int (p1), .int (p2), .int (p3), .ref oa]) ++ List.replicate (6 - (lg_sl ([.ref (y.2 0 0), .int (p1), .int (p2), .int (p3), .ref oa])).length) Slot.unset).toArray = ls at hl ⊢
  have hl : lv_has ls 6 [(0, .ref (y.2 0 0)), (1, .int (p1)), (2, .int (p2)), (3, .int (p3)), (4, .ref oa)] := hl
  refine lv_aload hx hb dX0_bid_0 (lv_at hl 4 rfl) ?_
  refine lv_aload_n hx hb dX0_bid_2 rfl (lv_at hl 0 rfl) ?_
  refine lv_iload_n hx hb dX0_bid_3 rfl (lv_at hl 1 rfl) ?_
  refine lv_iload_n hx hb dX0_bid_4 rfl (lv_at hl 2 rfl) ?_
  refine lv_iload_n hx hb dX0_bid_5 rfl (lv_at hl 3 rfl) ?_
  refine cew_qi (fw := fun u => u) (fy := fun _ => y) (X := X) (L := []) (BB := fun _ => True) (fun _ _ h => ⟨h, trivial⟩) (crx_V (n := 3) (As := [.int (p1), .int (p2), .int (p3)]) (rest := [.ref oa]) ⟨hx, hb, hml, hown, hts⟩ hK hR (m_X1_bid hfl hW l0 h) q1313 q1314 q1315 q74 q1316 rfl rfl hd_X1_bid ⟨Nat.le_of_ble_eq_true rfl, Nat.le_of_ble_eq_true rfl⟩ (rv hK hR l0 (ci := 0) rfl rfl) rfl rfl hl.1 rfl (lv_room (Nat.le_of_ble_eq_true rfl)) dX0_bid_6 ⟨(Nat.le_of_ble_eq_true rfl), (Nat.le_of_ble_eq_true rfl)⟩) hR hS (fun E ce9 q9 u H locs hp hR hS hcell hv9 hcl => ?_) (fun r u H locs h hB hR hS => ?_)
  · have hR := hR.xsame hX
    rcases hp with ⟨rfl, h⟩ | ⟨rfl, h⟩ | ⟨rfl, h⟩
    · refine vx_catch (name := "java/lang/IndexOutOfBoundsException") hown [] ⟨0, 13, 16, 27⟩ [⟨0, 13, 20, 19⟩, ⟨0, 13, 24, 21⟩] htab (fun z9 hz9 => nomatch hz9) rfl (by decide) (hts _ q1006) (va_Nw.use rfl (hK.2.1.2.2.1 _ (List.mem_of_getElem? (i := 0) rfl))) hcell hv9 hcl ?_
      refine lv_astore (lv' := [(5, .ref q9), (0, .ref (y.2 0 0)), (1, .int (p1)), (2, .int (p2)), (3, .int (p3)), (4, .ref oa)]) hx hb dX0_bid_16 hl (by decide) rfl (fun ls hl => ?_)
      refine lv_iconst (v := (1 : Int32)) hx hb dX0_bid_18 (by decide) ?_
      exact vx_ret (W.iret (v := (1 : Int32)) hx hb hr (fun t ht hW9 => ⟨⟨(1 : Int32), (u, n0), rfl, h, rpt ht hR⟩, hS.F ht⟩) hS.2.2 dX0_bid_19)
    · refine vx_catch (name := "java/lang/IllegalArgumentException") hown [⟨0, 13, 16, 27⟩] ⟨0, 13, 20, 19⟩ [⟨0, 13, 24, 21⟩] htab (fun z9 hz9 => by rcases List.mem_cons.mp hz9 with rfl | hz9; exact Or.inr ⟨by decide, _, hts _ q1006, hK.2.1.2.2.2.2.2.2.2.2.2.2.2.2.2 _ (List.mem_of_getElem? (i := 0) rfl)⟩; exact (nomatch hz9)) rfl (by decide) (hts _ q784) (va_Nw.use rfl (hK.2.1.2.2.1 _ (List.mem_of_getElem? (i := 14) rfl))) hcell hv9 hcl ?_
      refine lv_astore (lv' := [(5, .ref q9), (0, .ref (y.2 0 0)), (1, .int (p1)), (2, .int (p2)), (3, .int (p3)), (4, .ref oa)]) hx hb dX0_bid_20 hl (by decide) rfl (fun ls hl => ?_)
      refine lv_iconst (v := (2 : Int32)) hx hb dX0_bid_22 (by decide) ?_
      exact vx_ret (W.iret (v := (2 : Int32)) hx hb hr (fun t ht hW9 => ⟨⟨(2 : Int32), (u, n0), rfl, h, rpt ht hR⟩, hS.F ht⟩) hS.2.2 dX0_bid_23)
    · refine vx_catch (name := "java/lang/IllegalStateException") hown [⟨0, 13, 16, 27⟩, ⟨0, 13, 20, 19⟩] ⟨0, 13, 24, 21⟩ [] htab (fun z9 hz9 => by rcases List.mem_cons.mp hz9 with rfl | hz9; exact Or.inr ⟨by decide, _, hts _ q1006, hK.2.1.2.2.2.2.2.2.2.2.2.2.2.2.2 _ (List.mem_of_getElem? (i := 1) rfl)⟩; rcases List.mem_cons.mp hz9 with rfl | hz9; exact Or.inr ⟨by decide, _, hts _ q784, hK.2.1.2.2.2.2.2.2.2.2.2.2.2.2.2 _ (List.mem_of_getElem? (i := 2) rfl)⟩; exact (nomatch hz9)) rfl (by decide) (hts _ q785) (va_Nw.use rfl (hK.2.1.2.2.1 _ (List.mem_of_getElem? (i := 16) rfl))) hcell hv9 hcl ?_
      refine lv_astore (lv' := [(5, .ref q9), (0, .ref (y.2 0 0)), (1, .int (p1)), (2, .int (p2)), (3, .int (p3)), (4, .ref oa)]) hx hb dX0_bid_24 hl (by decide) rfl (fun ls hl => ?_)
      refine lv_iconst (v := (3 : Int32)) hx hb dX0_bid_26 (by decide) ?_
      exact vx_ret (W.iret (v := (3 : Int32)) hx hb hr (fun t ht hW9 => ⟨⟨(3 : Int32), (u, n0), rfl, h, rpt ht hR⟩, hS.F ht⟩) hS.2.2 dX0_bid_27)
  · refine lv_i2l hx hb dX0_bid_9 rfl ?_
    refine xa_putN (T := TX9) (N := 3) (ref := "PublicanryLaw$Out") (host := "PublicanryLaw") hx hb hts in_X9 tyX9 tyX9_ok nmX9 hown hK.1 hS (hR.2.2.2.1 _ _ hX).2.1 (hR.2.2.2.1 _ _ hX).1 rfl 0 (by decide) (va_Nw.use rfl (hK.2.1.2.1 _ (List.mem_of_getElem? (i := 1) rfl))) rfl rfl rfl rfl (Nat.le_of_ble_eq_true rfl) dX0_bid_10 (fun H1 locs h1 hz ho hS => ?_)
    have hR := hR.putXL hX h1 hz ho
    refine lv_goto (tgt := 28) hx hb dX0_bid_13 (by decide) ?_
    refine lv_iconst (v := (0 : Int32)) hx hb dX0_bid_28 (by decide) ?_
    exact vx_ret (W.iret (v := (0 : Int32)) hx hb hr (fun t ht hW9 => ⟨⟨(0 : Int32), (u, r.toInt64), rfl, h, rpt ht hR⟩, hS.F ht⟩) hS.2.2 dX0_bid_29)
abbrev rm_X0_award : Room := { frames := 9, cells := 7, slots := 29, locals := 164 }
def sp_X0_award (κ : Kx) (y : Ly) (post : Int32 → Int64 → Wd → Ly → Prop) (n0 : Int64) (w : Wd) (p1 : Int32) : Prop := sp_X1_award κ y (fun r w y9 => post (0 : Int32) r.toInt64 w y9) (fun E w => (E = "java/lang/IndexOutOfBoundsException" ∧ post (1 : Int32) n0 w y) ∨ (E = "java/lang/IllegalStateException" ∧ post (2 : Int32) n0 w y)) w p1
set_option maxHeartbeats 4000000 in
theorem m_X0_award {l : Launch} {κ : Kx} {y : Ly} {X : XR} {post : Int32 → Int64 → Wd → Ly → Prop} {w : Wd} {oa : Nat} {n0 : Int64} {dd : UInt64} {ss : Value} {p1 : Int32} (hfl : l.stackTraces = false) (hW : WFc κ y) (l0 : live y 0 0) (hX : X oa (.inr (15, [.long n0, .double dd, ss]))) (h : sp_X0_award κ y post n0 w p1) : vx_Met l yX0_award (wsW_ yX0_award cX0_award 4 (Option.some Jvm.ClassFile.FieldType.int) [(0, 10, 13, 27), (0, 10, 16, 21)]) rm_X0_award (va_Pc [.ref (y.2 0 0), .int (p1), .ref oa] (RC κ w y X)) (va_Qi (fun r (u : Wd × Ly × Int64) => post r u.2.2 u.1 u.2.1) (fun (u : Wd × Ly × Int64) t => Rp κ u.1 u.2.1 (upX X oa (.inr (15, [.long u.2.2, .double dd, ss]))) [] t.heap ∧ WFc κ u.2.1 ∧ LeS y u.2.1) (Af κ)) (XF κ) 7 29 (Af κ) := by
  unfold sp_X0_award at h
  refine vx_ofWH (cc := cX0_award) (maxL := 4) (ret := (Option.some Jvm.ClassFile.FieldType.int)) (hh := [(0, 10, 13, 27), (0, 10, 16, 21)]) (by decide) rfl ?_
  intro p e s m args below meth c s₁ B hml hv
  obtain ⟨rfl, hR, hK⟩ := hv
  have hx := B.exec
  have hb := B.bytes
  have hr := B.returns
  have hts := atoms_spec (ws := wsW_ yX0_award cX0_award 4 (Option.some Jvm.ClassFile.FieldType.int) [(0, 10, 13, 27), (0, 10, 16, 21)]) B.pre
  have htab : c.exceptionTable.toList = tableOf [(0, 10, 13, 27), (0, 10, 16, 21)] := vx_table (x := yX0_award) B (hts _ List.mem_cons_self)
  have hts : ∀ w ∈ lw_all, w.before _ s = true := fun w h => hts w (List.mem_cons_of_mem _ h)
  have hown : s.vm.findClass RX0 = some m.cls := findClass_of_methodNamed B.named
  have hS : va_S (Af κ) s.heap s.heap [] := va_S.rf
  have hl := lv_entry ([.ref (y.2 0 0), .int (p1), .ref oa]) (n := 4) (Nat.le_of_ble_eq_true rfl)
  rw [lg_entry_eq]
  generalize (lg_sl ([.ref (y.2 0 0), .int (p1), .ref oa]) ++ List.replicate (4 - (lg_sl ([.ref (y.2 0 0), .int (p1), .ref oa])).length) Slot.unset).toArray = ls at hl ⊢
  have hl : lv_has ls 4 [(0, .ref (y.2 0 0)), (1, .int (p1)), (2, .ref oa)] := hl
  refine lv_aload_n hx hb dX0_award_0 rfl (lv_at hl 2 rfl) ?_
  refine lv_aload_n hx hb dX0_award_1 rfl (lv_at hl 0 rfl) ?_
  refine lv_iload_n hx hb dX0_award_2 rfl (lv_at hl 1 rfl) ?_
  refine cew_qi (fw := fun u : Wd × Ly => u.1) (fy := fun u => u.2) (X := X) (L := []) (PB := fun (u : Wd × Ly) t => Rp κ u.1 u.2 (xl X []) [] t.heap ∧ WFc κ u.2 ∧ LeS y u.2) (BB := fun (u : Wd × Ly) => WFc κ u.2 ∧ LeS y u.2) (fun _ _ h => h) (crx_V (n := 1) (As := [.int (p1)]) (rest := [.ref oa]) ⟨hx, hb, hml, hown, hts⟩ hK hR (m_X1_award hfl hW l0 h) q1330 q1331 q1332 q74 q1333 rfl rfl hd_X1_award ⟨Nat.le_of_ble_eq_true rfl, Nat.le_of_ble_eq_true rfl⟩ (rv hK hR l0 (ci := 0) rfl rfl) rfl rfl hl.1 rfl (lv_room (Nat.le_of_ble_eq_true rfl)) dX0_award_3 ⟨(Nat.le_of_ble_eq_true rfl), (Nat.le_of_ble_eq_true rfl)⟩) hR hS (fun E ce9 q9 u H locs hp hR hS hcell hv9 hcl => ?_) (fun r u H locs h hB hR hS => ?_)
  · have hR := hR.xsame hX
    rcases hp with ⟨rfl, h⟩ | ⟨rfl, h⟩
    · refine vx_catch (name := "java/lang/IndexOutOfBoundsException") hown [] ⟨0, 10, 13, 27⟩ [⟨0, 10, 16, 21⟩] htab (fun z9 hz9 => nomatch hz9) rfl (by decide) (hts _ q1006) (va_Nw.use rfl (hK.2.1.2.2.1 _ (List.mem_of_getElem? (i := 0) rfl))) hcell hv9 hcl ?_
      refine lv_astore_n (lv' := [(3, .ref q9), (0, .ref (y.2 0 0)), (1, .int (p1)), (2, .ref oa)]) hx hb dX0_award_13 rfl hl (by decide) rfl (fun ls hl => ?_)
      refine lv_iconst (v := (1 : Int32)) hx hb dX0_award_14 (by decide) ?_
      exact vx_ret (W.iret (v := (1 : Int32)) hx hb hr (fun t ht hW9 => ⟨⟨(1 : Int32), (u, y, n0), rfl, h, rpt ht hR, hW, LeS.rf⟩, hS.F ht⟩) hS.2.2 dX0_award_15)
    · refine vx_catch (name := "java/lang/IllegalStateException") hown [⟨0, 10, 13, 27⟩] ⟨0, 10, 16, 21⟩ [] htab (fun z9 hz9 => by rcases List.mem_cons.mp hz9 with rfl | hz9; exact Or.inr ⟨by decide, _, hts _ q1006, hK.2.1.2.2.2.2.2.2.2.2.2.2.2.2.2 _ (List.mem_of_getElem? (i := 1) rfl)⟩; exact (nomatch hz9)) rfl (by decide) (hts _ q785) (va_Nw.use rfl (hK.2.1.2.2.1 _ (List.mem_of_getElem? (i := 16) rfl))) hcell hv9 hcl ?_
      refine lv_astore_n (lv' := [(3, .ref q9), (0, .ref (y.2 0 0)), (1, .int (p1)), (2, .ref oa)]) hx hb dX0_award_16 rfl hl (by decide) rfl (fun ls hl => ?_)
      refine lv_iconst (v := (2 : Int32)) hx hb dX0_award_17 (by decide) ?_
      exact vx_ret (W.iret (v := (2 : Int32)) hx hb hr (fun t ht hW9 => ⟨⟨(2 : Int32), (u, y, n0), rfl, h, rpt ht hR, hW, LeS.rf⟩, hS.F ht⟩) hS.2.2 dX0_award_18)
  · refine lv_i2l hx hb dX0_award_6 rfl ?_
    refine xa_putN (T := TX9) (N := 3) (ref := "PublicanryLaw$Out") (host := "PublicanryLaw") hx hb hts in_X9 tyX9 tyX9_ok nmX9 hown hK.1 hS (hR.2.2.2.1 _ _ hX).2.1 (hR.2.2.2.1 _ _ hX).1 rfl 0 (by decide) (va_Nw.use rfl (hK.2.1.2.1 _ (List.mem_of_getElem? (i := 1) rfl))) rfl rfl rfl rfl (Nat.le_of_ble_eq_true rfl) dX0_award_7 (fun H1 locs h1 hz ho hS => ?_)
    have hR := hR.putXL hX h1 hz ho
    refine lv_goto (tgt := 19) hx hb dX0_award_10 (by decide) ?_
    refine lv_iconst (v := (0 : Int32)) hx hb dX0_award_19 (by decide) ?_
    exact vx_ret (W.iret (v := (0 : Int32)) hx hb hr (fun t ht hW9 => ⟨⟨(0 : Int32), (u.1, u.2, r.toInt64), rfl, h, rpt ht hR, hB⟩, hS.F ht⟩) hS.2.2 dX0_award_20)
abbrev rm_X0_force : Room := { frames := 9, cells := 2, slots := 12, locals := 165 }
def sp_X0_force (κ : Kx) (y : Ly) (post : Int32 → Int64 → Wd → Prop) (n0 : Int64) (w : Wd) (p1 : Int32) (p2 : Int32) : Prop := sp_X1_force κ y (fun r w => post (0 : Int32) r.toInt64 w) (fun E w => (E = "java/lang/IndexOutOfBoundsException" ∧ post (1 : Int32) n0 w) ∨ (E = "java/lang/IllegalArgumentException" ∧ post (2 : Int32) n0 w)) w p1 p2
set_option maxHeartbeats 4000000 in
theorem m_X0_force {l : Launch} {κ : Kx} {y : Ly} {X : XR} {post : Int32 → Int64 → Wd → Prop} {w : Wd} {oa : Nat} {n0 : Int64} {dd : UInt64} {ss : Value} {p1 : Int32} {p2 : Int32} (hfl : l.stackTraces = false) (hW : WFc κ y) (l0 : live y 0 0) (hX : X oa (.inr (15, [.long n0, .double dd, ss]))) (h : sp_X0_force κ y post n0 w p1 p2) : vx_Met l yX0_force (wsW_ yX0_force cX0_force 5 (Option.some Jvm.ClassFile.FieldType.int) [(0, 11, 14, 27), (0, 11, 18, 19)]) rm_X0_force (va_Pc [.ref (y.2 0 0), .int (p1), .int (p2), .ref oa] (RC κ w y X)) (va_Qi (fun r (u : Wd × Int64) => post r u.2 u.1) (fun (u : Wd × Int64) t => Rp κ u.1 y (upX X oa (.inr (15, [.long u.2, .double dd, ss]))) [] t.heap) (Af κ)) (XF κ) 2 12 (Af κ) := by
  unfold sp_X0_force at h
  refine vx_ofWH (cc := cX0_force) (maxL := 5) (ret := (Option.some Jvm.ClassFile.FieldType.int)) (hh := [(0, 11, 14, 27), (0, 11, 18, 19)]) (by decide) rfl ?_
  intro p e s m args below meth c s₁ B hml hv
  obtain ⟨rfl, hR, hK⟩ := hv
  have hx := B.exec
  have hb := B.bytes
  have hr := B.returns
  have hts := atoms_spec (ws := wsW_ yX0_force cX0_force 5 (Option.some Jvm.ClassFile.FieldType.int) [(0, 11, 14, 27), (0, 11, 18, 19)]) B.pre
  have htab : c.exceptionTable.toList = tableOf [(0, 11, 14, 27), (0, 11, 18, 19)] := vx_table (x := yX0_force) B (hts _ List.mem_cons_self)
  have hts : ∀ w ∈ lw_all, w.before _ s = true := fun w h => hts w (List.mem_cons_of_mem _ h)
  have hown : s.vm.findClass RX0 = some m.cls := findClass_of_methodNamed B.named
  have hS : va_S (Af κ) s.heap s.heap [] := va_S.rf
  have hl := lv_entry ([.ref (y.2 0 0), .int (p1), .int (p2), .ref oa]) (n := 5) (Nat.le_of_ble_eq_true rfl)
  rw [lg_entry_eq]
  generalize (lg_sl ([.ref (y.2 0 0), .int (p1), .int (p2), .ref oa]) ++ List.replicate (5 - (lg_sl ([.ref (y.2 0 0), .int (p1), .int (p2), .ref oa])).length) Slot.unset).toArray = ls at hl ⊢
  have hl : lv_has ls 5 [(0, .ref (y.2 0 0)), (1, .int (p1)), (2, .int (p2)), (3, .ref oa)] := hl
  refine lv_aload_n hx hb dX0_force_0 rfl (lv_at hl 3 rfl) ?_
  refine lv_aload_n hx hb dX0_force_1 rfl (lv_at hl 0 rfl) ?_
  refine lv_iload_n hx hb dX0_force_2 rfl (lv_at hl 1 rfl) ?_
  refine lv_iload_n hx hb dX0_force_3 rfl (lv_at hl 2 rfl) ?_
  refine cew_qi (fw := fun u => u) (fy := fun _ => y) (X := X) (L := []) (BB := fun _ => True) (fun _ _ h => ⟨h, trivial⟩) (crx_V (n := 2) (As := [.int (p1), .int (p2)]) (rest := [.ref oa]) ⟨hx, hb, hml, hown, hts⟩ hK hR (m_X1_force hfl hW l0 h) q1402 q1403 q1404 q74 q1405 rfl rfl hd_X1_force ⟨Nat.le_of_ble_eq_true rfl, Nat.le_of_ble_eq_true rfl⟩ (rv hK hR l0 (ci := 0) rfl rfl) rfl rfl hl.1 rfl (lv_room (Nat.le_of_ble_eq_true rfl)) dX0_force_4 ⟨(Nat.le_of_ble_eq_true rfl), (Nat.le_of_ble_eq_true rfl)⟩) hR hS (fun E ce9 q9 u H locs hp hR hS hcell hv9 hcl => ?_) (fun r u H locs h hB hR hS => ?_)
  · have hR := hR.xsame hX
    rcases hp with ⟨rfl, h⟩ | ⟨rfl, h⟩
    · refine vx_catch (name := "java/lang/IndexOutOfBoundsException") hown [] ⟨0, 11, 14, 27⟩ [⟨0, 11, 18, 19⟩] htab (fun z9 hz9 => nomatch hz9) rfl (by decide) (hts _ q1006) (va_Nw.use rfl (hK.2.1.2.2.1 _ (List.mem_of_getElem? (i := 0) rfl))) hcell hv9 hcl ?_
      refine lv_astore (lv' := [(4, .ref q9), (0, .ref (y.2 0 0)), (1, .int (p1)), (2, .int (p2)), (3, .ref oa)]) hx hb dX0_force_14 hl (by decide) rfl (fun ls hl => ?_)
      refine lv_iconst (v := (1 : Int32)) hx hb dX0_force_16 (by decide) ?_
      exact vx_ret (W.iret (v := (1 : Int32)) hx hb hr (fun t ht hW9 => ⟨⟨(1 : Int32), (u, n0), rfl, h, rpt ht hR⟩, hS.F ht⟩) hS.2.2 dX0_force_17)
    · refine vx_catch (name := "java/lang/IllegalArgumentException") hown [⟨0, 11, 14, 27⟩] ⟨0, 11, 18, 19⟩ [] htab (fun z9 hz9 => by rcases List.mem_cons.mp hz9 with rfl | hz9; exact Or.inr ⟨by decide, _, hts _ q1006, hK.2.1.2.2.2.2.2.2.2.2.2.2.2.2.2 _ (List.mem_of_getElem? (i := 0) rfl)⟩; exact (nomatch hz9)) rfl (by decide) (hts _ q784) (va_Nw.use rfl (hK.2.1.2.2.1 _ (List.mem_of_getElem? (i := 14) rfl))) hcell hv9 hcl ?_
      refine lv_astore (lv' := [(4, .ref q9), (0, .ref (y.2 0 0)), (1, .int (p1)), (2, .int (p2)), (3, .ref oa)]) hx hb dX0_force_18 hl (by decide) rfl (fun ls hl => ?_)
      refine lv_iconst (v := (2 : Int32)) hx hb dX0_force_20 (by decide) ?_
      exact vx_ret (W.iret (v := (2 : Int32)) hx hb hr (fun t ht hW9 => ⟨⟨(2 : Int32), (u, n0), rfl, h, rpt ht hR⟩, hS.F ht⟩) hS.2.2 dX0_force_21)
  · refine lv_i2l hx hb dX0_force_7 rfl ?_
    refine xa_putN (T := TX9) (N := 3) (ref := "PublicanryLaw$Out") (host := "PublicanryLaw") hx hb hts in_X9 tyX9 tyX9_ok nmX9 hown hK.1 hS (hR.2.2.2.1 _ _ hX).2.1 (hR.2.2.2.1 _ _ hX).1 rfl 0 (by decide) (va_Nw.use rfl (hK.2.1.2.1 _ (List.mem_of_getElem? (i := 1) rfl))) rfl rfl rfl rfl (Nat.le_of_ble_eq_true rfl) dX0_force_8 (fun H1 locs h1 hz ho hS => ?_)
    have hR := hR.putXL hX h1 hz ho
    refine lv_goto (tgt := 22) hx hb dX0_force_11 (by decide) ?_
    refine lv_iconst (v := (0 : Int32)) hx hb dX0_force_22 (by decide) ?_
    exact vx_ret (W.iret (v := (0 : Int32)) hx hb hr (fun t ht hW9 => ⟨⟨(0 : Int32), (u, r.toInt64), rfl, h, rpt ht hR⟩, hS.F ht⟩) hS.2.2 dX0_force_23)
