/-! printed by wip gen: X1_ofVillage, X1_levy, X1_ofLot, X1_gain, X1_votes_2, X1_harvest, X10_borrow, X10_due, X10_reap, X10_eat, X10_sell, X12_shareOut, X15_best, X18_got, X7_got, D_got, X1_lot, X1_isWhole -/
set_option maxRecDepth 100000
abbrev rm_X1_ofVillage : Room := { frames := 8, cells := 2, slots := 12, locals := 133 }
def sp_X1_ofVillage (κ : Kx) (y : Ly) (post : Int32 → Wd → Prop) (px : String → Wd → Prop) (w : Wd) (p1 : Int32) (p2 : Int32) : Prop := sp_X1_villageOf κ y (fun i_2 w_2 => sp_X1_isIn κ y (fun r_10 w_10 => sp_X1_check κ y (fun w_16 => sp_X1_told_3 κ y (fun r_21 w_21 => post (r_21) w_21) w_16 i_2 p2) px w_10 r_10) w_2 p2 (0 : Int32) (13 : Int32)) px w p1
theorem hd_X1_ofVillage : yX1_ofVillage.cls = RX1 ∧ yX1_ofVillage.cls ≠ "java/lang/invoke/MethodHandle" ∧ yX1_ofVillage.cls ≠ "java/lang/invoke/VarHandle" ∧ (parseMethodDescriptor yX1_ofVillage.desc).map (fun d => d.parameters.length) = some 2 := by decide +kernel
set_option maxHeartbeats 4000000 in
theorem m_X1_ofVillage {l : Launch} {κ : Kx} {y : Ly} {X : XR} {post : Int32 → Wd → Prop} {px : String → Wd → Prop} {w : Wd} {p1 : Int32} {p2 : Int32}  (hfl : l.stackTraces = false) (hW : WFc κ y) (l0 : live y 0 0) (h : sp_X1_ofVillage κ y post px w p1 p2) : vx_Met l yX1_ofVillage (ws_ yX1_ofVillage cX1_ofVillage 4 (Option.some Jvm.ClassFile.FieldType.int)) rm_X1_ofVillage (va_Pc [.ref (y.2 0 0), .int (p1), .int (p2)] (RC κ w y X)) (va_Qi post (fun w t => Rp κ w y X [] t.heap) (Af κ)) (XCk κ y X px) 2 12 (Af κ) := by
  unfold sp_X1_ofVillage at h
  refine vx_ofW (cc := cX1_ofVillage) (maxL := 4) (ret := (Option.some Jvm.ClassFile.FieldType.int)) (by decide) rfl ?_
  intro p e s m args below meth c s₁ B hml ht hv
  obtain ⟨rfl, hR, hK⟩ := hv
  have hx := B.exec
  have hb := B.bytes
  have hr := B.returns
  have hts := atoms_spec (ws := ws_ yX1_ofVillage cX1_ofVillage 4 (Option.some Jvm.ClassFile.FieldType.int)) B.pre
  have hts : ∀ w ∈ lw_all, w.before _ s = true := fun w h => hts w (List.mem_cons_of_mem _ h)
  have hown : s.vm.findClass RX1 = some m.cls := findClass_of_methodNamed B.named
  have hlocks := B.notSynchronized
  have hR0 := hR
  have hS : va_S (Af κ) s.heap s.heap [] := va_S.rf
  have hl := lv_entry ([.ref (y.2 0 0), .int (p1), .int (p2)]) (n := 4) (Nat.le_of_ble_eq_true rfl)
  rw [lg_entry_eq]
  generalize (lg_sl ([.ref (y.2 0 0), .int (p1), .int (p2)]) ++ List.replicate (4 - (lg_sl ([.ref (y.2 0 0), .int (p1), .int (p2)])).length) Slot.unset).toArray = ls at hl ⊢
  have hl : lv_has ls 4 [(0, .ref (y.2 0 0)), (1, .int (p1)), (2, .int (p2))] := hl
  refine lv_aload_n hx hb dX1_ofVillage_0 rfl (lv_at hl 0 rfl) ?_
  refine lv_iload_n hx hb dX1_ofVillage_1 rfl (lv_at hl 1 rfl) ?_
  refine cex_qr (fw := fun u : Nat × Wd => u.2) (fy := fun _ => y) (P := (fun (u : Nat × Wd) ra => ra = y.2 6 u.1 ∧ live y 6 u.1)) (crx_V (n := 1) (As := [.int (p1)]) (rest := []) ⟨hx, hb, hml, hown, hts⟩ hK hR (m_X1_villageOf hfl hW l0 h) q1029 q1031 qs20 q74 q1032 rfl rfl hd_X1_villageOf ⟨Nat.le_of_ble_eq_true rfl, Nat.le_of_ble_eq_true rfl⟩ (rv hK hR l0 (ci := 0) rfl rfl) rfl rfl hl.1 rfl (lv_room (Nat.le_of_ble_eq_true rfl)) dX1_ofVillage_2 ⟨(Nat.le_of_ble_eq_true rfl), (Nat.le_of_ble_eq_true rfl)⟩) hR hS ht hlocks (Nat.le_of_ble_eq_true rfl) (Nat.le_of_ble_eq_true rfl) (fun u9 a_2 H locs h p9 hR _ hS => ?_)
  obtain ⟨i_2, w_2⟩ := u9
  obtain ⟨e9, lv_2⟩ := p9
  dsimp only at e9 lv_2
  subst e9
  refine lv_astore_n (lv' := [(3, .ref (y.2 6 i_2)), (0, .ref (y.2 0 0)), (1, .int (p1)), (2, .int (p2))]) hx hb dX1_ofVillage_5 rfl hl (by decide) rfl (fun ls hl => ?_)
  refine lv_iload_n hx hb dX1_ofVillage_6 rfl (lv_at hl 3 rfl) ?_
  refine lv_iconst (v := (0 : Int32)) hx hb dX1_ofVillage_7 (by decide) ?_
  refine lv_bipush (v := (13 : Int32)) hx hb dX1_ofVillage_8 (by decide) ?_
  refine ce_qi (fw := fun u => u) (fy := fun _ => y) (cr_S (n := 3) (As := [.int (p2), .int ((0 : Int32)), .int ((13 : Int32))]) (rest := []) ⟨hx, hb, hml, hown, hts⟩ hK hR (m_X1_isIn hW h) q790 q791 q74 q792 rfl rfl hds_X1_isIn ⟨Nat.le_of_ble_eq_true rfl, Nat.le_of_ble_eq_true rfl⟩ rfl rfl hl.1 rfl (lv_room (Nat.le_of_ble_eq_true rfl)) dX1_ofVillage_10 ⟨(Nat.le_of_ble_eq_true rfl), (Nat.le_of_ble_eq_true rfl)⟩) hR hS (fun r_10 w_10 H locs h hR _ hS => ?_)
  refine jr_ldcwS (own := "Publicanry") (k := 578) (tx := "what") (n := 1578) hx hb hown hK (List.mem_of_getElem? (i := 22) rfl) dX1_ofVillage_13 ?_
  refine cex_qv (fw := fun u => u) (fy := fun _ => y) (crx_S (n := 2) (As := [.int (r_10), .ref (kA κ 1578)]) (rest := []) ⟨hx, hb, hml, hown, hts⟩ hK hR (m_X1_check hfl hW h) q794 q795 q74 q796 rfl rfl hds_X1_check ⟨Nat.le_of_ble_eq_true rfl, Nat.le_of_ble_eq_true rfl⟩ rfl rfl hl.1 rfl (lv_room (Nat.le_of_ble_eq_true rfl)) dX1_ofVillage_16 ⟨(Nat.le_of_ble_eq_true rfl), (Nat.le_of_ble_eq_true rfl)⟩) hR hS ht hlocks (Nat.le_of_ble_eq_true rfl) (Nat.le_of_ble_eq_true rfl) (fun w_16 H locs h hR _ hS => ?_)
  refine lv_aload_n hx hb dX1_ofVillage_19 rfl (lv_at hl 0 rfl) ?_
  refine lv_iload_n hx hb dX1_ofVillage_20 rfl (lv_at hl 3 rfl) ?_
  refine ce_qi (fw := fun u => u) (fy := fun _ => y) (cr_S (n := 2) (As := [.ref (y.2 6 i_2), .int (p2)]) (rest := []) ⟨hx, hb, hml, hown, hts⟩ hK hR (m_X1_told_3 hW lv_2 h) q676 q677 q74 q678 rfl rfl hds_X1_told_3 ⟨Nat.le_of_ble_eq_true rfl, Nat.le_of_ble_eq_true rfl⟩ rfl rfl hl.1 rfl (lv_room (Nat.le_of_ble_eq_true rfl)) dX1_ofVillage_21 ⟨(Nat.le_of_ble_eq_true rfl), (Nat.le_of_ble_eq_true rfl)⟩) hR hS (fun r_21 w_21 H locs h hR _ hS => ?_)
  refine W.widen (k := 2) (n := 12) (Nat.le_of_ble_eq_true rfl) (Nat.le_of_ble_eq_true rfl) ?_
  refine vx_ret ?_; exact W.iret (v := r_21) hx hb hr (fun t ht hW9 => ⟨⟨r_21, w_21, rfl, h, rpt ht hR⟩, hS.F ht⟩) hS.2.2 dX1_ofVillage_24
abbrev rm_X1_levy : Room := { frames := 8, cells := 4, slots := 21, locals := 133 }
def sp_X1_levy (κ : Kx) (y : Ly) (post : Int32 → Wd → Prop) (px : String → Wd → Prop) (w : Wd) (p1 : Int32) (p2 : Int32) (p3 : Int32) : Prop := sp_X1_villageOf κ y (fun i_2 w_2 => sp_X1_dutyOf κ y (fun i_8 w_8 => sp_X1_isIn κ y (fun r_15 w_15 => sp_X1_check κ y (fun w_21 => (vp_in (p2) (y.1 146 i_2)) ∧ (sp_X1_told_4 κ y (fun r_37 w_37 => post (r_37) w_37) w_21 (3 * i_2 + ((p2).toNatClampNeg)) p3)) px w_15 r_15) w_8 p3 (0 : Int32) (5 : Int32)) px w_2 p2) px w p1
theorem hd_X1_levy : yX1_levy.cls = RX1 ∧ yX1_levy.cls ≠ "java/lang/invoke/MethodHandle" ∧ yX1_levy.cls ≠ "java/lang/invoke/VarHandle" ∧ (parseMethodDescriptor yX1_levy.desc).map (fun d => d.parameters.length) = some 3 := by decide +kernel
set_option maxHeartbeats 4000000 in
theorem m_X1_levy {l : Launch} {κ : Kx} {y : Ly} {X : XR} {post : Int32 → Wd → Prop} {px : String → Wd → Prop} {w : Wd} {p1 : Int32} {p2 : Int32} {p3 : Int32}  (hfl : l.stackTraces = false) (hW : WFc κ y) (l0 : live y 0 0) (h : sp_X1_levy κ y post px w p1 p2 p3) : vx_Met l yX1_levy (ws_ yX1_levy cX1_levy 5 (Option.some Jvm.ClassFile.FieldType.int)) rm_X1_levy (va_Pc [.ref (y.2 0 0), .int (p1), .int (p2), .int (p3)] (RC κ w y X)) (va_Qi post (fun w t => Rp κ w y X [] t.heap) (Af κ)) (XCk κ y X px) 4 21 (Af κ) := by
  unfold sp_X1_levy at h
  refine vx_ofW (cc := cX1_levy) (maxL := 5) (ret := (Option.some Jvm.ClassFile.FieldType.int)) (by decide) rfl ?_
  intro p e s m args below meth c s₁ B hml ht hv
  obtain ⟨rfl, hR, hK⟩ := hv
  have hx := B.exec
  have hb := B.bytes
  have hr := B.returns
  have hts := atoms_spec (ws := ws_ yX1_levy cX1_levy 5 (Option.some Jvm.ClassFile.FieldType.int)) B.pre
  have hts : ∀ w ∈ lw_all, w.before _ s = true := fun w h => hts w (List.mem_cons_of_mem _ h)
  have hown : s.vm.findClass RX1 = some m.cls := findClass_of_methodNamed B.named
  have hlocks := B.notSynchronized
  have hR0 := hR
  have hS : va_S (Af κ) s.heap s.heap [] := va_S.rf
  have hl := lv_entry ([.ref (y.2 0 0), .int (p1), .int (p2), .int (p3)]) (n := 5) (Nat.le_of_ble_eq_true rfl)
  rw [lg_entry_eq]
  generalize (lg_sl ([.ref (y.2 0 0), .int (p1), .int (p2), .int (p3)]) ++ List.replicate (5 - (lg_sl ([.ref (y.2 0 0), .int (p1), .int (p2), .int (p3)])).length) Slot.unset).toArray = ls at hl ⊢
  have hl : lv_has ls 5 [(0, .ref (y.2 0 0)), (1, .int (p1)), (2, .int (p2)), (3, .int (p3))] := hl
  refine lv_aload_n hx hb dX1_levy_0 rfl (lv_at hl 0 rfl) ?_
  refine lv_iload_n hx hb dX1_levy_1 rfl (lv_at hl 1 rfl) ?_
  refine cex_qr (fw := fun u : Nat × Wd => u.2) (fy := fun _ => y) (P := (fun (u : Nat × Wd) ra => ra = y.2 6 u.1 ∧ live y 6 u.1)) (crx_V (n := 1) (As := [.int (p1)]) (rest := []) ⟨hx, hb, hml, hown, hts⟩ hK hR (m_X1_villageOf hfl hW l0 h) q1029 q1031 qs20 q74 q1032 rfl rfl hd_X1_villageOf ⟨Nat.le_of_ble_eq_true rfl, Nat.le_of_ble_eq_true rfl⟩ (rv hK hR l0 (ci := 0) rfl rfl) rfl rfl hl.1 rfl (lv_room (Nat.le_of_ble_eq_true rfl)) dX1_levy_2 ⟨(Nat.le_of_ble_eq_true rfl), (Nat.le_of_ble_eq_true rfl)⟩) hR hS ht hlocks (Nat.le_of_ble_eq_true rfl) (Nat.le_of_ble_eq_true rfl) (fun u9 a_2 H locs h p9 hR _ hS => ?_)
  obtain ⟨i_2, w_2⟩ := u9
  obtain ⟨e9, lv_2⟩ := p9
  dsimp only at e9 lv_2
  subst e9
  refine lv_astore (lv' := [(4, .ref (y.2 6 i_2)), (0, .ref (y.2 0 0)), (1, .int (p1)), (2, .int (p2)), (3, .int (p3))]) hx hb dX1_levy_5 hl (by decide) rfl (fun ls hl => ?_)
  refine lv_iload_n hx hb dX1_levy_7 rfl (lv_at hl 3 rfl) ?_
  refine cex_qr (fw := fun u : Nat × Wd => u.2) (fy := fun _ => y) (P := (fun (u : Nat × Wd) ra => ra = kA κ (20 + u.1) ∧ u.1 < 3)) (crx_S (n := 1) (As := [.int (p2)]) (rest := []) ⟨hx, hb, hml, hown, hts⟩ hK hR (m_X1_dutyOf hfl hW h) q1075 q1076 q74 q1077 rfl rfl hds_X1_dutyOf ⟨Nat.le_of_ble_eq_true rfl, Nat.le_of_ble_eq_true rfl⟩ rfl rfl hl.1 rfl (lv_room (Nat.le_of_ble_eq_true rfl)) dX1_levy_8 ⟨(Nat.le_of_ble_eq_true rfl), (Nat.le_of_ble_eq_true rfl)⟩) hR hS ht hlocks (Nat.le_of_ble_eq_true rfl) (Nat.le_of_ble_eq_true rfl) (fun u9 a_8 H locs h p9 hR _ hS => ?_)
  obtain ⟨i_8, w_8⟩ := u9
  obtain ⟨e9, lv_8⟩ := p9
  dsimp only at e9 lv_8
  subst e9
  refine lv_pop hx hb dX1_levy_11 rfl ?_
  refine lv_iload_n hx hb dX1_levy_12 rfl (lv_at hl 4 rfl) ?_
  refine lv_iconst (v := (0 : Int32)) hx hb dX1_levy_13 (by decide) ?_
  refine lv_iconst (v := (5 : Int32)) hx hb dX1_levy_14 (by decide) ?_
  refine ce_qi (fw := fun u => u) (fy := fun _ => y) (cr_S (n := 3) (As := [.int (p3), .int ((0 : Int32)), .int ((5 : Int32))]) (rest := []) ⟨hx, hb, hml, hown, hts⟩ hK hR (m_X1_isIn hW h) q790 q791 q74 q792 rfl rfl hds_X1_isIn ⟨Nat.le_of_ble_eq_true rfl, Nat.le_of_ble_eq_true rfl⟩ rfl rfl hl.1 rfl (lv_room (Nat.le_of_ble_eq_true rfl)) dX1_levy_15 ⟨(Nat.le_of_ble_eq_true rfl), (Nat.le_of_ble_eq_true rfl)⟩) hR hS (fun r_15 w_15 H locs h hR _ hS => ?_)
  refine jr_ldcwS (own := "Publicanry") (k := 578) (tx := "what") (n := 1578) hx hb hown hK (List.mem_of_getElem? (i := 22) rfl) dX1_levy_18 ?_
  refine cex_qv (fw := fun u => u) (fy := fun _ => y) (crx_S (n := 2) (As := [.int (r_15), .ref (kA κ 1578)]) (rest := []) ⟨hx, hb, hml, hown, hts⟩ hK hR (m_X1_check hfl hW h) q794 q795 q74 q796 rfl rfl hds_X1_check ⟨Nat.le_of_ble_eq_true rfl, Nat.le_of_ble_eq_true rfl⟩ rfl rfl hl.1 rfl (lv_room (Nat.le_of_ble_eq_true rfl)) dX1_levy_21 ⟨(Nat.le_of_ble_eq_true rfl), (Nat.le_of_ble_eq_true rfl)⟩) hR hS ht hlocks (Nat.le_of_ble_eq_true rfl) (Nat.le_of_ble_eq_true rfl) (fun w_21 H locs h hR _ hS => ?_)
  refine lv_aload hx hb dX1_levy_24 (lv_at hl 0 rfl) ?_
  refine g6_5 hx hb hts hown hK hR lv_2 q929 dX1_levy_26 ?_
  refine lv_iload_n hx hb dX1_levy_29 rfl (lv_at hl 3 rfl) ?_
  have o_30 := h.1
  have h := h.2
  refine jr_get (a := if y.1 15 (3 * i_2 + ((p2).toNatClampNeg)) = 1 then y.2 15 (3 * i_2 + ((p2).toNatClampNeg)) else kA κ 0) ⟨hx, hb, hml, hown, hts⟩ hK hR ⟨fun _ _ _ _ _ => rfl, fun _ _ _ _ _ => rfl⟩ (hW.vle lv_2) ⟨hW.vla lv_2, (by rw [show y.1 (46 + 100) i_2 = 3 from hW.vl3 lv_2]; decide)⟩ o_30 (hW.elE lv_2 (show (p2).toNatClampNeg < 3 from by have h9 := (vp_lt o_30); rw [show y.1 146 i_2 = 3 from hW.vl3 lv_2] at h9; exact h9)) q685 ⟨Nat.le_of_ble_eq_true rfl, Nat.le_of_ble_eq_true rfl⟩ hl.1 (Nat.le_of_ble_eq_true rfl) dX1_levy_30 ⟨(Nat.le_of_ble_eq_true rfl), (Nat.le_of_ble_eq_true rfl)⟩ ?_
  refine jr_castS (ci := 18) hx hb hown hK hts (op_at hK hR (3 * i_2 + ((p2).toNatClampNeg))) rfl q699 dX1_levy_33 ?_
  refine lv_iload_n hx hb dX1_levy_36 rfl (lv_at hl 4 rfl) ?_
  refine ce_qi (fw := fun u => u) (fy := fun _ => y) (cr_S (n := 2) (As := [.ref (if y.1 15 (3 * i_2 + ((p2).toNatClampNeg)) = 1 then y.2 15 (3 * i_2 + ((p2).toNatClampNeg)) else kA κ 0), .int (p3)]) (rest := []) ⟨hx, hb, hml, hown, hts⟩ hK hR (m_X1_told_4 hW h) q700 q701 q74 q702 rfl rfl hds_X1_told_4 ⟨Nat.le_of_ble_eq_true rfl, Nat.le_of_ble_eq_true rfl⟩ rfl rfl hl.1 rfl (lv_room (Nat.le_of_ble_eq_true rfl)) dX1_levy_37 ⟨(Nat.le_of_ble_eq_true rfl), (Nat.le_of_ble_eq_true rfl)⟩) hR hS (fun r_37 w_37 H locs h hR _ hS => ?_)
  refine W.widen (k := 4) (n := 21) (Nat.le_of_ble_eq_true rfl) (Nat.le_of_ble_eq_true rfl) ?_
  refine vx_ret ?_; exact W.iret (v := r_37) hx hb hr (fun t ht hW9 => ⟨⟨r_37, w_37, rfl, h, rpt ht hR⟩, hS.F ht⟩) hS.2.2 dX1_levy_40
abbrev rm_X1_ofLot : Room := { frames := 8, cells := 2, slots := 12, locals := 133 }
def sp_X1_ofLot (κ : Kx) (y : Ly) (post : Int32 → Wd → Prop) (px : String → Wd → Prop) (w : Wd) (p1 : Int32) (p2 : Int32) : Prop := sp_X1_lotOf κ y (fun i_2 w_2 => sp_X1_isIn κ y (fun r_10 w_10 => sp_X1_check κ y (fun w_16 => sp_X1_told_6 κ y (fun r_21 w_21 => post (r_21) w_21) w_16 i_2 p2) px w_10 r_10) w_2 p2 (0 : Int32) (11 : Int32)) px w p1
theorem hd_X1_ofLot : yX1_ofLot.cls = RX1 ∧ yX1_ofLot.cls ≠ "java/lang/invoke/MethodHandle" ∧ yX1_ofLot.cls ≠ "java/lang/invoke/VarHandle" ∧ (parseMethodDescriptor yX1_ofLot.desc).map (fun d => d.parameters.length) = some 2 := by decide +kernel
set_option maxHeartbeats 4000000 in
theorem m_X1_ofLot {l : Launch} {κ : Kx} {y : Ly} {X : XR} {post : Int32 → Wd → Prop} {px : String → Wd → Prop} {w : Wd} {p1 : Int32} {p2 : Int32}  (hfl : l.stackTraces = false) (hW : WFc κ y) (l0 : live y 0 0) (h : sp_X1_ofLot κ y post px w p1 p2) : vx_Met l yX1_ofLot (ws_ yX1_ofLot cX1_ofLot 4 (Option.some Jvm.ClassFile.FieldType.int)) rm_X1_ofLot (va_Pc [.ref (y.2 0 0), .int (p1), .int (p2)] (RC κ w y X)) (va_Qi post (fun w t => Rp κ w y X [] t.heap) (Af κ)) (XCk κ y X px) 2 12 (Af κ) := by
  unfold sp_X1_ofLot at h
  refine vx_ofW (cc := cX1_ofLot) (maxL := 4) (ret := (Option.some Jvm.ClassFile.FieldType.int)) (by decide) rfl ?_
  intro p e s m args below meth c s₁ B hml ht hv
  obtain ⟨rfl, hR, hK⟩ := hv
  have hx := B.exec
  have hb := B.bytes
  have hr := B.returns
  have hts := atoms_spec (ws := ws_ yX1_ofLot cX1_ofLot 4 (Option.some Jvm.ClassFile.FieldType.int)) B.pre
  have hts : ∀ w ∈ lw_all, w.before _ s = true := fun w h => hts w (List.mem_cons_of_mem _ h)
  have hown : s.vm.findClass RX1 = some m.cls := findClass_of_methodNamed B.named
  have hlocks := B.notSynchronized
  have hR0 := hR
  have hS : va_S (Af κ) s.heap s.heap [] := va_S.rf
  have hl := lv_entry ([.ref (y.2 0 0), .int (p1), .int (p2)]) (n := 4) (Nat.le_of_ble_eq_true rfl)
  rw [lg_entry_eq]
  generalize (lg_sl ([.ref (y.2 0 0), .int (p1), .int (p2)]) ++ List.replicate (4 - (lg_sl ([.ref (y.2 0 0), .int (p1), .int (p2)])).length) Slot.unset).toArray = ls at hl ⊢
  have hl : lv_has ls 4 [(0, .ref (y.2 0 0)), (1, .int (p1)), (2, .int (p2))] := hl
  refine lv_aload_n hx hb dX1_ofLot_0 rfl (lv_at hl 0 rfl) ?_
  refine lv_iload_n hx hb dX1_ofLot_1 rfl (lv_at hl 1 rfl) ?_
  refine cex_qr (fw := fun u : Nat × Wd => u.2) (fy := fun _ => y) (P := (fun (u : Nat × Wd) ra => ra = y.2 11 u.1 ∧ live y 11 u.1)) (crx_V (n := 1) (As := [.int (p1)]) (rest := []) ⟨hx, hb, hml, hown, hts⟩ hK hR (m_X1_lotOf hfl hW l0 h) q1317 q1319 qs24 q74 q1320 rfl rfl hd_X1_lotOf ⟨Nat.le_of_ble_eq_true rfl, Nat.le_of_ble_eq_true rfl⟩ (rv hK hR l0 (ci := 0) rfl rfl) rfl rfl hl.1 rfl (lv_room (Nat.le_of_ble_eq_true rfl)) dX1_ofLot_2 ⟨(Nat.le_of_ble_eq_true rfl), (Nat.le_of_ble_eq_true rfl)⟩) hR hS ht hlocks (Nat.le_of_ble_eq_true rfl) (Nat.le_of_ble_eq_true rfl) (fun u9 a_2 H locs h p9 hR _ hS => ?_)
  obtain ⟨i_2, w_2⟩ := u9
  obtain ⟨e9, lv_2⟩ := p9
  dsimp only at e9 lv_2
  subst e9
  refine lv_astore_n (lv' := [(3, .ref (y.2 11 i_2)), (0, .ref (y.2 0 0)), (1, .int (p1)), (2, .int (p2))]) hx hb dX1_ofLot_5 rfl hl (by decide) rfl (fun ls hl => ?_)
  refine lv_iload_n hx hb dX1_ofLot_6 rfl (lv_at hl 3 rfl) ?_
  refine lv_iconst (v := (0 : Int32)) hx hb dX1_ofLot_7 (by decide) ?_
  refine lv_bipush (v := (11 : Int32)) hx hb dX1_ofLot_8 (by decide) ?_
  refine ce_qi (fw := fun u => u) (fy := fun _ => y) (cr_S (n := 3) (As := [.int (p2), .int ((0 : Int32)), .int ((11 : Int32))]) (rest := []) ⟨hx, hb, hml, hown, hts⟩ hK hR (m_X1_isIn hW h) q790 q791 q74 q792 rfl rfl hds_X1_isIn ⟨Nat.le_of_ble_eq_true rfl, Nat.le_of_ble_eq_true rfl⟩ rfl rfl hl.1 rfl (lv_room (Nat.le_of_ble_eq_true rfl)) dX1_ofLot_10 ⟨(Nat.le_of_ble_eq_true rfl), (Nat.le_of_ble_eq_true rfl)⟩) hR hS (fun r_10 w_10 H locs h hR _ hS => ?_)
  refine jr_ldcwS (own := "Publicanry") (k := 578) (tx := "what") (n := 1578) hx hb hown hK (List.mem_of_getElem? (i := 22) rfl) dX1_ofLot_13 ?_
  refine cex_qv (fw := fun u => u) (fy := fun _ => y) (crx_S (n := 2) (As := [.int (r_10), .ref (kA κ 1578)]) (rest := []) ⟨hx, hb, hml, hown, hts⟩ hK hR (m_X1_check hfl hW h) q794 q795 q74 q796 rfl rfl hds_X1_check ⟨Nat.le_of_ble_eq_true rfl, Nat.le_of_ble_eq_true rfl⟩ rfl rfl hl.1 rfl (lv_room (Nat.le_of_ble_eq_true rfl)) dX1_ofLot_16 ⟨(Nat.le_of_ble_eq_true rfl), (Nat.le_of_ble_eq_true rfl)⟩) hR hS ht hlocks (Nat.le_of_ble_eq_true rfl) (Nat.le_of_ble_eq_true rfl) (fun w_16 H locs h hR _ hS => ?_)
  refine lv_aload_n hx hb dX1_ofLot_19 rfl (lv_at hl 0 rfl) ?_
  refine lv_iload_n hx hb dX1_ofLot_20 rfl (lv_at hl 3 rfl) ?_
  refine ce_qi (fw := fun u => u) (fy := fun _ => y) (cr_S (n := 2) (As := [.ref (y.2 11 i_2), .int (p2)]) (rest := []) ⟨hx, hb, hml, hown, hts⟩ hK hR (m_X1_told_6 hW lv_2 h) q741 q742 q74 q743 rfl rfl hds_X1_told_6 ⟨Nat.le_of_ble_eq_true rfl, Nat.le_of_ble_eq_true rfl⟩ rfl rfl hl.1 rfl (lv_room (Nat.le_of_ble_eq_true rfl)) dX1_ofLot_21 ⟨(Nat.le_of_ble_eq_true rfl), (Nat.le_of_ble_eq_true rfl)⟩) hR hS (fun r_21 w_21 H locs h hR _ hS => ?_)
  refine W.widen (k := 2) (n := 12) (Nat.le_of_ble_eq_true rfl) (Nat.le_of_ble_eq_true rfl) ?_
  refine vx_ret ?_; exact W.iret (v := r_21) hx hb hr (fun t ht hW9 => ⟨⟨r_21, w_21, rfl, h, rpt ht hR⟩, hS.F ht⟩) hS.2.2 dX1_ofLot_24
abbrev rm_X1_gain : Room := { frames := 8, cells := 1, slots := 6, locals := 133 }
def sp_X1_gain (κ : Kx) (y : Ly) (post : UInt64 → Wd → Prop) (px : String → Wd → Prop) (w : Wd) (p1 : Int32) : Prop := sp_X1_companyOf κ y (fun i_2 w_2 => sp_X12_gain κ y (fun r_5 w_5 => post (r_5) w_5) w_2 i_2) px w p1
theorem hd_X1_gain : yX1_gain.cls = RX1 ∧ yX1_gain.cls ≠ "java/lang/invoke/MethodHandle" ∧ yX1_gain.cls ≠ "java/lang/invoke/VarHandle" ∧ (parseMethodDescriptor yX1_gain.desc).map (fun d => d.parameters.length) = some 1 := by decide +kernel
set_option maxHeartbeats 4000000 in
theorem m_X1_gain {l : Launch} {κ : Kx} {y : Ly} {X : XR} {post : UInt64 → Wd → Prop} {px : String → Wd → Prop} {w : Wd} {p1 : Int32}  (hfl : l.stackTraces = false) (hW : WFc κ y) (l0 : live y 0 0) (h : sp_X1_gain κ y post px w p1) : vx_Met l yX1_gain (ws_ yX1_gain cX1_gain 2 (Option.some Jvm.ClassFile.FieldType.double)) rm_X1_gain (va_Pc [.ref (y.2 0 0), .int (p1)] (RC κ w y X)) (va_Qd post (fun w t => Rp κ w y X [] t.heap) (Af κ)) (XCk κ y X px) 1 6 (Af κ) := by
  unfold sp_X1_gain at h
  refine vx_ofW (cc := cX1_gain) (maxL := 2) (ret := (Option.some Jvm.ClassFile.FieldType.double)) (by decide) rfl ?_
  intro p e s m args below meth c s₁ B hml ht hv
  obtain ⟨rfl, hR, hK⟩ := hv
  have hx := B.exec
  have hb := B.bytes
  have hr := B.returns
  have hts := atoms_spec (ws := ws_ yX1_gain cX1_gain 2 (Option.some Jvm.ClassFile.FieldType.double)) B.pre
  have hts : ∀ w ∈ lw_all, w.before _ s = true := fun w h => hts w (List.mem_cons_of_mem _ h)
  have hown : s.vm.findClass RX1 = some m.cls := findClass_of_methodNamed B.named
  have hlocks := B.notSynchronized
  have hR0 := hR
  have hS : va_S (Af κ) s.heap s.heap [] := va_S.rf
  have hl := lv_entry ([.ref (y.2 0 0), .int (p1)]) (n := 2) (Nat.le_of_ble_eq_true rfl)
  rw [lg_entry_eq]
  generalize (lg_sl ([.ref (y.2 0 0), .int (p1)]) ++ List.replicate (2 - (lg_sl ([.ref (y.2 0 0), .int (p1)])).length) Slot.unset).toArray = ls at hl ⊢
  have hl : lv_has ls 2 [(0, .ref (y.2 0 0)), (1, .int (p1))] := hl
  refine lv_aload_n hx hb dX1_gain_0 rfl (lv_at hl 0 rfl) ?_
  refine lv_iload_n hx hb dX1_gain_1 rfl (lv_at hl 1 rfl) ?_
  refine cex_qr (fw := fun u : Nat × Wd => u.2) (fy := fun _ => y) (P := (fun (u : Nat × Wd) ra => ra = y.2 9 u.1 ∧ live y 9 u.1)) (crx_V (n := 1) (As := [.int (p1)]) (rest := []) ⟨hx, hb, hml, hown, hts⟩ hK hR (m_X1_companyOf hfl hW l0 h) q1176 q1178 qs22 q74 q1179 rfl rfl hd_X1_companyOf ⟨Nat.le_of_ble_eq_true rfl, Nat.le_of_ble_eq_true rfl⟩ (rv hK hR l0 (ci := 0) rfl rfl) rfl rfl hl.1 rfl (lv_room (Nat.le_of_ble_eq_true rfl)) dX1_gain_2 ⟨(Nat.le_of_ble_eq_true rfl), (Nat.le_of_ble_eq_true rfl)⟩) hR hS ht hlocks (Nat.le_of_ble_eq_true rfl) (Nat.le_of_ble_eq_true rfl) (fun u9 a_2 H locs h p9 hR _ hS => ?_)
  obtain ⟨i_2, w_2⟩ := u9
  obtain ⟨e9, lv_2⟩ := p9
  dsimp only at e9 lv_2
  subst e9
  refine ce_qd (fw := fun u => u) (fy := fun _ => y) (cr_V (n := 0) (As := []) (rest := []) ⟨hx, hb, hml, hown, hts⟩ hK hR (m_X12_gain hW lv_2 h) q735 q736 q737 q106 q738 rfl rfl hd_X12_gain ⟨Nat.le_of_ble_eq_true rfl, Nat.le_of_ble_eq_true rfl⟩ (rv hK hR lv_2 (ci := 7) rfl rfl) rfl rfl hl.1 rfl (lv_room (Nat.le_of_ble_eq_true rfl)) dX1_gain_5 ⟨(Nat.le_of_ble_eq_true rfl), (Nat.le_of_ble_eq_true rfl)⟩) hR hS (fun r_5 w_5 H locs h hR _ hS => ?_)
  refine W.widen (k := 1) (n := 6) (Nat.le_of_ble_eq_true rfl) (Nat.le_of_ble_eq_true rfl) ?_
  refine vx_ret ?_; exact W.dret (v := r_5) hx hb hr (fun t ht hW9 => ⟨⟨r_5, w_5, rfl, h, rpt ht hR⟩, hS.F ht⟩) hS.2.2 dX1_gain_8
abbrev rm_X1_votes_2 : Room := { frames := 8, cells := 4, slots := 21, locals := 133 }
def sp_X1_votes_2 (κ : Kx) (y : Ly) (post : Int32 → Wd → Prop) (px : String → Wd → Prop) (w : Wd) (p1 : Int32) (p2 : Int32) (p3 : Int32) (p4 : Int32) : Prop := sp_X1_villageOf κ y (fun i_2 w_2 => sp_X1_dutyOf κ y (fun i_11 w_11 => sp_X1_dueByLaw κ y (fun r_14 w_14 => sp_X1_isIn κ y (fun r_24 w_24 => ((r_24 = 0) → (sp_X1_check κ y (fun w_49 => sp_X1_votes κ y (fun r_60 w_60 => post (r_60) w_60) w_49 (p3 - r_14) r_14 p4) px w_24 (0 : Int32))) ∧ ((¬ (r_24 = 0)) → (sp_X1_isIn κ y (fun r_35 w_35 => ((r_35 = 0) → (sp_X1_check κ y (fun w_49_a => sp_X1_votes κ y (fun r_60_a w_60_a => post (r_60_a) w_60_a) w_49_a (p3 - r_14) r_14 p4) px w_35 (0 : Int32))) ∧ ((¬ (r_35 = 0)) → (sp_X1_check κ y (fun w_49_b => sp_X1_votes κ y (fun r_60_b w_60_b => post (r_60_b) w_60_b) w_49_b (p3 - r_14) r_14 p4) px w_35 (1 : Int32)))) w_24 p4 (0 : Int32) (7 : Int32)))) w_14 p3 (0 : Int32) (9999 : Int32)) w_11 i_2 i_11) px w_2 p2) px w p1
theorem hd_X1_votes_2 : yX1_votes_2.cls = RX1 ∧ yX1_votes_2.cls ≠ "java/lang/invoke/MethodHandle" ∧ yX1_votes_2.cls ≠ "java/lang/invoke/VarHandle" ∧ (parseMethodDescriptor yX1_votes_2.desc).map (fun d => d.parameters.length) = some 4 := by decide +kernel
set_option maxHeartbeats 4000000 in
theorem m_X1_votes_2 {l : Launch} {κ : Kx} {y : Ly} {X : XR} {post : Int32 → Wd → Prop} {px : String → Wd → Prop} {w : Wd} {p1 : Int32} {p2 : Int32} {p3 : Int32} {p4 : Int32}  (hfl : l.stackTraces = false) (hW : WFc κ y) (l0 : live y 0 0) (h : sp_X1_votes_2 κ y post px w p1 p2 p3 p4) : vx_Met l yX1_votes_2 (ws_ yX1_votes_2 cX1_votes_2 7 (Option.some Jvm.ClassFile.FieldType.int)) rm_X1_votes_2 (va_Pc [.ref (y.2 0 0), .int (p1), .int (p2), .int (p3), .int (p4)] (RC κ w y X)) (va_Qi post (fun w t => Rp κ w y X [] t.heap) (Af κ)) (XCk κ y X px) 4 21 (Af κ) := by
  unfold sp_X1_votes_2 at h
  refine vx_ofW (cc := cX1_votes_2) (maxL := 7) (ret := (Option.some Jvm.ClassFile.FieldType.int)) (by decide) rfl ?_
  intro p e s m args below meth c s₁ B hml ht hv
  obtain ⟨rfl, hR, hK⟩ := hv
  have hx := B.exec
  have hb := B.bytes
  have hr := B.returns
  have hts := atoms_spec (ws := ws_ yX1_votes_2 cX1_votes_2 7 (Option.some Jvm.ClassFile.FieldType.int)) B.pre
  have hts : ∀ w ∈ lw_all, w.before _ s = true := fun w h => hts w (List.mem_cons_of_mem _ h)
  have hown : s.vm.findClass RX1 = some m.cls := findClass_of_methodNamed B.named
  have hlocks := B.notSynchronized
  have hR0 := hR
  have hS : va_S (Af κ) s.heap s.heap [] := va_S.rf
  have hl := lv_entry ([.ref (y.2 0 0), .int (p1), .int (p2), .int (p3), .int (p4)]) (n := 7) (Nat.le_of_ble_eq_true rfl)
  rw [lg_entry_eq]
  generalize (lg_sl ([.ref (y.2 0 0), .int (p1), .int (p2), .int (p3), .int (p4)]) ++ List.replicate (7 - (lg_sl ([.ref (y.2 0 0), .int (p1), .int (p2), .int (p3), .int (p4)])).length) Slot.unset).toArray = ls at hl ⊢
  have hl : lv_has ls 7 [(0, .ref (y.2 0 0)), (1, .int (p1)), (2, .int (p2)), (3, .int (p3)), (4, .int (p4))] := hl
  refine lv_aload_n hx hb dX1_votes_2_0 rfl (lv_at hl 0 rfl) ?_
  refine lv_iload_n hx hb dX1_votes_2_1 rfl (lv_at hl 1 rfl) ?_
  refine cex_qr (fw := fun u : Nat × Wd => u.2) (fy := fun _ => y) (P := (fun (u : Nat × Wd) ra => ra = y.2 6 u.1 ∧ live y 6 u.1)) (crx_V (n := 1) (As := [.int (p1)]) (rest := []) ⟨hx, hb, hml, hown, hts⟩ hK hR (m_X1_villageOf hfl hW l0 h) q1029 q1031 qs20 q74 q1032 rfl rfl hd_X1_villageOf ⟨Nat.le_of_ble_eq_true rfl, Nat.le_of_ble_eq_true rfl⟩ (rv hK hR l0 (ci := 0) rfl rfl) rfl rfl hl.1 rfl (lv_room (Nat.le_of_ble_eq_true rfl)) dX1_votes_2_2 ⟨(Nat.le_of_ble_eq_true rfl), (Nat.le_of_ble_eq_true rfl)⟩) hR hS ht hlocks (Nat.le_of_ble_eq_true rfl) (Nat.le_of_ble_eq_true rfl) (fun u9 a_2 H locs h p9 hR _ hS => ?_)
  obtain ⟨i_2, w_2⟩ := u9
  obtain ⟨e9, lv_2⟩ := p9
  dsimp only at e9 lv_2
  subst e9
  refine lv_astore (lv' := [(5, .ref (y.2 6 i_2)), (0, .ref (y.2 0 0)), (1, .int (p1)), (2, .int (p2)), (3, .int (p3)), (4, .int (p4))]) hx hb dX1_votes_2_5 hl (by decide) rfl (fun ls hl => ?_)
  refine lv_aload_n hx hb dX1_votes_2_7 rfl (lv_at hl 1 rfl) ?_
  refine lv_aload hx hb dX1_votes_2_8 (lv_at hl 0 rfl) ?_
  refine lv_iload_n hx hb dX1_votes_2_10 rfl (lv_at hl 3 rfl) ?_
  refine cex_qr (fw := fun u : Nat × Wd => u.2) (fy := fun _ => y) (P := (fun (u : Nat × Wd) ra => ra = kA κ (20 + u.1) ∧ u.1 < 3)) (crx_S (n := 1) (As := [.int (p2)]) (rest := [.ref (y.2 6 i_2), .ref (y.2 0 0)]) ⟨hx, hb, hml, hown, hts⟩ hK hR (m_X1_dutyOf hfl hW h) q1075 q1076 q74 q1077 rfl rfl hds_X1_dutyOf ⟨Nat.le_of_ble_eq_true rfl, Nat.le_of_ble_eq_true rfl⟩ rfl rfl hl.1 rfl (lv_room (Nat.le_of_ble_eq_true rfl)) dX1_votes_2_11 ⟨(Nat.le_of_ble_eq_true rfl), (Nat.le_of_ble_eq_true rfl)⟩) hR hS ht hlocks (Nat.le_of_ble_eq_true rfl) (Nat.le_of_ble_eq_true rfl) (fun u9 a_11 H locs h p9 hR _ hS => ?_)
  obtain ⟨i_11, w_11⟩ := u9
  obtain ⟨e9, lv_11⟩ := p9
  dsimp only at e9 lv_11
  subst e9
  refine ce_qi (fw := fun u => u) (fy := fun _ => y) (cr_V (n := 2) (As := [.ref (y.2 6 i_2), .ref (kA κ (20 + i_11))]) (rest := []) ⟨hx, hb, hml, hown, hts⟩ hK hR (m_X1_dueByLaw hW l0 lv_2 lv_11 h) q617 q619 qs10 q74 q620 rfl rfl hd_X1_dueByLaw ⟨Nat.le_of_ble_eq_true rfl, Nat.le_of_ble_eq_true rfl⟩ (rv hK hR l0 (ci := 0) rfl rfl) rfl rfl hl.1 rfl (lv_room (Nat.le_of_ble_eq_true rfl)) dX1_votes_2_14 ⟨(Nat.le_of_ble_eq_true rfl), (Nat.le_of_ble_eq_true rfl)⟩) hR hS (fun r_14 w_14 H locs h hR _ hS => ?_)
  refine lv_istore (lv' := [(6, .int (r_14)), (5, .ref (y.2 6 i_2)), (0, .ref (y.2 0 0)), (1, .int (p1)), (2, .int (p2)), (3, .int (p3)), (4, .int (p4))]) hx hb dX1_votes_2_17 hl (by decide) rfl (fun ls hl => ?_)
  refine lv_iload_n hx hb dX1_votes_2_19 rfl (lv_at hl 5 rfl) ?_
  refine lv_iconst (v := (0 : Int32)) hx hb dX1_votes_2_20 (by decide) ?_
  refine lv_sipush (v := (9999 : Int32)) hx hb dX1_votes_2_21 (by decide) ?_
  refine ce_qi (fw := fun u => u) (fy := fun _ => y) (cr_S (n := 3) (As := [.int (p3), .int ((0 : Int32)), .int ((9999 : Int32))]) (rest := []) ⟨hx, hb, hml, hown, hts⟩ hK hR (m_X1_isIn hW h) q790 q791 q74 q792 rfl rfl hds_X1_isIn ⟨Nat.le_of_ble_eq_true rfl, Nat.le_of_ble_eq_true rfl⟩ rfl rfl hl.1 rfl (lv_room (Nat.le_of_ble_eq_true rfl)) dX1_votes_2_24 ⟨(Nat.le_of_ble_eq_true rfl), (Nat.le_of_ble_eq_true rfl)⟩) hR hS (fun r_24 w_24 H locs h hR _ hS => ?_)
  refine lv_if_eq (tgt := 45) hx hb dX1_votes_2_27 (by decide) (fun c_27 => ?_) (fun c_27 => ?_)
  · have h := h.1 c_27
    refine lv_iconst (v := (0 : Int32)) hx hb dX1_votes_2_45 (by decide) ?_
    refine jr_ldcwS (own := "Publicanry") (k := 659) (tx := "got") (n := 1659) hx hb hown hK (List.mem_of_getElem? (i := 29) rfl) dX1_votes_2_46 ?_
    refine cex_qv (fw := fun u => u) (fy := fun _ => y) (crx_S (n := 2) (As := [.int ((0 : Int32)), .ref (kA κ 1659)]) (rest := []) ⟨hx, hb, hml, hown, hts⟩ hK hR (m_X1_check hfl hW h) q794 q795 q74 q796 rfl rfl hds_X1_check ⟨Nat.le_of_ble_eq_true rfl, Nat.le_of_ble_eq_true rfl⟩ rfl rfl hl.1 rfl (lv_room (Nat.le_of_ble_eq_true rfl)) dX1_votes_2_49 ⟨(Nat.le_of_ble_eq_true rfl), (Nat.le_of_ble_eq_true rfl)⟩) hR hS ht hlocks (Nat.le_of_ble_eq_true rfl) (Nat.le_of_ble_eq_true rfl) (fun w_49 H locs h hR _ hS => ?_)
    refine lv_iload_n hx hb dX1_votes_2_52 rfl (lv_at hl 5 rfl) ?_
    refine lv_iload hx hb dX1_votes_2_53 (lv_at hl 0 rfl) ?_
    refine lv_isub hx hb dX1_votes_2_55 ?_
    refine lv_iload hx hb dX1_votes_2_56 (lv_at hl 0 rfl) ?_
    refine lv_iload hx hb dX1_votes_2_58 (lv_at hl 6 rfl) ?_
    refine ce_qi (fw := fun u => u) (fy := fun _ => y) (cr_S (n := 3) (As := [.int (p3 - r_14), .int (r_14), .int (p4)]) (rest := []) ⟨hx, hb, hml, hown, hts⟩ hK hR (m_X1_votes hW h) q1439 q1440 q74 q1441 rfl rfl hds_X1_votes ⟨Nat.le_of_ble_eq_true rfl, Nat.le_of_ble_eq_true rfl⟩ rfl rfl hl.1 rfl (lv_room (Nat.le_of_ble_eq_true rfl)) dX1_votes_2_60 ⟨(Nat.le_of_ble_eq_true rfl), (Nat.le_of_ble_eq_true rfl)⟩) hR hS (fun r_60 w_60 H locs h hR _ hS => ?_)
    refine W.widen (k := 4) (n := 21) (Nat.le_of_ble_eq_true rfl) (Nat.le_of_ble_eq_true rfl) ?_
    refine vx_ret ?_; exact W.iret (v := r_60) hx hb hr (fun t ht hW9 => ⟨⟨r_60, w_60, rfl, h, rpt ht hR⟩, hS.F ht⟩) hS.2.2 dX1_votes_2_63
  · have h := h.2 c_27
    refine lv_iload hx hb dX1_votes_2_30 (lv_at hl 6 rfl) ?_
    refine lv_iconst (v := (0 : Int32)) hx hb dX1_votes_2_32 (by decide) ?_
    refine lv_bipush (v := (7 : Int32)) hx hb dX1_votes_2_33 (by decide) ?_
    refine ce_qi (fw := fun u => u) (fy := fun _ => y) (cr_S (n := 3) (As := [.int (p4), .int ((0 : Int32)), .int ((7 : Int32))]) (rest := []) ⟨hx, hb, hml, hown, hts⟩ hK hR (m_X1_isIn hW h) q790 q791 q74 q792 rfl rfl hds_X1_isIn ⟨Nat.le_of_ble_eq_true rfl, Nat.le_of_ble_eq_true rfl⟩ rfl rfl hl.1 rfl (lv_room (Nat.le_of_ble_eq_true rfl)) dX1_votes_2_35 ⟨(Nat.le_of_ble_eq_true rfl), (Nat.le_of_ble_eq_true rfl)⟩) hR hS (fun r_35 w_35 H locs h hR _ hS => ?_)
    refine lv_if_eq (tgt := 45) hx hb dX1_votes_2_38 (by decide) (fun c_38 => ?_) (fun c_38 => ?_)
    · have h := h.1 c_38
      refine lv_iconst (v := (0 : Int32)) hx hb dX1_votes_2_45 (by decide) ?_
      refine jr_ldcwS (own := "Publicanry") (k := 659) (tx := "got") (n := 1659) hx hb hown hK (List.mem_of_getElem? (i := 29) rfl) dX1_votes_2_46 ?_
      refine cex_qv (fw := fun u => u) (fy := fun _ => y) (crx_S (n := 2) (As := [.int ((0 : Int32)), .ref (kA κ 1659)]) (rest := []) ⟨hx, hb, hml, hown, hts⟩ hK hR (m_X1_check hfl hW h) q794 q795 q74 q796 rfl rfl hds_X1_check ⟨Nat.le_of_ble_eq_true rfl, Nat.le_of_ble_eq_true rfl⟩ rfl rfl hl.1 rfl (lv_room (Nat.le_of_ble_eq_true rfl)) dX1_votes_2_49 ⟨(Nat.le_of_ble_eq_true rfl), (Nat.le_of_ble_eq_true rfl)⟩) hR hS ht hlocks (Nat.le_of_ble_eq_true rfl) (Nat.le_of_ble_eq_true rfl) (fun w_49_a H locs h hR _ hS => ?_)
      refine lv_iload_n hx hb dX1_votes_2_52 rfl (lv_at hl 5 rfl) ?_
      refine lv_iload hx hb dX1_votes_2_53 (lv_at hl 0 rfl) ?_
      refine lv_isub hx hb dX1_votes_2_55 ?_
      refine lv_iload hx hb dX1_votes_2_56 (lv_at hl 0 rfl) ?_
      refine lv_iload hx hb dX1_votes_2_58 (lv_at hl 6 rfl) ?_
      refine ce_qi (fw := fun u => u) (fy := fun _ => y) (cr_S (n := 3) (As := [.int (p3 - r_14), .int (r_14), .int (p4)]) (rest := []) ⟨hx, hb, hml, hown, hts⟩ hK hR (m_X1_votes hW h) q1439 q1440 q74 q1441 rfl rfl hds_X1_votes ⟨Nat.le_of_ble_eq_true rfl, Nat.le_of_ble_eq_true rfl⟩ rfl rfl hl.1 rfl (lv_room (Nat.le_of_ble_eq_true rfl)) dX1_votes_2_60 ⟨(Nat.le_of_ble_eq_true rfl), (Nat.le_of_ble_eq_true rfl)⟩) hR hS (fun r_60_a w_60_a H locs h hR _ hS => ?_)
      refine W.widen (k := 4) (n := 21) (Nat.le_of_ble_eq_true rfl) (Nat.le_of_ble_eq_true rfl) ?_
      refine vx_ret ?_; exact W.iret (v := r_60_a) hx hb hr (fun t ht hW9 => ⟨⟨r_60_a, w_60_a, rfl, h, rpt ht hR⟩, hS.F ht⟩) hS.2.2 dX1_votes_2_63
    · have h := h.2 c_38
      refine lv_iconst (v := (1 : Int32)) hx hb dX1_votes_2_41 (by decide) ?_
      refine lv_goto (tgt := 46) hx hb dX1_votes_2_42 (by decide) ?_
      refine jr_ldcwS (own := "Publicanry") (k := 659) (tx := "got") (n := 1659) hx hb hown hK (List.mem_of_getElem? (i := 29) rfl) dX1_votes_2_46 ?_
      refine cex_qv (fw := fun u => u) (fy := fun _ => y) (crx_S (n := 2) (As := [.int ((1 : Int32)), .ref (kA κ 1659)]) (rest := []) ⟨hx, hb, hml, hown, hts⟩ hK hR (m_X1_check hfl hW h) q794 q795 q74 q796 rfl rfl hds_X1_check ⟨Nat.le_of_ble_eq_true rfl, Nat.le_of_ble_eq_true rfl⟩ rfl rfl hl.1 rfl (lv_room (Nat.le_of_ble_eq_true rfl)) dX1_votes_2_49 ⟨(Nat.le_of_ble_eq_true rfl), (Nat.le_of_ble_eq_true rfl)⟩) hR hS ht hlocks (Nat.le_of_ble_eq_true rfl) (Nat.le_of_ble_eq_true rfl) (fun w_49_b H locs h hR _ hS => ?_)
      refine lv_iload_n hx hb dX1_votes_2_52 rfl (lv_at hl 5 rfl) ?_
      refine lv_iload hx hb dX1_votes_2_53 (lv_at hl 0 rfl) ?_
      refine lv_isub hx hb dX1_votes_2_55 ?_
      refine lv_iload hx hb dX1_votes_2_56 (lv_at hl 0 rfl) ?_
      refine lv_iload hx hb dX1_votes_2_58 (lv_at hl 6 rfl) ?_
      refine ce_qi (fw := fun u => u) (fy := fun _ => y) (cr_S (n := 3) (As := [.int (p3 - r_14), .int (r_14), .int (p4)]) (rest := []) ⟨hx, hb, hml, hown, hts⟩ hK hR (m_X1_votes hW h) q1439 q1440 q74 q1441 rfl rfl hds_X1_votes ⟨Nat.le_of_ble_eq_true rfl, Nat.le_of_ble_eq_true rfl⟩ rfl rfl hl.1 rfl (lv_room (Nat.le_of_ble_eq_true rfl)) dX1_votes_2_60 ⟨(Nat.le_of_ble_eq_true rfl), (Nat.le_of_ble_eq_true rfl)⟩) hR hS (fun r_60_b w_60_b H locs h hR _ hS => ?_)
      refine W.widen (k := 4) (n := 21) (Nat.le_of_ble_eq_true rfl) (Nat.le_of_ble_eq_true rfl) ?_
      refine vx_ret ?_; exact W.iret (v := r_60_b) hx hb hr (fun t ht hW9 => ⟨⟨r_60_b, w_60_b, rfl, h, rpt ht hR⟩, hS.F ht⟩) hS.2.2 dX1_votes_2_63
abbrev rm_X1_harvest : Room := { frames := 8, cells := 2, slots := 12, locals := 133 }
def sp_X1_harvest (κ : Kx) (y : Ly) (post : Int32 → Wd → Prop) (px : String → Wd → Prop) (w : Wd) (p1 : Int32) (p2 : Int32) : Prop := sp_X1_villageOf κ y (fun i_2 w_2 => sp_X1_isIn κ y (fun r_10 w_10 => sp_X1_check κ y (fun w_16 => sp_X10_harvest κ y (fun r_21 w_21 => post (r_21) w_21) w_16 i_2 p2) px w_10 r_10) w_2 p2 (0 : Int32) (10 : Int32)) px w p1
theorem hd_X1_harvest : yX1_harvest.cls = RX1 ∧ yX1_harvest.cls ≠ "java/lang/invoke/MethodHandle" ∧ yX1_harvest.cls ≠ "java/lang/invoke/VarHandle" ∧ (parseMethodDescriptor yX1_harvest.desc).map (fun d => d.parameters.length) = some 2 := by decide +kernel
set_option maxHeartbeats 4000000 in
theorem m_X1_harvest {l : Launch} {κ : Kx} {y : Ly} {X : XR} {post : Int32 → Wd → Prop} {px : String → Wd → Prop} {w : Wd} {p1 : Int32} {p2 : Int32}  (hfl : l.stackTraces = false) (hW : WFc κ y) (l0 : live y 0 0) (h : sp_X1_harvest κ y post px w p1 p2) : vx_Met l yX1_harvest (ws_ yX1_harvest cX1_harvest 4 (Option.some Jvm.ClassFile.FieldType.int)) rm_X1_harvest (va_Pc [.ref (y.2 0 0), .int (p1), .int (p2)] (RC κ w y X)) (va_Qi post (fun w t => Rp κ w y X [] t.heap) (Af κ)) (XCk κ y X px) 2 12 (Af κ) := by
  unfold sp_X1_harvest at h
  refine vx_ofW (cc := cX1_harvest) (maxL := 4) (ret := (Option.some Jvm.ClassFile.FieldType.int)) (by decide) rfl ?_
  intro p e s m args below meth c s₁ B hml ht hv
  obtain ⟨rfl, hR, hK⟩ := hv
  have hx := B.exec
  have hb := B.bytes
  have hr := B.returns
  have hts := atoms_spec (ws := ws_ yX1_harvest cX1_harvest 4 (Option.some Jvm.ClassFile.FieldType.int)) B.pre
  have hts : ∀ w ∈ lw_all, w.before _ s = true := fun w h => hts w (List.mem_cons_of_mem _ h)
  have hown : s.vm.findClass RX1 = some m.cls := findClass_of_methodNamed B.named
  have hlocks := B.notSynchronized
  have hR0 := hR
  have hS : va_S (Af κ) s.heap s.heap [] := va_S.rf
  have hl := lv_entry ([.ref (y.2 0 0), .int (p1), .int (p2)]) (n := 4) (Nat.le_of_ble_eq_true rfl)
  rw [lg_entry_eq]
  generalize (lg_sl ([.ref (y.2 0 0), .int (p1), .int (p2)]) ++ List.replicate (4 - (lg_sl ([.ref (y.2 0 0), .int (p1), .int (p2)])).length) Slot.unset).toArray = ls at hl ⊢
  have hl : lv_has ls 4 [(0, .ref (y.2 0 0)), (1, .int (p1)), (2, .int (p2))] := hl
  refine lv_aload_n hx hb dX1_harvest_0 rfl (lv_at hl 0 rfl) ?_
  refine lv_iload_n hx hb dX1_harvest_1 rfl (lv_at hl 1 rfl) ?_
  refine cex_qr (fw := fun u : Nat × Wd => u.2) (fy := fun _ => y) (P := (fun (u : Nat × Wd) ra => ra = y.2 6 u.1 ∧ live y 6 u.1)) (crx_V (n := 1) (As := [.int (p1)]) (rest := []) ⟨hx, hb, hml, hown, hts⟩ hK hR (m_X1_villageOf hfl hW l0 h) q1029 q1031 qs20 q74 q1032 rfl rfl hd_X1_villageOf ⟨Nat.le_of_ble_eq_true rfl, Nat.le_of_ble_eq_true rfl⟩ (rv hK hR l0 (ci := 0) rfl rfl) rfl rfl hl.1 rfl (lv_room (Nat.le_of_ble_eq_true rfl)) dX1_harvest_2 ⟨(Nat.le_of_ble_eq_true rfl), (Nat.le_of_ble_eq_true rfl)⟩) hR hS ht hlocks (Nat.le_of_ble_eq_true rfl) (Nat.le_of_ble_eq_true rfl) (fun u9 a_2 H locs h p9 hR _ hS => ?_)
  obtain ⟨i_2, w_2⟩ := u9
  obtain ⟨e9, lv_2⟩ := p9
  dsimp only at e9 lv_2
  subst e9
  refine lv_astore_n (lv' := [(3, .ref (y.2 6 i_2)), (0, .ref (y.2 0 0)), (1, .int (p1)), (2, .int (p2))]) hx hb dX1_harvest_5 rfl hl (by decide) rfl (fun ls hl => ?_)
  refine lv_iload_n hx hb dX1_harvest_6 rfl (lv_at hl 3 rfl) ?_
  refine lv_iconst (v := (0 : Int32)) hx hb dX1_harvest_7 (by decide) ?_
  refine lv_bipush (v := (10 : Int32)) hx hb dX1_harvest_8 (by decide) ?_
  refine ce_qi (fw := fun u => u) (fy := fun _ => y) (cr_S (n := 3) (As := [.int (p2), .int ((0 : Int32)), .int ((10 : Int32))]) (rest := []) ⟨hx, hb, hml, hown, hts⟩ hK hR (m_X1_isIn hW h) q790 q791 q74 q792 rfl rfl hds_X1_isIn ⟨Nat.le_of_ble_eq_true rfl, Nat.le_of_ble_eq_true rfl⟩ rfl rfl hl.1 rfl (lv_room (Nat.le_of_ble_eq_true rfl)) dX1_harvest_10 ⟨(Nat.le_of_ble_eq_true rfl), (Nat.le_of_ble_eq_true rfl)⟩) hR hS (fun r_10 w_10 H locs h hR _ hS => ?_)
  refine jr_ldcwS (own := "Publicanry") (k := 660) (tx := "sky") (n := 1660) hx hb hown hK (List.mem_of_getElem? (i := 30) rfl) dX1_harvest_13 ?_
  refine cex_qv (fw := fun u => u) (fy := fun _ => y) (crx_S (n := 2) (As := [.int (r_10), .ref (kA κ 1660)]) (rest := []) ⟨hx, hb, hml, hown, hts⟩ hK hR (m_X1_check hfl hW h) q794 q795 q74 q796 rfl rfl hds_X1_check ⟨Nat.le_of_ble_eq_true rfl, Nat.le_of_ble_eq_true rfl⟩ rfl rfl hl.1 rfl (lv_room (Nat.le_of_ble_eq_true rfl)) dX1_harvest_16 ⟨(Nat.le_of_ble_eq_true rfl), (Nat.le_of_ble_eq_true rfl)⟩) hR hS ht hlocks (Nat.le_of_ble_eq_true rfl) (Nat.le_of_ble_eq_true rfl) (fun w_16 H locs h hR _ hS => ?_)
  refine lv_aload_n hx hb dX1_harvest_19 rfl (lv_at hl 0 rfl) ?_
  refine lv_iload_n hx hb dX1_harvest_20 rfl (lv_at hl 3 rfl) ?_
  refine ce_qi (fw := fun u => u) (fy := fun _ => y) (cr_V (n := 1) (As := [.int (p2)]) (rest := []) ⟨hx, hb, hml, hown, hts⟩ hK hR (m_X10_harvest hW lv_2 h) q1922 q1526 q1527 q92 q1528 rfl rfl hd_X10_harvest ⟨Nat.le_of_ble_eq_true rfl, Nat.le_of_ble_eq_true rfl⟩ (rv hK hR lv_2 (ci := 6) rfl rfl) rfl rfl hl.1 rfl (lv_room (Nat.le_of_ble_eq_true rfl)) dX1_harvest_21 ⟨(Nat.le_of_ble_eq_true rfl), (Nat.le_of_ble_eq_true rfl)⟩) hR hS (fun r_21 w_21 H locs h hR _ hS => ?_)
  refine W.widen (k := 2) (n := 12) (Nat.le_of_ble_eq_true rfl) (Nat.le_of_ble_eq_true rfl) ?_
  refine vx_ret ?_; exact W.iret (v := r_21) hx hb hr (fun t ht hW9 => ⟨⟨r_21, w_21, rfl, h, rpt ht hR⟩, hS.F ht⟩) hS.2.2 dX1_harvest_24
abbrev rm_X10_borrow : Room := { frames := 2, cells := 0, slots := 0, locals := 43 }
def sp_X10_borrow (κ : Kx) (y : Ly) (post : Wd → Prop) (w : Wd) (a0 : Nat) (p1 : Int32) (a2 : Nat) : Prop := ∀ w_7 : Wd, w_7 = sv w 6 a0 10 ((gv w 6 a0 10) + p1) → sp_X3_pay κ y (fun r_13 w_13 => post w_13) w_7 a2 p1
theorem hd_X10_borrow : yX10_borrow.cls = RX10 ∧ yX10_borrow.cls ≠ "java/lang/invoke/MethodHandle" ∧ yX10_borrow.cls ≠ "java/lang/invoke/VarHandle" ∧ (parseMethodDescriptor yX10_borrow.desc).map (fun d => d.parameters.length) = some 3 := by decide +kernel
set_option maxHeartbeats 4000000 in
theorem m_X10_borrow {l : Launch} {κ : Kx} {y : Ly} {X : XR} {post : Wd → Prop} {w : Wd} {a0 : Nat} {p1 : Int32} {a2 : Nat}  (hW : WFc κ y) (l0 : live y 6 a0) (l2 : live y 1 a2) (l3 : live y 1 0) (h : sp_X10_borrow κ y post w a0 p1 a2) : Met l yX10_borrow (ws_ yX10_borrow cX10_borrow 4 (Option.none : Option Jvm.ClassFile.FieldType)) rm_X10_borrow (va_Pc [.ref (y.2 6 a0), .int (p1), .ref (y.2 1 a2), .ref (y.2 1 0)] (RC κ w y X)) (va_Qv post (fun w t => Rp κ w y X [] t.heap) (Af κ)) 0 0 (Af κ) := by
  unfold sp_X10_borrow at h
  refine Met.ofW (cc := cX10_borrow) (maxL := 4) (ret := (Option.none : Option Jvm.ClassFile.FieldType)) (by decide) rfl ?_
  intro p e s m args below meth c s₁ B hml hv
  obtain ⟨rfl, hR, hK⟩ := hv
  have hx := B.exec
  have hb := B.bytes
  have hr := B.returns
  have hts := atoms_spec (ws := ws_ yX10_borrow cX10_borrow 4 (Option.none : Option Jvm.ClassFile.FieldType)) B.pre
  have hts : ∀ w ∈ lw_all, w.before _ s = true := fun w h => hts w (List.mem_cons_of_mem _ h)
  have hown : s.vm.findClass RX10 = some m.cls := findClass_of_methodNamed B.named
  have hlocks := B.notSynchronized
  have hS : va_S (Af κ) s.heap s.heap [] := va_S.rf
  have hl := lv_entry ([.ref (y.2 6 a0), .int (p1), .ref (y.2 1 a2), .ref (y.2 1 0)]) (n := 4) (Nat.le_of_ble_eq_true rfl)
  rw [lg_entry_eq]
  generalize (lg_sl ([.ref (y.2 6 a0), .int (p1), .ref (y.2 1 a2), .ref (y.2 1 0)]) ++ List.replicate (4 - (lg_sl ([.ref (y.2 6 a0), .int (p1), .ref (y.2 1 a2), .ref (y.2 1 0)])).length) Slot.unset).toArray = ls at hl ⊢
  have hl : lv_has ls 4 [(0, .ref (y.2 6 a0)), (1, .int (p1)), (2, .ref (y.2 1 a2)), (3, .ref (y.2 1 0))] := hl
  refine lv_aload_n hx hb dX10_borrow_0 rfl (lv_at hl 0 rfl) ?_
  refine lv_dup hx hb dX10_borrow_1 rfl ?_
  refine g6_10 hx hb hts hown hK hR l0 q941 dX10_borrow_2 ?_
  refine lv_iload_n hx hb dX10_borrow_5 rfl (lv_at hl 1 rfl) ?_
  refine lv_iadd hx hb dX10_borrow_6 ?_
  refine p6_10 hx hb hts hown hK hR hS l0 q941 dX10_borrow_7 (fun H locs w_7 ew_7 hR hS => ?_)
  have h := h w_7 ew_7
  refine lv_aload_n hx hb dX10_borrow_10 rfl (lv_at hl 3 rfl) ?_
  refine lv_aload_n hx hb dX10_borrow_11 rfl (lv_at hl 2 rfl) ?_
  refine lv_iload_n hx hb dX10_borrow_12 rfl (lv_at hl 1 rfl) ?_
  refine ce_qi (fw := fun u => u) (fy := fun _ => y) (cr_O (C := RX3) (owner := "Publicanry$Chest") (Z := yX2_pay) (n := 2) (As := [.ref (y.2 1 a2), .int (p1)]) (rest := []) ⟨hx, hb, hml, hown, hts⟩ hK hR (m_X3_pay hW l3 l2 h) q662 q309 q307 q310 q311 q79 q312 q320 rfl rfl (by decide +kernel) ⟨Nat.le_of_ble_eq_true rfl, Nat.le_of_ble_eq_true rfl⟩ (rv_ch0 hK hR l3) rfl rfl hl.1 rfl (lv_room (Nat.le_of_ble_eq_true rfl)) dX10_borrow_13 ⟨(Nat.le_of_ble_eq_true rfl), (Nat.le_of_ble_eq_true rfl)⟩) hR hS (fun r_13 w_13 H locs h hR _ hS => ?_)
  refine lv_pop hx hb dX10_borrow_16 rfl ?_
  refine W.widen (k := 0) (n := 0) (Nat.le_of_ble_eq_true rfl) (Nat.le_of_ble_eq_true rfl) ?_
  exact W.vret hx hb hr (fun t ht hW9 => ⟨⟨w_13, rfl, h, rpt ht hR⟩, hS.F ht⟩) hS.2.2 dX10_borrow_17
abbrev rm_X10_due : Room := { frames := 1, cells := 0, slots := 0, locals := 22 }
def sp_X10_due (κ : Kx) (y : Ly) (post : Int32 → Wd → Prop) (w : Wd) (a0 : Nat) (a1 : Nat) : Prop := (vp_in (nI a1) 3) ∧ (((gv w 8 a0 (nI a1).toNatClampNeg = 0) → ((vp_in (nI a1) 3) ∧ (sp_D_due κ y (fun r_27 w_27 => post (r_27) w_27) w a1 a0 (gv w 7 a0 (nI a1).toNatClampNeg)))) ∧ ((¬ (gv w 8 a0 (nI a1).toNatClampNeg = 0)) → (post ((0 : Int32)) w)))
theorem hd_X10_due : yX10_due.cls = RX10 ∧ yX10_due.cls ≠ "java/lang/invoke/MethodHandle" ∧ yX10_due.cls ≠ "java/lang/invoke/VarHandle" ∧ (parseMethodDescriptor yX10_due.desc).map (fun d => d.parameters.length) = some 1 := by decide +kernel
set_option maxHeartbeats 4000000 in
theorem m_X10_due {l : Launch} {κ : Kx} {y : Ly} {X : XR} {post : Int32 → Wd → Prop} {w : Wd} {a0 : Nat} {a1 : Nat}  (hW : WFc κ y) (l0 : live y 6 a0) (l1 : a1 < 3) (h : sp_X10_due κ y post w a0 a1) : Met l yX10_due (ws_ yX10_due cX10_due 2 (Option.some Jvm.ClassFile.FieldType.int)) rm_X10_due (va_Pc [.ref (y.2 6 a0), .ref (kA κ (20 + a1))] (RC κ w y X)) (va_Qi post (fun w t => Rp κ w y X [] t.heap) (Af κ)) 0 0 (Af κ) := by
  unfold sp_X10_due at h
  refine Met.ofW (cc := cX10_due) (maxL := 2) (ret := (Option.some Jvm.ClassFile.FieldType.int)) (by decide) rfl ?_
  intro p e s m args below meth c s₁ B hml hv
  obtain ⟨rfl, hR, hK⟩ := hv
  have hx := B.exec
  have hb := B.bytes
  have hr := B.returns
  have hts := atoms_spec (ws := ws_ yX10_due cX10_due 2 (Option.some Jvm.ClassFile.FieldType.int)) B.pre
  have hts : ∀ w ∈ lw_all, w.before _ s = true := fun w h => hts w (List.mem_cons_of_mem _ h)
  have hown : s.vm.findClass RX10 = some m.cls := findClass_of_methodNamed B.named
  have hlocks := B.notSynchronized
  have hS : va_S (Af κ) s.heap s.heap [] := va_S.rf
  have hl := lv_entry ([.ref (y.2 6 a0), .ref (kA κ (20 + a1))]) (n := 2) (Nat.le_of_ble_eq_true rfl)
  rw [lg_entry_eq]
  generalize (lg_sl ([.ref (y.2 6 a0), .ref (kA κ (20 + a1))]) ++ List.replicate (2 - (lg_sl ([.ref (y.2 6 a0), .ref (kA κ (20 + a1))])).length) Slot.unset).toArray = ls at hl ⊢
  have hl : lv_has ls 2 [(0, .ref (y.2 6 a0)), (1, .ref (kA κ (20 + a1)))] := hl
  refine lv_aload_n hx hb dX10_due_0 rfl (lv_at hl 0 rfl) ?_
  refine g6_4 hx hb hts hown hK hR l0 q927 dX10_due_1 ?_
  refine lv_aload_n hx hb dX10_due_4 rfl (lv_at hl 1 rfl) ?_
  refine ce_s (cr_oD (rest := [.ref (y.2 8 a0)]) ⟨hx, hb, hml, hown, hts⟩ hK hR l1 q683 ⟨Nat.le_of_ble_eq_true rfl, Nat.le_of_ble_eq_true rfl⟩ rfl hl.1 rfl (lv_room (Nat.le_of_ble_eq_true rfl)) dX10_due_5 ⟨(Nat.le_of_ble_eq_true rfl), (Nat.le_of_ble_eq_true rfl)⟩) ?_
  have o_8 := h.1
  have h := h.2
  refine a8 hx hb hK hR (hW.vex l0) o_8 dX10_due_8 ?_
  refine lv_if_eq (tgt := 16) hx hb dX10_due_9 (by decide) (fun c_9 => ?_) (fun c_9 => ?_)
  · have h := h.1 c_9
    refine lv_aload_n hx hb dX10_due_16 rfl (lv_at hl 1 rfl) ?_
    refine lv_aload_n hx hb dX10_due_17 rfl (lv_at hl 0 rfl) ?_
    refine lv_aload_n hx hb dX10_due_18 rfl (lv_at hl 0 rfl) ?_
    refine g6_3 hx hb hts hown hK hR l0 q926 dX10_due_19 ?_
    refine lv_aload_n hx hb dX10_due_22 rfl (lv_at hl 1 rfl) ?_
    refine ce_s (cr_oD (rest := [.ref (y.2 7 a0), .ref (y.2 6 a0), .ref (kA κ (20 + a1))]) ⟨hx, hb, hml, hown, hts⟩ hK hR l1 q683 ⟨Nat.le_of_ble_eq_true rfl, Nat.le_of_ble_eq_true rfl⟩ rfl hl.1 rfl (lv_room (Nat.le_of_ble_eq_true rfl)) dX10_due_23 ⟨(Nat.le_of_ble_eq_true rfl), (Nat.le_of_ble_eq_true rfl)⟩) ?_
    have o_26 := h.1
    have h := h.2
    refine a7 hx hb hK hR (hW.vra l0) o_26 dX10_due_26 ?_
    refine ce_qi (fw := fun u => u) (fy := fun _ => y) (cr_due (As := [.ref (y.2 6 a0), .int (gv w 7 a0 (nI a1).toNatClampNeg)]) (rest := []) ⟨hx, hb, hml, hown, hts⟩ hK hR l1 qi_ret (fun e9 => m_X18_due hW l1 l0 (h.1 e9)) ⟨rfl, rfl⟩ ⟨Nat.le_of_ble_eq_true rfl, Nat.le_of_ble_eq_true rfl⟩ (fun e9 => m_X19_due hW l1 l0 (h.2.1 e9)) ⟨rfl, rfl⟩ ⟨Nat.le_of_ble_eq_true rfl, Nat.le_of_ble_eq_true rfl⟩ (fun e9 => m_X20_due hW l1 l0 (h.2.2 e9)) ⟨rfl, rfl⟩ ⟨Nat.le_of_ble_eq_true rfl, Nat.le_of_ble_eq_true rfl⟩ q684 rfl rfl hl.1 rfl (lv_room (Nat.le_of_ble_eq_true rfl)) dX10_due_27 ⟨(Nat.le_of_ble_eq_true rfl), (Nat.le_of_ble_eq_true rfl)⟩) hR hS (fun r_27 w_27 H locs h hR _ hS => ?_)
    refine W.widen (k := 0) (n := 0) (Nat.le_of_ble_eq_true rfl) (Nat.le_of_ble_eq_true rfl) ?_
    exact W.iret (v := r_27) hx hb hr (fun t ht hW9 => ⟨⟨r_27, w_27, rfl, h, rpt ht hR⟩, hS.F ht⟩) hS.2.2 dX10_due_30
  · have h := h.2 c_9
    refine lv_iconst (v := (0 : Int32)) hx hb dX10_due_12 (by decide) ?_
    refine lv_goto (tgt := 30) hx hb dX10_due_13 (by decide) ?_
    refine W.widen (k := 0) (n := 0) (Nat.le_of_ble_eq_true rfl) (Nat.le_of_ble_eq_true rfl) ?_
    exact W.iret (v := (0 : Int32)) hx hb hr (fun t ht hW9 => ⟨⟨(0 : Int32), w, rfl, h, rpt ht hR⟩, hS.F ht⟩) hS.2.2 dX10_due_30
abbrev rm_X10_reap : Room := { frames := 1, cells := 0, slots := 0, locals := 24 }
def sp_X10_reap (κ : Kx) (y : Ly) (post : Wd → Prop) (w : Wd) (a0 : Nat) (p1 : Int32) : Prop := sp_X10_harvest κ y (fun r_3 w_3 => ∀ w_6 : Wd, w_6 = sv w_3 6 a0 13 (r_3) → ∀ w_19 : Wd, w_19 = sv w_6 6 a0 9 ((gv w_6 6 a0 9) + (gv w_6 6 a0 13)) → ∀ w_41 : Wd, w_41 = sv w_19 6 a0 8 (jmin (600 : Int32) ((gv w_19 6 a0 8) + ((gv w_19 6 a0 8) / (10 : Int32)))) → post w_41) w a0 p1
theorem hd_X10_reap : yX10_reap.cls = RX10 ∧ yX10_reap.cls ≠ "java/lang/invoke/MethodHandle" ∧ yX10_reap.cls ≠ "java/lang/invoke/VarHandle" ∧ (parseMethodDescriptor yX10_reap.desc).map (fun d => d.parameters.length) = some 1 := by decide +kernel
set_option maxHeartbeats 4000000 in
theorem m_X10_reap {l : Launch} {κ : Kx} {y : Ly} {X : XR} {post : Wd → Prop} {w : Wd} {a0 : Nat} {p1 : Int32}  (hW : WFc κ y) (l0 : live y 6 a0) (h : sp_X10_reap κ y post w a0 p1) : Met l yX10_reap (ws_ yX10_reap cX10_reap 2 (Option.none : Option Jvm.ClassFile.FieldType)) rm_X10_reap (va_Pc [.ref (y.2 6 a0), .int (p1)] (RC κ w y X)) (va_Qv post (fun w t => Rp κ w y X [] t.heap) (Af κ)) 0 0 (Af κ) := by
  unfold sp_X10_reap at h
  refine Met.ofW (cc := cX10_reap) (maxL := 2) (ret := (Option.none : Option Jvm.ClassFile.FieldType)) (by decide) rfl ?_
  intro p e s m args below meth c s₁ B hml hv
  obtain ⟨rfl, hR, hK⟩ := hv
  have hx := B.exec
  have hb := B.bytes
  have hr := B.returns
  have hts := atoms_spec (ws := ws_ yX10_reap cX10_reap 2 (Option.none : Option Jvm.ClassFile.FieldType)) B.pre
  have hts : ∀ w ∈ lw_all, w.before _ s = true := fun w h => hts w (List.mem_cons_of_mem _ h)
  have hown : s.vm.findClass RX10 = some m.cls := findClass_of_methodNamed B.named
  have hlocks := B.notSynchronized
  have hS : va_S (Af κ) s.heap s.heap [] := va_S.rf
  have hl := lv_entry ([.ref (y.2 6 a0), .int (p1)]) (n := 2) (Nat.le_of_ble_eq_true rfl)
  rw [lg_entry_eq]
  generalize (lg_sl ([.ref (y.2 6 a0), .int (p1)]) ++ List.replicate (2 - (lg_sl ([.ref (y.2 6 a0), .int (p1)])).length) Slot.unset).toArray = ls at hl ⊢
  have hl : lv_has ls 2 [(0, .ref (y.2 6 a0)), (1, .int (p1))] := hl
  refine lv_aload_n hx hb dX10_reap_0 rfl (lv_at hl 0 rfl) ?_
  refine lv_aload_n hx hb dX10_reap_1 rfl (lv_at hl 0 rfl) ?_
  refine lv_iload_n hx hb dX10_reap_2 rfl (lv_at hl 1 rfl) ?_
  refine ce_qi (fw := fun u => u) (fy := fun _ => y) (cr_V (n := 1) (As := [.int (p1)]) (rest := [.ref (y.2 6 a0)]) ⟨hx, hb, hml, hown, hts⟩ hK hR (m_X10_harvest hW l0 h) q1525 q1526 q1527 q92 q1528 rfl rfl hd_X10_harvest ⟨Nat.le_of_ble_eq_true rfl, Nat.le_of_ble_eq_true rfl⟩ (rv hK hR l0 (ci := 6) rfl rfl) rfl rfl hl.1 rfl (lv_room (Nat.le_of_ble_eq_true rfl)) dX10_reap_3 ⟨(Nat.le_of_ble_eq_true rfl), (Nat.le_of_ble_eq_true rfl)⟩) hR hS (fun r_3 w_3 H locs h hR _ hS => ?_)
  refine p6_13 hx hb hts hown hK hR hS l0 q948 dX10_reap_6 (fun H locs w_6 ew_6 hR hS => ?_)
  have h := h w_6 ew_6
  refine lv_aload_n hx hb dX10_reap_9 rfl (lv_at hl 0 rfl) ?_
  refine lv_dup hx hb dX10_reap_10 rfl ?_
  refine g6_9 hx hb hts hown hK hR l0 q938 dX10_reap_11 ?_
  refine lv_aload_n hx hb dX10_reap_14 rfl (lv_at hl 0 rfl) ?_
  refine g6_13 hx hb hts hown hK hR l0 q948 dX10_reap_15 ?_
  refine lv_iadd hx hb dX10_reap_18 ?_
  refine p6_9 hx hb hts hown hK hR hS l0 q938 dX10_reap_19 (fun H locs w_19 ew_19 hR hS => ?_)
  have h := h w_19 ew_19
  refine lv_aload_n hx hb dX10_reap_22 rfl (lv_at hl 0 rfl) ?_
  refine lv_sipush (v := (600 : Int32)) hx hb dX10_reap_23 (by decide) ?_
  refine lv_aload_n hx hb dX10_reap_26 rfl (lv_at hl 0 rfl) ?_
  refine g6_8 hx hb hts hown hK hR l0 q935 dX10_reap_27 ?_
  refine lv_aload_n hx hb dX10_reap_30 rfl (lv_at hl 0 rfl) ?_
  refine g6_8 hx hb hts hown hK hR l0 q935 dX10_reap_31 ?_
  refine lv_bipush (v := (10 : Int32)) hx hb dX10_reap_34 (by decide) ?_
  refine lv_idiv hx hb dX10_reap_36 (by decide) ?_
  refine lv_iadd hx hb dX10_reap_37 ?_
  refine va_mmin hx hb (hml.trans hl.1.symm) hown (hts _ q1529) (hts _ q322) (hts _ q95) (hts _ q323) (Nat.le_of_ble_eq_true rfl) (Nat.le_of_ble_eq_true rfl) (Nat.le_of_ble_eq_true rfl) (Nat.le_of_ble_eq_true rfl) dX10_reap_38 ?_
  refine p6_8 hx hb hts hown hK hR hS l0 q935 dX10_reap_41 (fun H locs w_41 ew_41 hR hS => ?_)
  have h := h w_41 ew_41
  refine W.widen (k := 0) (n := 0) (Nat.le_of_ble_eq_true rfl) (Nat.le_of_ble_eq_true rfl) ?_
  exact W.vret hx hb hr (fun t ht hW9 => ⟨⟨w_41, rfl, h, rpt ht hR⟩, hS.F ht⟩) hS.2.2 dX10_reap_44
abbrev rm_X10_eat : Room := { frames := 4, cells := 0, slots := 0, locals := 88 }
def sp_X10_eat (κ : Kx) (y : Ly) (post : Wd → Prop) (w : Wd) (a0 : Nat) : Prop := ∀ x_13 : Int32, x_13 = jmax (0 : Int32) ((gv w 6 a0 6) - (gv w 6 a0 9)) → ∀ w_28 : Wd, w_28 = sv w 6 a0 9 (jmax (0 : Int32) ((gv w 6 a0 9) - (gv w 6 a0 6))) → sp_X2_coins κ y (fun r_36 w_36 => ∀ x_44 : Int32, x_44 = jmin x_13 (r_36 / (3 : Int32)) → sp_X2_pay κ y (fun r_53 w_53 => ∀ w_68 : Wd, w_68 = sv w_53 6 a0 10 ((gv w_53 6 a0 10) + ((4 : Int32) * (x_13 - x_44))) → ((gv w_68 6 a0 10 ≤ (12 : Int32) * (gv w_68 6 a0 6)) → (sp_X10_stir κ y (fun w_94 => ((gv w_94 6 a0 11 < (12 : Int32)) → ((((5 : Int32) ≤ gv w_94 6 a0 11) → (post w_94)) ∧ ((¬ ((5 : Int32) ≤ gv w_94 6 a0 11)) → (∀ w_121 : Wd, w_121 = sv w_94 6 a0 16 ((0 : Int32)) → post w_121)))) ∧ ((¬ (gv w_94 6 a0 11 < (12 : Int32))) → (∀ w_108 : Wd, w_108 = sv w_94 6 a0 16 ((1 : Int32)) → (((5 : Int32) ≤ gv w_108 6 a0 11) → (post w_108)) ∧ ((¬ ((5 : Int32) ≤ gv w_108 6 a0 11)) → (∀ w_121_a : Wd, w_121_a = sv w_108 6 a0 16 ((0 : Int32)) → post w_121_a))))) w_68 a0 (-1 : Int32))) ∧ ((¬ (gv w_68 6 a0 10 ≤ (12 : Int32) * (gv w_68 6 a0 6))) → (sp_X10_flee κ y (fun w_86 => ((gv w_86 6 a0 11 < (12 : Int32)) → ((((5 : Int32) ≤ gv w_86 6 a0 11) → (post w_86)) ∧ ((¬ ((5 : Int32) ≤ gv w_86 6 a0 11)) → (∀ w_121_b : Wd, w_121_b = sv w_86 6 a0 16 ((0 : Int32)) → post w_121_b)))) ∧ ((¬ (gv w_86 6 a0 11 < (12 : Int32))) → (∀ w_108_a : Wd, w_108_a = sv w_86 6 a0 16 ((1 : Int32)) → (((5 : Int32) ≤ gv w_108_a 6 a0 11) → (post w_108_a)) ∧ ((¬ ((5 : Int32) ≤ gv w_108_a 6 a0 11)) → (∀ w_121_c : Wd, w_121_c = sv w_108_a 6 a0 16 ((0 : Int32)) → post w_121_c))))) w_68 a0))) w_36 (((3 + a0))) 0 ((3 : Int32) * x_44)) w_28 (((3 + a0)))
theorem hd_X10_eat : yX10_eat.cls = RX10 ∧ yX10_eat.cls ≠ "java/lang/invoke/MethodHandle" ∧ yX10_eat.cls ≠ "java/lang/invoke/VarHandle" ∧ (parseMethodDescriptor yX10_eat.desc).map (fun d => d.parameters.length) = some 1 := by decide +kernel
set_option maxHeartbeats 4000000 in
theorem m_X10_eat {l : Launch} {κ : Kx} {y : Ly} {X : XR} {post : Wd → Prop} {w : Wd} {a0 : Nat}  (hW : WFc κ y) (l0 : live y 6 a0) (l1 : live y 1 0) (h : sp_X10_eat κ y post w a0) : Met l yX10_eat (ws_ yX10_eat cX10_eat 4 (Option.none : Option Jvm.ClassFile.FieldType)) rm_X10_eat (va_Pc [.ref (y.2 6 a0), .ref (y.2 1 0)] (RC κ w y X)) (va_Qv post (fun w t => Rp κ w y X [] t.heap) (Af κ)) 0 0 (Af κ) := by
  unfold sp_X10_eat at h
  refine Met.ofW (cc := cX10_eat) (maxL := 4) (ret := (Option.none : Option Jvm.ClassFile.FieldType)) (by decide) rfl ?_
  intro p e s m args below meth c s₁ B hml hv
  obtain ⟨rfl, hR, hK⟩ := hv
  have hx := B.exec
  have hb := B.bytes
  have hr := B.returns
  have hts := atoms_spec (ws := ws_ yX10_eat cX10_eat 4 (Option.none : Option Jvm.ClassFile.FieldType)) B.pre
  have hts : ∀ w ∈ lw_all, w.before _ s = true := fun w h => hts w (List.mem_cons_of_mem _ h)
  have hown : s.vm.findClass RX10 = some m.cls := findClass_of_methodNamed B.named
  have hlocks := B.notSynchronized
  have hS : va_S (Af κ) s.heap s.heap [] := va_S.rf
  have hl := lv_entry ([.ref (y.2 6 a0), .ref (y.2 1 0)]) (n := 4) (Nat.le_of_ble_eq_true rfl)
  rw [lg_entry_eq]
  generalize (lg_sl ([.ref (y.2 6 a0), .ref (y.2 1 0)]) ++ List.replicate (4 - (lg_sl ([.ref (y.2 6 a0), .ref (y.2 1 0)])).length) Slot.unset).toArray = ls at hl ⊢
  have hl : lv_has ls 4 [(0, .ref (y.2 6 a0)), (1, .ref (y.2 1 0))] := hl
  refine lv_iconst (v := (0 : Int32)) hx hb dX10_eat_0 (by decide) ?_
  refine lv_aload_n hx hb dX10_eat_1 rfl (lv_at hl 0 rfl) ?_
  refine g6_6 hx hb hts hown hK hR l0 q930 dX10_eat_2 ?_
  refine lv_aload_n hx hb dX10_eat_5 rfl (lv_at hl 0 rfl) ?_
  refine g6_9 hx hb hts hown hK hR l0 q938 dX10_eat_6 ?_
  refine lv_isub hx hb dX10_eat_9 ?_
  refine va_mmax hx hb (hml.trans hl.1.symm) hown (hts _ q1578) (hts _ q642) (hts _ q95) (hts _ q643) (Nat.le_of_ble_eq_true rfl) (Nat.le_of_ble_eq_true rfl) (Nat.le_of_ble_eq_true rfl) (Nat.le_of_ble_eq_true rfl) dX10_eat_10 ?_
  refine lv_topi (fun x_13 ex_13 => ?_)
  have h := h x_13 ex_13
  refine lv_istore_n (lv' := [(2, .int (x_13)), (0, .ref (y.2 6 a0)), (1, .ref (y.2 1 0))]) hx hb dX10_eat_13 rfl hl (by decide) rfl (fun ls hl => ?_)
  refine lv_aload_n hx hb dX10_eat_14 rfl (lv_at hl 1 rfl) ?_
  refine lv_iconst (v := (0 : Int32)) hx hb dX10_eat_15 (by decide) ?_
  refine lv_aload_n hx hb dX10_eat_16 rfl (lv_at hl 1 rfl) ?_
  refine g6_9 hx hb hts hown hK hR l0 q938 dX10_eat_17 ?_
  refine lv_aload_n hx hb dX10_eat_20 rfl (lv_at hl 1 rfl) ?_
  refine g6_6 hx hb hts hown hK hR l0 q930 dX10_eat_21 ?_
  refine lv_isub hx hb dX10_eat_24 ?_
  refine va_mmax hx hb (hml.trans hl.1.symm) hown (hts _ q1578) (hts _ q642) (hts _ q95) (hts _ q643) (Nat.le_of_ble_eq_true rfl) (Nat.le_of_ble_eq_true rfl) (Nat.le_of_ble_eq_true rfl) (Nat.le_of_ble_eq_true rfl) dX10_eat_25 ?_
  refine p6_9 hx hb hts hown hK hR hS l0 q938 dX10_eat_28 (fun H locs w_28 ew_28 hR hS => ?_)
  have h := h w_28 ew_28
  refine lv_iload_n hx hb dX10_eat_31 rfl (lv_at hl 0 rfl) ?_
  refine lv_aload_n hx hb dX10_eat_32 rfl (lv_at hl 1 rfl) ?_
  refine g6_2 hx hb hts hown hK hR l0 q923 dX10_eat_33 ?_
  refine ce_qi (fw := fun u => u) (fy := fun _ => y) (cr_V (n := 0) (As := []) (rest := [.int (x_13)]) ⟨hx, hb, hml, hown, hts⟩ hK hR (m_X2_coins hW (hW.vch l0) h) q1579 q301 q302 q78 q305 rfl rfl hd_X2_coins ⟨Nat.le_of_ble_eq_true rfl, Nat.le_of_ble_eq_true rfl⟩ (rv_ch1 hK hR (hW.vch l0) (by omega)) rfl rfl hl.1 rfl (lv_room (Nat.le_of_ble_eq_true rfl)) dX10_eat_36 ⟨(Nat.le_of_ble_eq_true rfl), (Nat.le_of_ble_eq_true rfl)⟩) hR hS (fun r_36 w_36 H locs h hR _ hS => ?_)
  refine lv_iconst (v := (3 : Int32)) hx hb dX10_eat_39 (by decide) ?_
  refine lv_idiv hx hb dX10_eat_40 (by decide) ?_
  refine va_mmin hx hb (hml.trans hl.1.symm) hown (hts _ q1529) (hts _ q322) (hts _ q95) (hts _ q323) (Nat.le_of_ble_eq_true rfl) (Nat.le_of_ble_eq_true rfl) (Nat.le_of_ble_eq_true rfl) (Nat.le_of_ble_eq_true rfl) dX10_eat_41 ?_
  refine lv_topi (fun x_44 ex_44 => ?_)
  have h := h x_44 ex_44
  refine lv_istore_n (lv' := [(3, .int (x_44)), (2, .int (x_13)), (0, .ref (y.2 6 a0)), (1, .ref (y.2 1 0))]) hx hb dX10_eat_44 rfl hl (by decide) rfl (fun ls hl => ?_)
  refine lv_aload_n hx hb dX10_eat_45 rfl (lv_at hl 2 rfl) ?_
  refine g6_2 hx hb hts hown hK hR l0 q923 dX10_eat_46 ?_
  refine lv_aload_n hx hb dX10_eat_49 rfl (lv_at hl 3 rfl) ?_
  refine lv_iconst (v := (3 : Int32)) hx hb dX10_eat_50 (by decide) ?_
  refine lv_iload_n hx hb dX10_eat_51 rfl (lv_at hl 0 rfl) ?_
  refine lv_imul hx hb dX10_eat_52 ?_
  refine ce_qi (fw := fun u => u) (fy := fun _ => y) (cr_V (n := 2) (As := [.ref (y.2 1 0), .int ((3 : Int32) * x_44)]) (rest := []) ⟨hx, hb, hml, hown, hts⟩ hK hR (m_X2_pay hW (hW.vch l0) l1 (by first | omega | assumption) h) q662 q307 q308 q78 q320 rfl rfl hd_X2_pay ⟨Nat.le_of_ble_eq_true rfl, Nat.le_of_ble_eq_true rfl⟩ (rv_ch1 hK hR (hW.vch l0) (by omega)) rfl rfl hl.1 rfl (lv_room (Nat.le_of_ble_eq_true rfl)) dX10_eat_53 ⟨(Nat.le_of_ble_eq_true rfl), (Nat.le_of_ble_eq_true rfl)⟩) hR hS (fun r_53 w_53 H locs h hR _ hS => ?_)
  refine lv_pop hx hb dX10_eat_56 rfl ?_
  refine lv_aload_n hx hb dX10_eat_57 rfl (lv_at hl 2 rfl) ?_
  refine lv_dup hx hb dX10_eat_58 rfl ?_
  refine g6_10 hx hb hts hown hK hR l0 q941 dX10_eat_59 ?_
  refine lv_iconst (v := (4 : Int32)) hx hb dX10_eat_62 (by decide) ?_
  refine lv_iload_n hx hb dX10_eat_63 rfl (lv_at hl 1 rfl) ?_
  refine lv_iload_n hx hb dX10_eat_64 rfl (lv_at hl 0 rfl) ?_
  refine lv_isub hx hb dX10_eat_65 ?_
  refine lv_imul hx hb dX10_eat_66 ?_
  refine lv_iadd hx hb dX10_eat_67 ?_
  refine p6_10 hx hb hts hown hK hR hS l0 q941 dX10_eat_68 (fun H locs w_68 ew_68 hR hS => ?_)
  have h := h w_68 ew_68
  refine lv_aload_n hx hb dX10_eat_71 rfl (lv_at hl 2 rfl) ?_
  refine g6_10 hx hb hts hown hK hR l0 q941 dX10_eat_72 ?_
  refine lv_bipush (v := (12 : Int32)) hx hb dX10_eat_75 (by decide) ?_
  refine lv_aload_n hx hb dX10_eat_77 rfl (lv_at hl 2 rfl) ?_
  refine g6_6 hx hb hts hown hK hR l0 q930 dX10_eat_78 ?_
  refine lv_imul hx hb dX10_eat_81 ?_
  refine lv_icmp_le (tgt := 92) hx hb dX10_eat_82 (by decide) (fun c_82 => ?_) (fun c_82 => ?_)
  · have h := h.1 c_82
    refine lv_aload_n hx hb dX10_eat_92 rfl (lv_at hl 2 rfl) ?_
    refine lv_iconst (v := (-1 : Int32)) hx hb dX10_eat_93 (by decide) ?_
    refine ce_qv (fw := fun u => u) (fy := fun _ => y) (cr_V (n := 1) (As := [.int ((-1 : Int32))]) (rest := []) ⟨hx, hb, hml, hown, hts⟩ hK hR (m_X10_stir hW l0 h) q1584 q1443 q1444 q92 q1445 rfl rfl hd_X10_stir ⟨Nat.le_of_ble_eq_true rfl, Nat.le_of_ble_eq_true rfl⟩ (rv hK hR l0 (ci := 6) rfl rfl) rfl rfl hl.1 rfl (lv_room (Nat.le_of_ble_eq_true rfl)) dX10_eat_94 ⟨(Nat.le_of_ble_eq_true rfl), (Nat.le_of_ble_eq_true rfl)⟩) hR hS (fun w_94 H locs h hR _ hS => ?_)
    refine lv_aload_n hx hb dX10_eat_97 rfl (lv_at hl 2 rfl) ?_
    refine g6_11 hx hb hts hown hK hR l0 q943 dX10_eat_98 ?_
    refine lv_bipush (v := (12 : Int32)) hx hb dX10_eat_101 (by decide) ?_
    refine lv_icmp_lt (tgt := 111) hx hb dX10_eat_103 (by decide) (fun c_103 => ?_) (fun c_103 => ?_)
    · have h := h.1 c_103
      refine lv_aload_n hx hb dX10_eat_111 rfl (lv_at hl 2 rfl) ?_
      refine g6_11 hx hb hts hown hK hR l0 q943 dX10_eat_112 ?_
      refine lv_iconst (v := (5 : Int32)) hx hb dX10_eat_115 (by decide) ?_
      refine lv_icmp_ge (tgt := 124) hx hb dX10_eat_116 (by decide) (fun c_116 => ?_) (fun c_116 => ?_)
      · have h := h.1 c_116
        refine W.widen (k := 0) (n := 0) (Nat.le_of_ble_eq_true rfl) (Nat.le_of_ble_eq_true rfl) ?_
        exact W.vret hx hb hr (fun t ht hW9 => ⟨⟨w_94, rfl, h, rpt ht hR⟩, hS.F ht⟩) hS.2.2 dX10_eat_124
      · have h := h.2 c_116
        refine lv_aload_n hx hb dX10_eat_119 rfl (lv_at hl 2 rfl) ?_
        refine lv_iconst (v := (0 : Int32)) hx hb dX10_eat_120 (by decide) ?_
        refine p6_16 hx hb hts hown hK hR hS l0 nbo_0 q954 dX10_eat_121 (fun H locs w_121 ew_121 hR hS => ?_)
        have h := h w_121 ew_121
        refine W.widen (k := 0) (n := 0) (Nat.le_of_ble_eq_true rfl) (Nat.le_of_ble_eq_true rfl) ?_
        exact W.vret hx hb hr (fun t ht hW9 => ⟨⟨w_121, rfl, h, rpt ht hR⟩, hS.F ht⟩) hS.2.2 dX10_eat_124
    · have h := h.2 c_103
      refine lv_aload_n hx hb dX10_eat_106 rfl (lv_at hl 2 rfl) ?_
      refine lv_iconst (v := (1 : Int32)) hx hb dX10_eat_107 (by decide) ?_
      refine p6_16 hx hb hts hown hK hR hS l0 nbo_1 q954 dX10_eat_108 (fun H locs w_108 ew_108 hR hS => ?_)
      have h := h w_108 ew_108
      refine lv_aload_n hx hb dX10_eat_111 rfl (lv_at hl 2 rfl) ?_
      refine g6_11 hx hb hts hown hK hR l0 q943 dX10_eat_112 ?_
      refine lv_iconst (v := (5 : Int32)) hx hb dX10_eat_115 (by decide) ?_
      refine lv_icmp_ge (tgt := 124) hx hb dX10_eat_116 (by decide) (fun c_116_a => ?_) (fun c_116_a => ?_)
      · have h := h.1 c_116_a
        refine W.widen (k := 0) (n := 0) (Nat.le_of_ble_eq_true rfl) (Nat.le_of_ble_eq_true rfl) ?_
        exact W.vret hx hb hr (fun t ht hW9 => ⟨⟨w_108, rfl, h, rpt ht hR⟩, hS.F ht⟩) hS.2.2 dX10_eat_124
      · have h := h.2 c_116_a
        refine lv_aload_n hx hb dX10_eat_119 rfl (lv_at hl 2 rfl) ?_
        refine lv_iconst (v := (0 : Int32)) hx hb dX10_eat_120 (by decide) ?_
        refine p6_16 hx hb hts hown hK hR hS l0 nbo_0 q954 dX10_eat_121 (fun H locs w_121_a ew_121_a hR hS => ?_)
        have h := h w_121_a ew_121_a
        refine W.widen (k := 0) (n := 0) (Nat.le_of_ble_eq_true rfl) (Nat.le_of_ble_eq_true rfl) ?_
        exact W.vret hx hb hr (fun t ht hW9 => ⟨⟨w_121_a, rfl, h, rpt ht hR⟩, hS.F ht⟩) hS.2.2 dX10_eat_124
  · have h := h.2 c_82
    refine lv_aload_n hx hb dX10_eat_85 rfl (lv_at hl 2 rfl) ?_
    refine ce_qv (fw := fun u => u) (fy := fun _ => y) (cr_V (n := 0) (As := []) (rest := []) ⟨hx, hb, hml, hown, hts⟩ hK hR (m_X10_flee hW l0 h) q1580 q1582 qs35 q92 q1583 rfl rfl hd_X10_flee ⟨Nat.le_of_ble_eq_true rfl, Nat.le_of_ble_eq_true rfl⟩ (rv hK hR l0 (ci := 6) rfl rfl) rfl rfl hl.1 rfl (lv_room (Nat.le_of_ble_eq_true rfl)) dX10_eat_86 ⟨(Nat.le_of_ble_eq_true rfl), (Nat.le_of_ble_eq_true rfl)⟩) hR hS (fun w_86 H locs h hR _ hS => ?_)
    refine lv_goto (tgt := 97) hx hb dX10_eat_89 (by decide) ?_
    refine lv_aload_n hx hb dX10_eat_97 rfl (lv_at hl 2 rfl) ?_
    refine g6_11 hx hb hts hown hK hR l0 q943 dX10_eat_98 ?_
    refine lv_bipush (v := (12 : Int32)) hx hb dX10_eat_101 (by decide) ?_
    refine lv_icmp_lt (tgt := 111) hx hb dX10_eat_103 (by decide) (fun c_103_a => ?_) (fun c_103_a => ?_)
    · have h := h.1 c_103_a
      refine lv_aload_n hx hb dX10_eat_111 rfl (lv_at hl 2 rfl) ?_
      refine g6_11 hx hb hts hown hK hR l0 q943 dX10_eat_112 ?_
      refine lv_iconst (v := (5 : Int32)) hx hb dX10_eat_115 (by decide) ?_
      refine lv_icmp_ge (tgt := 124) hx hb dX10_eat_116 (by decide) (fun c_116_b => ?_) (fun c_116_b => ?_)
      · have h := h.1 c_116_b
        refine W.widen (k := 0) (n := 0) (Nat.le_of_ble_eq_true rfl) (Nat.le_of_ble_eq_true rfl) ?_
        exact W.vret hx hb hr (fun t ht hW9 => ⟨⟨w_86, rfl, h, rpt ht hR⟩, hS.F ht⟩) hS.2.2 dX10_eat_124
      · have h := h.2 c_116_b
        refine lv_aload_n hx hb dX10_eat_119 rfl (lv_at hl 2 rfl) ?_
        refine lv_iconst (v := (0 : Int32)) hx hb dX10_eat_120 (by decide) ?_
        refine p6_16 hx hb hts hown hK hR hS l0 nbo_0 q954 dX10_eat_121 (fun H locs w_121_b ew_121_b hR hS => ?_)
        have h := h w_121_b ew_121_b
        refine W.widen (k := 0) (n := 0) (Nat.le_of_ble_eq_true rfl) (Nat.le_of_ble_eq_true rfl) ?_
        exact W.vret hx hb hr (fun t ht hW9 => ⟨⟨w_121_b, rfl, h, rpt ht hR⟩, hS.F ht⟩) hS.2.2 dX10_eat_124
    · have h := h.2 c_103_a
      refine lv_aload_n hx hb dX10_eat_106 rfl (lv_at hl 2 rfl) ?_
      refine lv_iconst (v := (1 : Int32)) hx hb dX10_eat_107 (by decide) ?_
      refine p6_16 hx hb hts hown hK hR hS l0 nbo_1 q954 dX10_eat_108 (fun H locs w_108_a ew_108_a hR hS => ?_)
      have h := h w_108_a ew_108_a
      refine lv_aload_n hx hb dX10_eat_111 rfl (lv_at hl 2 rfl) ?_
      refine g6_11 hx hb hts hown hK hR l0 q943 dX10_eat_112 ?_
      refine lv_iconst (v := (5 : Int32)) hx hb dX10_eat_115 (by decide) ?_
      refine lv_icmp_ge (tgt := 124) hx hb dX10_eat_116 (by decide) (fun c_116_c => ?_) (fun c_116_c => ?_)
      · have h := h.1 c_116_c
        refine W.widen (k := 0) (n := 0) (Nat.le_of_ble_eq_true rfl) (Nat.le_of_ble_eq_true rfl) ?_
        exact W.vret hx hb hr (fun t ht hW9 => ⟨⟨w_108_a, rfl, h, rpt ht hR⟩, hS.F ht⟩) hS.2.2 dX10_eat_124
      · have h := h.2 c_116_c
        refine lv_aload_n hx hb dX10_eat_119 rfl (lv_at hl 2 rfl) ?_
        refine lv_iconst (v := (0 : Int32)) hx hb dX10_eat_120 (by decide) ?_
        refine p6_16 hx hb hts hown hK hR hS l0 nbo_0 q954 dX10_eat_121 (fun H locs w_121_c ew_121_c hR hS => ?_)
        have h := h w_121_c ew_121_c
        refine W.widen (k := 0) (n := 0) (Nat.le_of_ble_eq_true rfl) (Nat.le_of_ble_eq_true rfl) ?_
        exact W.vret hx hb hr (fun t ht hW9 => ⟨⟨w_121_c, rfl, h, rpt ht hR⟩, hS.F ht⟩) hS.2.2 dX10_eat_124
abbrev rm_X10_sell : Room := { frames := 2, cells := 0, slots := 0, locals := 47 }
def sp_X10_sell (κ : Kx) (y : Ly) (post : Wd → Prop) (w : Wd) (a0 : Nat) : Prop := ∀ x_16 : Int32, x_16 = jmax (0 : Int32) ((gv w 6 a0 9) - ((6 : Int32) * (gv w 6 a0 6))) → ∀ w_24 : Wd, w_24 = sv w 6 a0 9 ((gv w 6 a0 9) - x_16) → sp_X3_pay κ y (fun r_35 w_35 => sp_X2_pay κ y (fun r_53 w_53 => ∀ w_57 : Wd, w_57 = sv w_53 6 a0 10 ((gv w_35 6 a0 10) - r_53) → post w_57) w_35 (((3 + a0))) 0 (gv w_35 6 a0 10)) w_24 (((3 + a0))) ((2 : Int32) * x_16)
theorem hd_X10_sell : yX10_sell.cls = RX10 ∧ yX10_sell.cls ≠ "java/lang/invoke/MethodHandle" ∧ yX10_sell.cls ≠ "java/lang/invoke/VarHandle" ∧ (parseMethodDescriptor yX10_sell.desc).map (fun d => d.parameters.length) = some 1 := by decide +kernel
set_option maxHeartbeats 4000000 in
theorem m_X10_sell {l : Launch} {κ : Kx} {y : Ly} {X : XR} {post : Wd → Prop} {w : Wd} {a0 : Nat}  (hW : WFc κ y) (l0 : live y 6 a0) (l1 : live y 1 0) (h : sp_X10_sell κ y post w a0) : Met l yX10_sell (ws_ yX10_sell cX10_sell 3 (Option.none : Option Jvm.ClassFile.FieldType)) rm_X10_sell (va_Pc [.ref (y.2 6 a0), .ref (y.2 1 0)] (RC κ w y X)) (va_Qv post (fun w t => Rp κ w y X [] t.heap) (Af κ)) 0 0 (Af κ) := by
  unfold sp_X10_sell at h
  refine Met.ofW (cc := cX10_sell) (maxL := 3) (ret := (Option.none : Option Jvm.ClassFile.FieldType)) (by decide) rfl ?_
  intro p e s m args below meth c s₁ B hml hv
  obtain ⟨rfl, hR, hK⟩ := hv
  have hx := B.exec
  have hb := B.bytes
  have hr := B.returns
  have hts := atoms_spec (ws := ws_ yX10_sell cX10_sell 3 (Option.none : Option Jvm.ClassFile.FieldType)) B.pre
  have hts : ∀ w ∈ lw_all, w.before _ s = true := fun w h => hts w (List.mem_cons_of_mem _ h)
  have hown : s.vm.findClass RX10 = some m.cls := findClass_of_methodNamed B.named
  have hlocks := B.notSynchronized
  have hS : va_S (Af κ) s.heap s.heap [] := va_S.rf
  have hl := lv_entry ([.ref (y.2 6 a0), .ref (y.2 1 0)]) (n := 3) (Nat.le_of_ble_eq_true rfl)
  rw [lg_entry_eq]
  generalize (lg_sl ([.ref (y.2 6 a0), .ref (y.2 1 0)]) ++ List.replicate (3 - (lg_sl ([.ref (y.2 6 a0), .ref (y.2 1 0)])).length) Slot.unset).toArray = ls at hl ⊢
  have hl : lv_has ls 3 [(0, .ref (y.2 6 a0)), (1, .ref (y.2 1 0))] := hl
  refine lv_iconst (v := (0 : Int32)) hx hb dX10_sell_0 (by decide) ?_
  refine lv_aload_n hx hb dX10_sell_1 rfl (lv_at hl 0 rfl) ?_
  refine g6_9 hx hb hts hown hK hR l0 q938 dX10_sell_2 ?_
  refine lv_bipush (v := (6 : Int32)) hx hb dX10_sell_5 (by decide) ?_
  refine lv_aload_n hx hb dX10_sell_7 rfl (lv_at hl 0 rfl) ?_
  refine g6_6 hx hb hts hown hK hR l0 q930 dX10_sell_8 ?_
  refine lv_imul hx hb dX10_sell_11 ?_
  refine lv_isub hx hb dX10_sell_12 ?_
  refine va_mmax hx hb (hml.trans hl.1.symm) hown (hts _ q1578) (hts _ q642) (hts _ q95) (hts _ q643) (Nat.le_of_ble_eq_true rfl) (Nat.le_of_ble_eq_true rfl) (Nat.le_of_ble_eq_true rfl) (Nat.le_of_ble_eq_true rfl) dX10_sell_13 ?_
  refine lv_topi (fun x_16 ex_16 => ?_)
  have h := h x_16 ex_16
  refine lv_istore_n (lv' := [(2, .int (x_16)), (0, .ref (y.2 6 a0)), (1, .ref (y.2 1 0))]) hx hb dX10_sell_16 rfl hl (by decide) rfl (fun ls hl => ?_)
  refine lv_aload_n hx hb dX10_sell_17 rfl (lv_at hl 1 rfl) ?_
  refine lv_dup hx hb dX10_sell_18 rfl ?_
  refine g6_9 hx hb hts hown hK hR l0 q938 dX10_sell_19 ?_
  refine lv_iload_n hx hb dX10_sell_22 rfl (lv_at hl 0 rfl) ?_
  refine lv_isub hx hb dX10_sell_23 ?_
  refine p6_9 hx hb hts hown hK hR hS l0 q938 dX10_sell_24 (fun H locs w_24 ew_24 hR hS => ?_)
  have h := h w_24 ew_24
  refine lv_aload_n hx hb dX10_sell_27 rfl (lv_at hl 2 rfl) ?_
  refine lv_aload_n hx hb dX10_sell_28 rfl (lv_at hl 1 rfl) ?_
  refine g6_2 hx hb hts hown hK hR l0 q923 dX10_sell_29 ?_
  refine lv_iconst (v := (2 : Int32)) hx hb dX10_sell_32 (by decide) ?_
  refine lv_iload_n hx hb dX10_sell_33 rfl (lv_at hl 0 rfl) ?_
  refine lv_imul hx hb dX10_sell_34 ?_
  refine ce_qi (fw := fun u => u) (fy := fun _ => y) (cr_O (C := RX3) (owner := "Publicanry$Chest") (Z := yX2_pay) (n := 2) (As := [.ref (y.2 1 ((3 + a0))), .int ((2 : Int32) * x_16)]) (rest := []) ⟨hx, hb, hml, hown, hts⟩ hK hR (m_X3_pay hW l1 (hW.vch l0) h) q662 q309 q307 q310 q311 q79 q312 q320 rfl rfl (by decide +kernel) ⟨Nat.le_of_ble_eq_true rfl, Nat.le_of_ble_eq_true rfl⟩ (rv_ch0 hK hR l1) rfl rfl hl.1 rfl (lv_room (Nat.le_of_ble_eq_true rfl)) dX10_sell_35 ⟨(Nat.le_of_ble_eq_true rfl), (Nat.le_of_ble_eq_true rfl)⟩) hR hS (fun r_35 w_35 H locs h hR _ hS => ?_)
  refine lv_pop hx hb dX10_sell_38 rfl ?_
  refine lv_aload_n hx hb dX10_sell_39 rfl (lv_at hl 1 rfl) ?_
  refine lv_dup hx hb dX10_sell_40 rfl ?_
  refine g6_10 hx hb hts hown hK hR l0 q941 dX10_sell_41 ?_
  refine lv_aload_n hx hb dX10_sell_44 rfl (lv_at hl 1 rfl) ?_
  refine g6_2 hx hb hts hown hK hR l0 q923 dX10_sell_45 ?_
  refine lv_aload_n hx hb dX10_sell_48 rfl (lv_at hl 2 rfl) ?_
  refine lv_aload_n hx hb dX10_sell_49 rfl (lv_at hl 1 rfl) ?_
  refine g6_10 hx hb hts hown hK hR l0 q941 dX10_sell_50 ?_
  refine ce_qi (fw := fun u => u) (fy := fun _ => y) (cr_V (n := 2) (As := [.ref (y.2 1 0), .int (gv w_35 6 a0 10)]) (rest := [.int (gv w_35 6 a0 10), .ref (y.2 6 a0)]) ⟨hx, hb, hml, hown, hts⟩ hK hR (m_X2_pay hW (hW.vch l0) l1 (by first | omega | assumption) h) q662 q307 q308 q78 q320 rfl rfl hd_X2_pay ⟨Nat.le_of_ble_eq_true rfl, Nat.le_of_ble_eq_true rfl⟩ (rv_ch1 hK hR (hW.vch l0) (by omega)) rfl rfl hl.1 rfl (lv_room (Nat.le_of_ble_eq_true rfl)) dX10_sell_53 ⟨(Nat.le_of_ble_eq_true rfl), (Nat.le_of_ble_eq_true rfl)⟩) hR hS (fun r_53 w_53 H locs h hR _ hS => ?_)
  refine lv_isub hx hb dX10_sell_56 ?_
  refine p6_10 hx hb hts hown hK hR hS l0 q941 dX10_sell_57 (fun H locs w_57 ew_57 hR hS => ?_)
  have h := h w_57 ew_57
  refine W.widen (k := 0) (n := 0) (Nat.le_of_ble_eq_true rfl) (Nat.le_of_ble_eq_true rfl) ?_
  exact W.vret hx hb hr (fun t ht hW9 => ⟨⟨w_57, rfl, h, rpt ht hR⟩, hS.F ht⟩) hS.2.2 dX10_sell_60
abbrev rm_X12_shareOut : Room := { frames := 4, cells := 2, slots := 9, locals := 93 }
def st_X12_shareOut_15 (κ : Kx) (y : Ly) (post : Wd → Prop) (ex : Wd → (Nat → Int64) → (Int32) → Prop) (rec : Wd → (Nat → Int64) → Int32 → Int32 → Prop) (i0 : Nat) (v1 : Int32) (v2 : Int32) (w : Wd) (f3 : Nat → Int64) (v4 : Int32) (v5 : Int32) : Prop := ((nI (nP y i0) ≤ v5) → (ex w f3 v4)) ∧ ((¬ (nI (nP y i0) ≤ v5)) → ((vp_in (v5) (nP y i0)) ∧ (∀ x_46 : Int64, x_46 = v1.toInt64 * ((gv w 10 ((5 * i0 + ((v5).toNatClampNeg))) 0).toInt64) → (¬ v2.toInt64 = 0) ∧ (∀ x_54 : Int32, x_54 = (x_46 / v2.toInt64).toInt32 → (¬ v2.toInt64 = 0) ∧ ((vp_in (v5) 5) ∧ (∀ f_64 : Nat → Int64, f_64 = vp_updL f3 (v5).toNatClampNeg (x_46 - x_46 / v2.toInt64 * v2.toInt64) → (vp_in (v5) (nP y i0)) ∧ (∀ w_84 : Wd, w_84 = sv w 10 ((5 * i0 + ((v5).toNatClampNeg))) 1 ((gv w 10 ((5 * i0 + ((v5).toNatClampNeg))) 1) + x_54) → ∀ x_92 : Int32, x_92 = v4 - x_54 → ∀ x_94 : Int32, x_94 = v5 + (1 : Int32) → rec w_84 f_64 x_92 x_94)))))))
def sp_X12_shareOut_15 (κ : Kx) (y : Ly) (post : Wd → Prop) (ex : Wd → (Nat → Int64) → (Int32) → Prop) (i0 : Nat) (v1 : Int32) (v2 : Int32) : Nat → Wd → (Nat → Int64) → Int32 → Int32 → Prop
  | 0 => fun _ _ _ _ => False
  | n + 1 => fun w f3 v4 v5 => st_X12_shareOut_15 κ y post ex (sp_X12_shareOut_15 κ y post ex i0 v1 v2 n) i0 v1 v2 w f3 v4 v5
set_option maxHeartbeats 4000000 in
theorem lp_X12_shareOut_15 {p : Program} {l : Launch} {e : Env} {s : State} {m : MethodId} {args : Array Value} {below : List Frame} {meth : Method} {c : Code} {κ : Kx} {y : Ly} {X : XR} {post : Wd → Prop} {q3 : Nat} {i0 : Nat} {v1 : Int32} {v2 : Int32} (hx : p.tables.exec = Jvm.exec) (hb : c.code = cX12_shareOut) (hr : meth.sig.returnType = (Option.none : Option Jvm.ClassFile.FieldType)) (hml : c.maxLocals = 9) (hown : s.vm.findClass RX12 = some m.cls) (hts : ∀ w ∈ lw_all, w.before args s = true) (hlocks : meth.locks = false) (hK : KK κ s) (hW : WFc κ y) (l0 : live y 9 i0) {C1 S1 : Nat} (hC : C1 ≤ 2) (hSl : S1 ≤ 9) {ex : Wd → (Nat → Int64) → (Int32) → Prop}
    (kx : ∀ (w : Wd) (f3 : Nat → Int64) (v4 : Int32) (H : Heap) (locs : List Loc) (ls : Array Slot) (cells slots : Nat) , ex w f3 v4 → Rp κ w y X [(q3, .inl (kT κ 1, (5, .inr (.inl (f3)))))] H → va_S (Af κ) s.heap H locs → lv_has ls 9 [(0, .ref (y.2 9 i0)), (3, .ref (q3)), (4, .int (v4))] → cells ≤ C1 → slots ≤ S1 → W p l e (headSpec (ws_ yX12_shareOut cX12_shareOut 9 (Option.none : Option Jvm.ClassFile.FieldType)) rm_X12_shareOut).room s m args below meth c H locs cells slots (MQ below (va_Qv post (fun w t => Rp κ w y X [] t.heap) (Af κ)) args s 2 9 (Af κ)) (F0 m 100 ls [])) :
    ∀ (f : Nat) (w : Wd) (f3 : Nat → Int64) (v4 : Int32) (v5 : Int32) (H : Heap) (locs : List Loc) (ls : Array Slot) (cells slots : Nat)  , sp_X12_shareOut_15 κ y post ex i0 v1 v2 f w f3 v4 v5 → Rp κ w y X [(q3, .inl (kT κ 1, (5, .inr (.inl (f3)))))] H → va_S (Af κ) s.heap H locs → lv_has ls 9 [(0, .ref (y.2 9 i0)), (1, .int (v1)), (2, .int (v2)), (3, .ref (q3)), (4, .int (v4)), (5, .int (v5))] → cells + f * 0 ≤ C1 → slots + f * 0 ≤ S1 → W p l e (headSpec (ws_ yX12_shareOut cX12_shareOut 9 (Option.none : Option Jvm.ClassFile.FieldType)) rm_X12_shareOut).room s m args below meth c H locs cells slots (MQ below (va_Qv post (fun w t => Rp κ w y X [] t.heap) (Af κ)) args s 2 9 (Af κ)) (F0 m 15 ls []) := by
  intro f
  induction f with
  | zero =>
    intro w f3 v4 v5 H locs ls cells slots  h
    exact False.elim h
  | succ f ih =>
    intro w f3 v4 v5 H locs ls cells slots  h hR hS hl hc hs
    have h : st_X12_shareOut_15 κ y post ex (sp_X12_shareOut_15 κ y post ex i0 v1 v2 f) i0 v1 v2 w f3 v4 v5 := h
    unfold st_X12_shareOut_15 at h
    refine lv_iload hx hb dX12_shareOut_15 (lv_at hl 5 rfl) ?_
    refine lv_aload_n hx hb dX12_shareOut_17 rfl (lv_at hl 0 rfl) ?_
    refine g9_2 hx hb hts hown hK hR l0 q1125 dX12_shareOut_18 ?_
    refine jr_size ⟨hx, hb, hml, hown, hts⟩ hK hR ⟨fun _ _ _ _ _ => rfl, fun _ _ _ _ _ => rfl⟩ (hW.cpa l0) q1222 ⟨Nat.le_of_ble_eq_true rfl, Nat.le_of_ble_eq_true rfl⟩ hl.1 (Nat.le_of_ble_eq_true rfl) dX12_shareOut_21 ⟨(Nat.le_trans (show cells + 0 ≤ C1 from by omega) hC), (Nat.le_trans (show slots + 0 ≤ S1 from by omega) hSl)⟩ ?_
    refine lv_icmp_ge (tgt := 100) hx hb dX12_shareOut_24 (by decide) (fun c_24 => ?_) (fun c_24 => ?_)
    · have h := h.1 c_24
      exact kx w f3 v4 _ _ _ _ _ h hR hS (lv_sub hl [0, 3, 4] rfl) (by omega) (by omega)
    · have h := h.2 c_24
      refine lv_iload_n hx hb dX12_shareOut_27 rfl (lv_at hl 1 rfl) ?_
      refine lv_i2l hx hb dX12_shareOut_28 rfl ?_
      refine lv_aload_n hx hb dX12_shareOut_29 rfl (lv_at hl 0 rfl) ?_
      refine g9_2 hx hb hts hown hK hR l0 q1125 dX12_shareOut_30 ?_
      refine lv_iload hx hb dX12_shareOut_33 (lv_at hl 5 rfl) ?_
      have o_35 := h.1
      have h := h.2
      refine jr_get (a := y.2 10 (5 * i0 + ((v5).toNatClampNeg))) ⟨hx, hb, hml, hown, hts⟩ hK hR ⟨fun _ _ _ _ _ => rfl, fun _ _ _ _ _ => rfl⟩ (hW.cpa l0) ⟨hW.arP (Nat.lt_of_le_of_lt (Nat.zero_le _) (vp_lt o_35)), (Nat.le_trans (hW.nP5 l0) (by decide))⟩ o_35 (hW.elP l0 (vp_lt o_35)) q1223 ⟨Nat.le_of_ble_eq_true rfl, Nat.le_of_ble_eq_true rfl⟩ hl.1 (Nat.le_of_ble_eq_true rfl) dX12_shareOut_35 ⟨(Nat.le_trans (show cells + 0 ≤ C1 from by omega) hC), (Nat.le_trans (show slots + 0 ≤ S1 from by omega) hSl)⟩ ?_
      refine jr_castS (ci := 8) hx hb hown hK hts (hR.role (hW.par l0 (vp_lt o_35))) rfl q730 dX12_shareOut_38 ?_
      refine g10_0 hx hb hts hown hK hR (hW.par l0 (vp_lt o_35)) q1187 dX12_shareOut_41 ?_
      refine lv_i2l hx hb dX12_shareOut_44 rfl ?_
      refine lv_lmul hx hb dX12_shareOut_45 ?_
      refine lv_topl (fun x_46 ex_46 => ?_)
      have h := h x_46 ex_46
      refine lv_lstore (lv' := [(6, .long (x_46)), (0, .ref (y.2 9 i0)), (1, .int (v1)), (2, .int (v2)), (3, .ref (q3)), (4, .int (v4)), (5, .int (v5))]) hx hb dX12_shareOut_46 hl (by decide) rfl (fun ls hl => ?_)
      refine lv_lload hx hb dX12_shareOut_48 (lv_at hl 0 rfl) ?_
      refine lv_iload_n hx hb dX12_shareOut_50 rfl (lv_at hl 3 rfl) ?_
      refine lv_i2l hx hb dX12_shareOut_51 rfl ?_
      have o_52 := h.1
      have h := h.2
      refine lv_ldiv hx hb dX12_shareOut_52 o_52 ?_
      refine lv_l2i hx hb dX12_shareOut_53 rfl ?_
      refine lv_topi (fun x_54 ex_54 => ?_)
      have h := h x_54 ex_54
      refine lv_istore (lv' := [(8, .int (x_54)), (6, .long (x_46)), (0, .ref (y.2 9 i0)), (1, .int (v1)), (2, .int (v2)), (3, .ref (q3)), (4, .int (v4)), (5, .int (v5))]) hx hb dX12_shareOut_54 hl (by decide) rfl (fun ls hl => ?_)
      refine lv_aload_n hx hb dX12_shareOut_56 rfl (lv_at hl 5 rfl) ?_
      refine lv_iload hx hb dX12_shareOut_57 (lv_at hl 7 rfl) ?_
      refine lv_lload hx hb dX12_shareOut_59 (lv_at hl 1 rfl) ?_
      refine lv_iload_n hx hb dX12_shareOut_61 rfl (lv_at hl 4 rfl) ?_
      refine lv_i2l hx hb dX12_shareOut_62 rfl ?_
      have o_63 := h.1
      have h := h.2
      refine lv_lrem hx hb dX12_shareOut_63 o_63 ?_
      have o_64 := h.1
      have h := h.2
      refine xa_last hx hb hK.1 hS (hR.LD.2 0 _ rfl) (hR.L 0 _ rfl) 1 rfl o_64 dX12_shareOut_64 (fun H1 locs h1 hz ho hS => ?_)
      have hR := hR.putL (t := 0) rfl h1 hz ho
      clear h1 hz ho
      generalize H1 = H at hR hS ⊢
      obtain ⟨f_64, ef_64⟩ : ∃ z, z = vp_updL f3 (v5).toNatClampNeg (x_46 - x_46 / v2.toInt64 * v2.toInt64) := ⟨_, rfl⟩
      rw [← ef_64] at hR
      have h := h f_64 ef_64
      have hR : Rp κ w y X [(q3, .inl (kT κ 1, (5, .inr (.inl (f_64)))))] H := hR
      refine lv_aload_n hx hb dX12_shareOut_65 rfl (lv_at hl 2 rfl) ?_
      refine g9_2 hx hb hts hown hK hR l0 q1125 dX12_shareOut_66 ?_
      refine lv_iload hx hb dX12_shareOut_69 (lv_at hl 7 rfl) ?_
      have o_71 := h.1
      have h := h.2
      refine jr_get (a := y.2 10 (5 * i0 + ((v5).toNatClampNeg))) ⟨hx, hb, hml, hown, hts⟩ hK hR ⟨fun _ _ _ _ _ => rfl, fun _ _ _ _ _ => rfl⟩ (hW.cpa l0) ⟨hW.arP (Nat.lt_of_le_of_lt (Nat.zero_le _) (vp_lt o_71)), (Nat.le_trans (hW.nP5 l0) (by decide))⟩ o_71 (hW.elP l0 (vp_lt o_71)) q1223 ⟨Nat.le_of_ble_eq_true rfl, Nat.le_of_ble_eq_true rfl⟩ hl.1 (Nat.le_of_ble_eq_true rfl) dX12_shareOut_71 ⟨(Nat.le_trans (show cells + 0 ≤ C1 from by omega) hC), (Nat.le_trans (show slots + 0 ≤ S1 from by omega) hSl)⟩ ?_
      refine jr_castS (ci := 8) hx hb hown hK hts (hR.role (hW.par l0 (vp_lt o_71))) rfl q730 dX12_shareOut_74 ?_
      refine lv_dup hx hb dX12_shareOut_77 rfl ?_
      refine g10_1 hx hb hts hown hK hR (hW.par l0 (vp_lt o_71)) q1189 dX12_shareOut_78 ?_
      refine lv_iload hx hb dX12_shareOut_81 (lv_at hl 0 rfl) ?_
      refine lv_iadd hx hb dX12_shareOut_83 ?_
      refine p10_1 hx hb hts hown hK hR hS (hW.par l0 (vp_lt o_71)) q1189 dX12_shareOut_84 (fun H locs w_84 ew_84 hR hS => ?_)
      have h := h w_84 ew_84
      refine lv_iload hx hb dX12_shareOut_87 (lv_at hl 6 rfl) ?_
      refine lv_iload hx hb dX12_shareOut_89 (lv_at hl 0 rfl) ?_
      refine lv_isub hx hb dX12_shareOut_91 ?_
      refine lv_topi (fun x_92 ex_92 => ?_)
      have h := h x_92 ex_92
      refine lv_istore (lv' := [(4, .int (x_92)), (8, .int (x_54)), (6, .long (x_46)), (0, .ref (y.2 9 i0)), (1, .int (v1)), (2, .int (v2)), (3, .ref (q3)), (5, .int (v5))]) hx hb dX12_shareOut_92 hl (by decide) rfl (fun ls hl => ?_)
      obtain ⟨x_94, ex_94⟩ : ∃ z : Int32, z = v5 + (1 : Int32) := ⟨_, rfl⟩
      have h := h x_94 ex_94
      refine lv_iinc (v := x_94) (lv' := [(5, .int (x_94)), (4, .int (x_92)), (8, .int (x_54)), (6, .long (x_46)), (0, .ref (y.2 9 i0)), (1, .int (v1)), (2, .int (v2)), (3, .ref (q3))]) hx hb dX12_shareOut_94 hl (k := 7) rfl (by rw [ex_94]; rfl) (by decide) rfl (fun ls hl => ?_)
      refine lv_goto (tgt := 15) hx hb dX12_shareOut_97 (by decide) ?_
      exact ih w_84 f_64 x_92 x_94 _ _ _ _ _  h hR hS (lv_sub hl [4, 5, 6, 7, 1, 0] rfl) (by omega) (by omega)
def st_X12_shareOut_100 (κ : Kx) (y : Ly) (post : Wd → Prop) (ex : Wd → Prop) (rec : Wd → (Nat → Int64) → Int32 → Prop) (i0 : Nat) (w : Wd) (f3 : Nat → Int64) (v4 : Int32) : Prop := ((v4 ≤ 0) → (ex w )) ∧ ((¬ (v4 ≤ 0)) → (sp_X12_greatest κ y (fun r_107 w_107 => (vp_in (r_107) (nP y i0)) ∧ (∀ w_130 : Wd, w_130 = sv w_107 10 ((5 * i0 + ((r_107).toNatClampNeg))) 1 ((gv w_107 10 ((5 * i0 + ((r_107).toNatClampNeg))) 1) + (1 : Int32)) → (vp_in (r_107) 5) ∧ (∀ f_139 : Nat → Int64, f_139 = vp_updL f3 (r_107).toNatClampNeg ((-1 : Int64)) → ∀ x_140 : Int32, x_140 = v4 + (-1 : Int32) → rec w_130 f_139 x_140))) w i0 5 f3))
def sp_X12_shareOut_100 (κ : Kx) (y : Ly) (post : Wd → Prop) (ex : Wd → Prop) (i0 : Nat) : Nat → Wd → (Nat → Int64) → Int32 → Prop
  | 0 => fun _ _ _ => False
  | n + 1 => fun w f3 v4 => st_X12_shareOut_100 κ y post ex (sp_X12_shareOut_100 κ y post ex i0 n) i0 w f3 v4
set_option maxHeartbeats 4000000 in
theorem lp_X12_shareOut_100 {p : Program} {l : Launch} {e : Env} {s : State} {m : MethodId} {args : Array Value} {below : List Frame} {meth : Method} {c : Code} {κ : Kx} {y : Ly} {X : XR} {post : Wd → Prop} {q3 : Nat} {i0 : Nat} (hx : p.tables.exec = Jvm.exec) (hb : c.code = cX12_shareOut) (hr : meth.sig.returnType = (Option.none : Option Jvm.ClassFile.FieldType)) (hml : c.maxLocals = 9) (hown : s.vm.findClass RX12 = some m.cls) (hts : ∀ w ∈ lw_all, w.before args s = true) (hlocks : meth.locks = false) (hK : KK κ s) (hW : WFc κ y) (l0 : live y 9 i0) {C1 S1 : Nat} (hC : C1 ≤ 2) (hSl : S1 ≤ 9) {ex : Wd → Prop}
    (kx : ∀ (w : Wd)  (H : Heap) (locs : List Loc) (ls : Array Slot) (cells slots : Nat) , ex w  → Rp κ w y X [] H → va_S (Af κ) s.heap H locs → lv_has ls 9 [] → cells ≤ C1 → slots ≤ S1 → W p l e (headSpec (ws_ yX12_shareOut cX12_shareOut 9 (Option.none : Option Jvm.ClassFile.FieldType)) rm_X12_shareOut).room s m args below meth c H locs cells slots (MQ below (va_Qv post (fun w t => Rp κ w y X [] t.heap) (Af κ)) args s 2 9 (Af κ)) (F0 m 146 ls [])) :
    ∀ (f : Nat) (w : Wd) (f3 : Nat → Int64) (v4 : Int32) (H : Heap) (locs : List Loc) (ls : Array Slot) (cells slots : Nat)  , sp_X12_shareOut_100 κ y post ex i0 f w f3 v4 → Rp κ w y X [(q3, .inl (kT κ 1, (5, .inr (.inl (f3)))))] H → va_S (Af κ) s.heap H locs → lv_has ls 9 [(0, .ref (y.2 9 i0)), (3, .ref (q3)), (4, .int (v4))] → cells + f * 0 ≤ C1 → slots + f * 0 ≤ S1 → W p l e (headSpec (ws_ yX12_shareOut cX12_shareOut 9 (Option.none : Option Jvm.ClassFile.FieldType)) rm_X12_shareOut).room s m args below meth c H locs cells slots (MQ below (va_Qv post (fun w t => Rp κ w y X [] t.heap) (Af κ)) args s 2 9 (Af κ)) (F0 m 100 ls []) := by
  intro f
  induction f with
  | zero =>
    intro w f3 v4 H locs ls cells slots  h
    exact False.elim h
  | succ f ih =>
    intro w f3 v4 H locs ls cells slots  h hR hS hl hc hs
    have h : st_X12_shareOut_100 κ y post ex (sp_X12_shareOut_100 κ y post ex i0 f) i0 w f3 v4 := h
    unfold st_X12_shareOut_100 at h
    refine lv_iload hx hb dX12_shareOut_100 (lv_at hl 2 rfl) ?_
    refine lv_if_le (tgt := 146) hx hb dX12_shareOut_102 (by decide) (fun c_102 => ?_) (fun c_102 => ?_)
    · have h := h.1 c_102
      have hR := hR.sub (L' := []) [] rfl rfl
      exact kx w  _ _ _ _ _ h hR hS (lv_sub hl [] rfl) (by omega) (by omega)
    · have h := h.2 c_102
      refine lv_aload_n hx hb dX12_shareOut_105 rfl (lv_at hl 0 rfl) ?_
      refine lv_aload_n hx hb dX12_shareOut_106 rfl (lv_at hl 1 rfl) ?_
      refine ce_qi (fw := fun u => u) (fy := fun _ => y) (cr_V (n := 1) (As := [.ref (q3)]) (rest := []) ⟨hx, hb, hml, hown, hts⟩ hK hR (m_X12_greatest hW l0 (Or.inr ⟨0, rfl⟩) h) q1224 q1226 qs23 q106 q1227 rfl rfl hd_X12_greatest ⟨Nat.le_of_ble_eq_true rfl, Nat.le_of_ble_eq_true rfl⟩ (rv hK hR l0 (ci := 7) rfl rfl) rfl rfl hl.1 rfl (lv_room (Nat.le_of_ble_eq_true rfl)) dX12_shareOut_107 ⟨(Nat.le_trans (show cells + 0 ≤ C1 from by omega) hC), (Nat.le_trans (show slots + 0 ≤ S1 from by omega) hSl)⟩) hR hS (fun r_107 w_107 H locs h hR _ hS => ?_)
      refine lv_istore (lv' := [(5, .int (r_107)), (0, .ref (y.2 9 i0)), (3, .ref (q3)), (4, .int (v4))]) hx hb dX12_shareOut_110 hl (by decide) rfl (fun ls hl => ?_)
      refine lv_aload_n hx hb dX12_shareOut_112 rfl (lv_at hl 1 rfl) ?_
      refine g9_2 hx hb hts hown hK hR l0 q1125 dX12_shareOut_113 ?_
      refine lv_iload hx hb dX12_shareOut_116 (lv_at hl 0 rfl) ?_
      have o_118 := h.1
      have h := h.2
      refine jr_get (a := y.2 10 (5 * i0 + ((r_107).toNatClampNeg))) ⟨hx, hb, hml, hown, hts⟩ hK hR ⟨fun _ _ _ _ _ => rfl, fun _ _ _ _ _ => rfl⟩ (hW.cpa l0) ⟨hW.arP (Nat.lt_of_le_of_lt (Nat.zero_le _) (vp_lt o_118)), (Nat.le_trans (hW.nP5 l0) (by decide))⟩ o_118 (hW.elP l0 (vp_lt o_118)) q1223 ⟨Nat.le_of_ble_eq_true rfl, Nat.le_of_ble_eq_true rfl⟩ hl.1 (Nat.le_of_ble_eq_true rfl) dX12_shareOut_118 ⟨(Nat.le_trans (show cells + 0 ≤ C1 from by omega) hC), (Nat.le_trans (show slots + 0 ≤ S1 from by omega) hSl)⟩ ?_
      refine jr_castS (ci := 8) hx hb hown hK hts (hR.role (hW.par l0 (vp_lt o_118))) rfl q730 dX12_shareOut_121 ?_
      refine lv_dup hx hb dX12_shareOut_124 rfl ?_
      refine g10_1 hx hb hts hown hK hR (hW.par l0 (vp_lt o_118)) q1189 dX12_shareOut_125 ?_
      refine lv_iconst (v := (1 : Int32)) hx hb dX12_shareOut_128 (by decide) ?_
      refine lv_iadd hx hb dX12_shareOut_129 ?_
      refine p10_1 hx hb hts hown hK hR hS (hW.par l0 (vp_lt o_118)) q1189 dX12_shareOut_130 (fun H locs w_130 ew_130 hR hS => ?_)
      have h := h w_130 ew_130
      refine lv_aload_n hx hb dX12_shareOut_133 rfl (lv_at hl 2 rfl) ?_
      refine lv_iload hx hb dX12_shareOut_134 (lv_at hl 0 rfl) ?_
      refine lv_ldc2 (v := (-1 : Int64)) hx hb hown (hts _ q1228) dX12_shareOut_136 ?_
      have o_139 := h.1
      have h := h.2
      refine xa_last hx hb hK.1 hS (hR.LD.2 0 _ rfl) (hR.L 0 _ rfl) 1 rfl o_139 dX12_shareOut_139 (fun H1 locs h1 hz ho hS => ?_)
      have hR := hR.putL (t := 0) rfl h1 hz ho
      clear h1 hz ho
      generalize H1 = H at hR hS ⊢
      obtain ⟨f_139, ef_139⟩ : ∃ z, z = vp_updL f3 (r_107).toNatClampNeg ((-1 : Int64)) := ⟨_, rfl⟩
      rw [← ef_139] at hR
      have h := h f_139 ef_139
      have hR : Rp κ w_130 y X [(q3, .inl (kT κ 1, (5, .inr (.inl (f_139)))))] H := hR
      obtain ⟨x_140, ex_140⟩ : ∃ z : Int32, z = v4 + (-1 : Int32) := ⟨_, rfl⟩
      have h := h x_140 ex_140
      refine lv_iinc (v := x_140) (lv' := [(4, .int (x_140)), (5, .int (r_107)), (0, .ref (y.2 9 i0)), (3, .ref (q3))]) hx hb dX12_shareOut_140 hl (k := 3) rfl (by rw [ex_140]; rfl) (by decide) rfl (fun ls hl => ?_)
      refine lv_goto (tgt := 100) hx hb dX12_shareOut_143 (by decide) ?_
      exact ih w_130 f_139 x_140 _ _ _ _ _  h hR hS (lv_sub hl [2, 3, 0] rfl) (by omega) (by omega)
def sp_X12_shareOut (κ : Kx) (y : Ly) (post : Wd → Prop) (w : Wd) (a0 : Nat) (p1 : Int32) : Prop := sp_X12_shares κ y (fun r_1 w_1 => sp_X12_shareOut_15 κ y post (fun w_15 f3_15 y4_15 => sp_X12_shareOut_100 κ y post (fun w_100  => post w_100) a0 6 w_15 f3_15 y4_15) a0 p1 r_1 6 w_1 ((fun _ => 0)) p1 (0 : Int32)) w a0
theorem hd_X12_shareOut : yX12_shareOut.cls = RX12 ∧ yX12_shareOut.cls ≠ "java/lang/invoke/MethodHandle" ∧ yX12_shareOut.cls ≠ "java/lang/invoke/VarHandle" ∧ (parseMethodDescriptor yX12_shareOut.desc).map (fun d => d.parameters.length) = some 1 := by decide +kernel
set_option maxHeartbeats 4000000 in
theorem m_X12_shareOut {l : Launch} {κ : Kx} {y : Ly} {X : XR} {post : Wd → Prop} {w : Wd} {a0 : Nat} {p1 : Int32}  (hW : WFc κ y) (l0 : live y 9 a0) (h : sp_X12_shareOut κ y post w a0 p1) : Met l yX12_shareOut (ws_ yX12_shareOut cX12_shareOut 9 (Option.none : Option Jvm.ClassFile.FieldType)) rm_X12_shareOut (va_Pc [.ref (y.2 9 a0), .int (p1)] (RC κ w y X)) (va_Qv post (fun w t => Rp κ w y X [] t.heap) (Af κ)) 2 9 (Af κ) := by
  unfold sp_X12_shareOut at h
  refine Met.ofW (cc := cX12_shareOut) (maxL := 9) (ret := (Option.none : Option Jvm.ClassFile.FieldType)) (by decide) rfl ?_
  intro p e s m args below meth c s₁ B hml hv
  obtain ⟨rfl, hR, hK⟩ := hv
  have hx := B.exec
  have hb := B.bytes
  have hr := B.returns
  have hts := atoms_spec (ws := ws_ yX12_shareOut cX12_shareOut 9 (Option.none : Option Jvm.ClassFile.FieldType)) B.pre
  have hts : ∀ w ∈ lw_all, w.before _ s = true := fun w h => hts w (List.mem_cons_of_mem _ h)
  have hown : s.vm.findClass RX12 = some m.cls := findClass_of_methodNamed B.named
  have hlocks := B.notSynchronized
  have hS : va_S (Af κ) s.heap s.heap [] := va_S.rf
  have hl := lv_entry ([.ref (y.2 9 a0), .int (p1)]) (n := 9) (Nat.le_of_ble_eq_true rfl)
  rw [lg_entry_eq]
  generalize (lg_sl ([.ref (y.2 9 a0), .int (p1)]) ++ List.replicate (9 - (lg_sl ([.ref (y.2 9 a0), .int (p1)])).length) Slot.unset).toArray = ls at hl ⊢
  have hl : lv_has ls 9 [(0, .ref (y.2 9 a0)), (1, .int (p1))] := hl
  refine lv_aload_n hx hb dX12_shareOut_0 rfl (lv_at hl 0 rfl) ?_
  refine ce_qi (fw := fun u => u) (fy := fun _ => y) (cr_V (n := 0) (As := []) (rest := []) ⟨hx, hb, hml, hown, hts⟩ hK hR (m_X12_shares hW l0 h) q1221 q722 q723 q106 q724 rfl rfl hd_X12_shares ⟨Nat.le_of_ble_eq_true rfl, Nat.le_of_ble_eq_true rfl⟩ (rv hK hR l0 (ci := 7) rfl rfl) rfl rfl hl.1 rfl (lv_room (Nat.le_of_ble_eq_true rfl)) dX12_shareOut_1 ⟨(Nat.le_of_ble_eq_true rfl), (Nat.le_of_ble_eq_true rfl)⟩) hR hS (fun r_1 w_1 H locs h hR _ hS => ?_)
  refine lv_istore_n (lv' := [(2, .int (r_1)), (0, .ref (y.2 9 a0)), (1, .int (p1))]) hx hb dX12_shareOut_4 rfl hl (by decide) rfl (fun ls hl => ?_)
  refine lv_iconst (v := (5 : Int32)) hx hb dX12_shareOut_5 (by decide) ?_
  refine xa_newa (ty := .long) (N' := 5) (a0 := (5, .inr (.inl (fun _ => 0)))) hx hb hts q1229 rfl hK.1 1 rfl (by intro C h9; cases h9) hS rfl (by decide) (by decide) (by decide) (Nat.le_of_ble_eq_true rfl) (Nat.le_of_ble_eq_true rfl) dX12_shareOut_6 (fun q_6 H1 hq h1 hz ho hS => ?_)
  have hR := hR.newL hq h1 (by omega) ho
  clear hq h1 hz ho
  generalize H1 = H at hR hS ⊢
  have hR : Rp κ w_1 y X [(q_6, .inl (kT κ 1, (5, .inr (.inl ((fun _ => 0))))))] H := hR
  refine lv_astore_n (lv' := [(3, .ref (q_6)), (2, .int (r_1)), (0, .ref (y.2 9 a0)), (1, .int (p1))]) hx hb dX12_shareOut_8 rfl hl (by decide) rfl (fun ls hl => ?_)
  refine lv_iload_n hx hb dX12_shareOut_9 rfl (lv_at hl 3 rfl) ?_
  refine lv_istore (lv' := [(4, .int (p1)), (3, .ref (q_6)), (2, .int (r_1)), (0, .ref (y.2 9 a0)), (1, .int (p1))]) hx hb dX12_shareOut_10 hl (by decide) rfl (fun ls hl => ?_)
  refine lv_iconst (v := (0 : Int32)) hx hb dX12_shareOut_12 (by decide) ?_
  refine lv_istore (lv' := [(5, .int ((0 : Int32))), (4, .int (p1)), (3, .ref (q_6)), (2, .int (r_1)), (0, .ref (y.2 9 a0)), (1, .int (p1))]) hx hb dX12_shareOut_13 hl (by decide) rfl (fun ls hl => ?_)
  refine lp_X12_shareOut_15 (C1 := 2) (S1 := 9) hx hb hr hml hown hts hlocks hK hW l0 (Nat.le_of_ble_eq_true rfl) (Nat.le_of_ble_eq_true rfl) (fun w_15 f3_15 y4_15 H locs ls cells9 slots9 h hR hS hl hc9 hs9 => ?_) 6 w_1 ((fun _ => 0)) p1 (0 : Int32) _ _ _ _ _  h hR hS (lv_sub hl [4, 5, 3, 2, 1, 0] rfl) (by omega) (by omega)
  refine W.widen (k := 2) (n := 9) hc9 hs9 ?_
  refine lp_X12_shareOut_100 (C1 := 2) (S1 := 9) hx hb hr hml hown hts hlocks hK hW l0 (Nat.le_of_ble_eq_true rfl) (Nat.le_of_ble_eq_true rfl) (fun w_100  H locs ls cells9 slots9 h hR hS hl hc9 hs9 => ?_) 6 w_15 f3_15 y4_15 _ _ _ _ _  h hR hS (lv_sub hl [0, 1, 2] rfl) (by omega) (by omega)
  refine W.widen (k := 2) (n := 9) hc9 hs9 ?_
  refine W.widen (k := 2) (n := 9) (Nat.le_of_ble_eq_true rfl) (Nat.le_of_ble_eq_true rfl) ?_
  exact W.vret hx hb hr (fun t ht hW9 => ⟨⟨w_100, rfl, h, rpt ht hR⟩, hS.F ht⟩) hS.2.2 dX12_shareOut_146
abbrev rm_X15_best : Room := { frames := 3, cells := 1, slots := 4, locals := 68 }
def st_X15_best_8 (κ : Kx) (y : Ly) (post : Int32 → Wd → Prop) (ex : Wd → (Int32) → Prop) (rec : Wd → Int32 → Nat → Int32 → Prop) (i0 : Nat) (v2 : Int32) (w : Wd) (v3 : Int32) (c4 : Nat) (z4 : Int32) : Prop := ((¬ (¬ c4 = nC y)) → (ex w v3)) ∧ (((¬ c4 = nC y)) → (((nI c4 = v2) → (rec w v3 (c4 + 1) (nI c4))) ∧ ((¬ (nI c4 = v2)) → (sp_X15_counts κ y (fun r_42 w_42 => ((r_42 = 0) → (rec w_42 v3 (c4 + 1) (nI c4))) ∧ ((¬ (r_42 = 0)) → (((v3 = (-1 : Int32)) → (∀ x_77 : Int32, x_77 = nI c4 → rec w_42 x_77 (c4 + 1) (nI c4))) ∧ ((¬ (v3 = (-1 : Int32))) → ((vp_in (nI c4) 4) ∧ ((vp_in (v3) 4) ∧ (((gv w_42 12 i0 (nI c4).toNatClampNeg ≤ gv w_42 12 i0 (v3).toNatClampNeg) → (rec w_42 v3 (c4 + 1) (nI c4))) ∧ ((¬ (gv w_42 12 i0 (nI c4).toNatClampNeg ≤ gv w_42 12 i0 (v3).toNatClampNeg)) → (∀ x_77_a : Int32, x_77_a = nI c4 → rec w_42 x_77_a (c4 + 1) (nI c4)))))))))) w i0 c4))))
def sp_X15_best_8 (κ : Kx) (y : Ly) (post : Int32 → Wd → Prop) (ex : Wd → (Int32) → Prop) (i0 : Nat) (v2 : Int32) : Nat → Wd → Int32 → Nat → Int32 → Prop
  | 0 => fun _ _ _ _ => False
  | n + 1 => fun w v3 c4 z4 => st_X15_best_8 κ y post ex (sp_X15_best_8 κ y post ex i0 v2 n) i0 v2 w v3 c4 z4
set_option maxHeartbeats 4000000 in
theorem lp_X15_best_8 {p : Program} {l : Launch} {e : Env} {s : State} {m : MethodId} {args : Array Value} {below : List Frame} {meth : Method} {c : Code} {κ : Kx} {y : Ly} {X : XR} {post : Int32 → Wd → Prop} {q4 : Nat} {i0 : Nat} {v2 : Int32} (hx : p.tables.exec = Jvm.exec) (hb : c.code = cX15_best) (hr : meth.sig.returnType = (Option.some Jvm.ClassFile.FieldType.int)) (hml : c.maxLocals = 6) (hown : s.vm.findClass RX15 = some m.cls) (hts : ∀ w ∈ lw_all, w.before args s = true) (hlocks : meth.locks = false) (hK : KK κ s) (hW : WFc κ y) (l0 : live y 11 i0) {C1 S1 : Nat} (hC : C1 ≤ 1) (hSl : S1 ≤ 4) {ex : Wd → (Int32) → Prop}
    (kx : ∀ (w : Wd) (v3 : Int32) (H : Heap) (locs : List Loc) (ls : Array Slot) (cells slots : Nat) , ex w v3 → Rp κ w y X [] H → va_S (Af κ) s.heap H locs → lv_has ls 6 [(3, .int (v3))] → cells ≤ C1 → slots ≤ S1 → W p l e (headSpec (ws_ yX15_best cX15_best 6 (Option.some Jvm.ClassFile.FieldType.int)) rm_X15_best).room s m args below meth c H locs cells slots (MQ below (va_Qi post (fun w t => Rp κ w y X [] t.heap) (Af κ)) args s 1 4 (Af κ)) (F0 m 81 ls [])) :
    ∀ (f : Nat) (w : Wd) (v3 : Int32) (c4 : Nat) (z4 : Int32) (H : Heap) (locs : List Loc) (ls : Array Slot) (cells slots : Nat)  (hc4 : c4 ≤ nC y), sp_X15_best_8 κ y post ex i0 v2 f w v3 c4 z4 → Rp κ w y X [(q4, itC y 42 0 c4 z4)] H → va_S (Af κ) s.heap H locs → lv_has ls 6 [(0, .ref (y.2 11 i0)), (2, .int (v2)), (3, .int (v3)), (4, .ref (q4))] → cells + f * 0 ≤ C1 → slots + f * 0 ≤ S1 → W p l e (headSpec (ws_ yX15_best cX15_best 6 (Option.some Jvm.ClassFile.FieldType.int)) rm_X15_best).room s m args below meth c H locs cells slots (MQ below (va_Qi post (fun w t => Rp κ w y X [] t.heap) (Af κ)) args s 1 4 (Af κ)) (F0 m 8 ls []) := by
  intro f
  induction f with
  | zero =>
    intro w v3 c4 z4 H locs ls cells slots hc4 h
    exact False.elim h
  | succ f ih =>
    intro w v3 c4 z4 H locs ls cells slots hc4 h hR hS hl hc hs
    have h : st_X15_best_8 κ y post ex (sp_X15_best_8 κ y post ex i0 v2 f) i0 v2 w v3 c4 z4 := h
    unfold st_X15_best_8 at h
    refine lv_aload hx hb dX15_best_8 (lv_at hl 3 rfl) ?_
    refine jr_hasNext (t := 0) ⟨hx, hb, hml, hown, hts⟩ hK hR rfl ⟨fun _ _ _ _ _ => rfl, fun _ _ _ _ _ => rfl⟩ hW.lsC (by omega) (Nat.le_trans hW.nC4 (by decide)) q1345 ⟨Nat.le_of_ble_eq_true rfl, Nat.le_of_ble_eq_true rfl⟩ hl.1 (Nat.le_of_ble_eq_true rfl) dX15_best_10 ⟨(Nat.le_trans (show cells + 0 ≤ C1 from by omega) hC), (Nat.le_trans (show slots + 0 ≤ S1 from by omega) hSl)⟩ ?_
    refine lv_if_eq (tgt := 81) hx hb dX15_best_15 (by decide) (fun c_15 => ?_) (fun c_15 => ?_)
    · replace c_15 : ¬ (¬ c4 = nC y) := bi_0.mp c_15
      have h := h.1 c_15
      have hR := hR.sub (L' := []) [] rfl rfl
      exact kx w v3 _ _ _ _ _ h hR hS (lv_sub hl [2] rfl) (by omega) (by omega)
    · replace c_15 : (¬ c4 = nC y) := bi_n0.mp c_15
      have h := h.2 c_15
      refine lv_aload hx hb dX15_best_18 (lv_at hl 3 rfl) ?_
      have hn_20 : c4 < nC y := by omega
      refine jr_next (t := 0) (a := y.2 9 c4) ⟨hx, hb, hml, hown, hts⟩ hK hR hS rfl ⟨fun _ _ _ _ _ => rfl, fun _ _ _ _ _ => rfl⟩ hW.lsC ⟨hW.arC (Nat.lt_of_le_of_lt (Nat.zero_le _) hn_20), (Nat.le_trans hW.nC4 (by decide))⟩ hn_20 (hW.elC hn_20) q1347 ⟨Nat.le_of_ble_eq_true rfl, Nat.le_of_ble_eq_true rfl⟩ hl.1 (Nat.le_of_ble_eq_true rfl) dX15_best_20 ⟨(Nat.le_trans (show cells + 0 ≤ C1 from by omega) hC), (Nat.le_trans (show slots + 0 ≤ S1 from by omega) hSl)⟩ (fun H locs hR hS => ?_)
      have hR : Rp κ w y X [(q4, itC y 42 0 (c4 + 1) (nI c4))] H := hR
      refine jr_castS (ci := 7) hx hb hown hK hts (hR.role (hW.com hn_20)) rfl q1348 dX15_best_25 ?_
      refine lv_astore (lv' := [(5, .ref (y.2 9 c4)), (0, .ref (y.2 11 i0)), (2, .int (v2)), (3, .int (v3)), (4, .ref (q4))]) hx hb dX15_best_28 hl (by decide) rfl (fun ls hl => ?_)
      refine lv_aload hx hb dX15_best_30 (lv_at hl 0 rfl) ?_
      refine g9_0 hx hb hts hown hK hR (hW.com hn_20) q1121 dX15_best_32 ?_
      refine lv_iload_n hx hb dX15_best_35 rfl (lv_at hl 2 rfl) ?_
      refine lv_icmp_eq (tgt := 78) hx hb dX15_best_36 (by decide) (fun c_36 => ?_) (fun c_36 => ?_)
      · have h := h.1 c_36
        refine lv_goto (tgt := 8) hx hb dX15_best_78 (by decide) ?_
        exact ih w v3 (c4 + 1) (nI c4) _ _ _ _ _ (by omega) h hR hS (lv_sub hl [1, 2, 3, 4] rfl) (by omega) (by omega)
      · have h := h.2 c_36
        refine lv_aload_n hx hb dX15_best_39 rfl (lv_at hl 1 rfl) ?_
        refine lv_aload hx hb dX15_best_40 (lv_at hl 0 rfl) ?_
        refine ce_qi (fw := fun u => u) (fy := fun _ => y) (cr_V (n := 1) (As := [.ref (y.2 9 c4)]) (rest := []) ⟨hx, hb, hml, hown, hts⟩ hK hR (m_X15_counts hW l0 (hW.com hn_20) h) q1349 q1350 q1351 q112 q1352 rfl rfl hd_X15_counts ⟨Nat.le_of_ble_eq_true rfl, Nat.le_of_ble_eq_true rfl⟩ (rv hK hR l0 (ci := 9) rfl rfl) rfl rfl hl.1 rfl (lv_room (Nat.le_of_ble_eq_true rfl)) dX15_best_42 ⟨(Nat.le_trans (show cells + 0 ≤ C1 from by omega) hC), (Nat.le_trans (show slots + 0 ≤ S1 from by omega) hSl)⟩) hR hS (fun r_42 w_42 H locs h hR _ hS => ?_)
        refine lv_if_eq (tgt := 78) hx hb dX15_best_45 (by decide) (fun c_45 => ?_) (fun c_45 => ?_)
        · have h := h.1 c_45
          refine lv_goto (tgt := 8) hx hb dX15_best_78 (by decide) ?_
          exact ih w_42 v3 (c4 + 1) (nI c4) _ _ _ _ _ (by omega) h hR hS (lv_sub hl [1, 2, 3, 4] rfl) (by omega) (by omega)
        · have h := h.2 c_45
          refine lv_iload_n hx hb dX15_best_48 rfl (lv_at hl 3 rfl) ?_
          refine lv_iconst (v := (-1 : Int32)) hx hb dX15_best_49 (by decide) ?_
          refine lv_icmp_eq (tgt := 72) hx hb dX15_best_50 (by decide) (fun c_50 => ?_) (fun c_50 => ?_)
          · have h := h.1 c_50
            refine lv_aload hx hb dX15_best_72 (lv_at hl 0 rfl) ?_
            refine g9_0 hx hb hts hown hK hR (hW.com hn_20) q1121 dX15_best_74 ?_
            refine lv_topi (fun x_77 ex_77 => ?_)
            have h := h x_77 ex_77
            refine lv_istore_n (lv' := [(3, .int (x_77)), (5, .ref (y.2 9 c4)), (0, .ref (y.2 11 i0)), (2, .int (v2)), (4, .ref (q4))]) hx hb dX15_best_77 rfl hl (by decide) rfl (fun ls hl => ?_)
            refine lv_goto (tgt := 8) hx hb dX15_best_78 (by decide) ?_
            exact ih w_42 x_77 (c4 + 1) (nI c4) _ _ _ _ _ (by omega) h hR hS (lv_sub hl [2, 3, 0, 4] rfl) (by omega) (by omega)
          · have h := h.2 c_50
            refine lv_aload_n hx hb dX15_best_53 rfl (lv_at hl 1 rfl) ?_
            refine g11_5 hx hb hts hown hK hR l0 q1262 dX15_best_54 ?_
            refine lv_aload hx hb dX15_best_57 (lv_at hl 0 rfl) ?_
            refine g9_0 hx hb hts hown hK hR (hW.com hn_20) q1121 dX15_best_59 ?_
            have o_62 := h.1
            have h := h.2
            refine a12 hx hb hK hR (hW.bid l0) o_62 dX15_best_62 ?_
            refine lv_aload_n hx hb dX15_best_63 rfl (lv_at hl 1 rfl) ?_
            refine g11_5 hx hb hts hown hK hR l0 q1262 dX15_best_64 ?_
            refine lv_iload_n hx hb dX15_best_67 rfl (lv_at hl 3 rfl) ?_
            have o_68 := h.1
            have h := h.2
            refine a12 hx hb hK hR (hW.bid l0) o_68 dX15_best_68 ?_
            refine lv_icmp_le (tgt := 78) hx hb dX15_best_69 (by decide) (fun c_69 => ?_) (fun c_69 => ?_)
            · have h := h.1 c_69
              refine lv_goto (tgt := 8) hx hb dX15_best_78 (by decide) ?_
              exact ih w_42 v3 (c4 + 1) (nI c4) _ _ _ _ _ (by omega) h hR hS (lv_sub hl [1, 2, 3, 4] rfl) (by omega) (by omega)
            · have h := h.2 c_69
              refine lv_aload hx hb dX15_best_72 (lv_at hl 0 rfl) ?_
              refine g9_0 hx hb hts hown hK hR (hW.com hn_20) q1121 dX15_best_74 ?_
              refine lv_topi (fun x_77_a ex_77_a => ?_)
              have h := h x_77_a ex_77_a
              refine lv_istore_n (lv' := [(3, .int (x_77_a)), (5, .ref (y.2 9 c4)), (0, .ref (y.2 11 i0)), (2, .int (v2)), (4, .ref (q4))]) hx hb dX15_best_77 rfl hl (by decide) rfl (fun ls hl => ?_)
              refine lv_goto (tgt := 8) hx hb dX15_best_78 (by decide) ?_
              exact ih w_42 x_77_a (c4 + 1) (nI c4) _ _ _ _ _ (by omega) h hR hS (lv_sub hl [2, 3, 0, 4] rfl) (by omega) (by omega)
def sp_X15_best (κ : Kx) (y : Ly) (post : Int32 → Wd → Prop) (w : Wd) (a0 : Nat) (p2 : Int32) : Prop := sp_X15_best_8 κ y post (fun w_8 y3_8 => post (y3_8) w_8) a0 p2 5 w (-1 : Int32) 0 (-1)
theorem hd_X15_best : yX15_best.cls = RX15 ∧ yX15_best.cls ≠ "java/lang/invoke/MethodHandle" ∧ yX15_best.cls ≠ "java/lang/invoke/VarHandle" ∧ (parseMethodDescriptor yX15_best.desc).map (fun d => d.parameters.length) = some 2 := by decide +kernel
set_option maxHeartbeats 4000000 in
theorem m_X15_best {l : Launch} {κ : Kx} {y : Ly} {X : XR} {post : Int32 → Wd → Prop} {w : Wd} {a0 : Nat} {p2 : Int32}  (hW : WFc κ y) (l0 : live y 11 a0) (h : sp_X15_best κ y post w a0 p2) : Met l yX15_best (ws_ yX15_best cX15_best 6 (Option.some Jvm.ClassFile.FieldType.int)) rm_X15_best (va_Pc [.ref (y.2 11 a0), .ref (y.2 42 0), .int (p2)] (RC κ w y X)) (va_Qi post (fun w t => Rp κ w y X [] t.heap) (Af κ)) 1 4 (Af κ) := by
  unfold sp_X15_best at h
  refine Met.ofW (cc := cX15_best) (maxL := 6) (ret := (Option.some Jvm.ClassFile.FieldType.int)) (by decide) rfl ?_
  intro p e s m args below meth c s₁ B hml hv
  obtain ⟨rfl, hR, hK⟩ := hv
  have hx := B.exec
  have hb := B.bytes
  have hr := B.returns
  have hts := atoms_spec (ws := ws_ yX15_best cX15_best 6 (Option.some Jvm.ClassFile.FieldType.int)) B.pre
  have hts : ∀ w ∈ lw_all, w.before _ s = true := fun w h => hts w (List.mem_cons_of_mem _ h)
  have hown : s.vm.findClass RX15 = some m.cls := findClass_of_methodNamed B.named
  have hlocks := B.notSynchronized
  have hS : va_S (Af κ) s.heap s.heap [] := va_S.rf
  have hl := lv_entry ([.ref (y.2 11 a0), .ref (y.2 42 0), .int (p2)]) (n := 6) (Nat.le_of_ble_eq_true rfl)
  rw [lg_entry_eq]
  generalize (lg_sl ([.ref (y.2 11 a0), .ref (y.2 42 0), .int (p2)]) ++ List.replicate (6 - (lg_sl ([.ref (y.2 11 a0), .ref (y.2 42 0), .int (p2)])).length) Slot.unset).toArray = ls at hl ⊢
  have hl : lv_has ls 6 [(0, .ref (y.2 11 a0)), (1, .ref (y.2 42 0)), (2, .int (p2))] := hl
  refine lv_iconst (v := (-1 : Int32)) hx hb dX15_best_0 (by decide) ?_
  refine lv_istore_n (lv' := [(3, .int ((-1 : Int32))), (0, .ref (y.2 11 a0)), (1, .ref (y.2 42 0)), (2, .int (p2))]) hx hb dX15_best_1 rfl hl (by decide) rfl (fun ls hl => ?_)
  refine lv_aload_n hx hb dX15_best_2 rfl (lv_at hl 2 rfl) ?_
  refine jr_iter ⟨hx, hb, hml, hown, hts⟩ hK hR hS ⟨fun _ _ _ _ _ => rfl, fun _ _ _ _ _ => rfl⟩ hW.lsC q1343 ⟨Nat.le_of_ble_eq_true rfl, Nat.le_of_ble_eq_true rfl⟩ hl.1 (Nat.le_of_ble_eq_true rfl) dX15_best_3 ⟨(Nat.le_of_ble_eq_true rfl), (Nat.le_of_ble_eq_true rfl)⟩ (fun q_3 H locs hR hS => ?_)
  have hR : Rp κ w y X [(q_3, itC y 42 0 0 (-1))] H := hR
  refine lv_astore (lv' := [(4, .ref (q_3)), (3, .int ((-1 : Int32))), (0, .ref (y.2 11 a0)), (1, .ref (y.2 42 0)), (2, .int (p2))]) hx hb dX15_best_6 hl (by decide) rfl (fun ls hl => ?_)
  refine lp_X15_best_8 (C1 := 1) (S1 := 4) hx hb hr hml hown hts hlocks hK hW l0 (Nat.le_of_ble_eq_true rfl) (Nat.le_of_ble_eq_true rfl) (fun w_8 y3_8 H locs ls cells9 slots9 h hR hS hl hc9 hs9 => ?_) 5 w (-1 : Int32) 0 (-1) _ _ _ _ _ (by omega) h hR hS (lv_sub hl [2, 4, 1, 0] rfl) (by omega) (by omega)
  refine W.widen (k := 1) (n := 4) hc9 hs9 ?_
  refine lv_iload_n hx hb dX15_best_81 rfl (lv_at hl 0 rfl) ?_
  refine W.widen (k := 1) (n := 4) (Nat.le_of_ble_eq_true rfl) (Nat.le_of_ble_eq_true rfl) ?_
  exact W.iret (v := y3_8) hx hb hr (fun t ht hW9 => ⟨⟨y3_8, w_8, rfl, h, rpt ht hR⟩, hS.F ht⟩) hS.2.2 dX15_best_82
abbrev rm_X18_got : Room := { frames := 2, cells := 0, slots := 0, locals := 43 }
def sp_X18_got (κ : Kx) (y : Ly) (post : Int32 → Wd → Prop) (w : Wd) (a0 : Nat) (a1 : Nat) (p2 : Int32) (p3 : Int32) (a4 : Nat) (p6 : Int32) : Prop := ∀ x_8 : Int32, x_8 = jmin (gv w 6 a1 9) p2 → ((¬ p6 = 0) → (∀ w_26 : Wd, w_26 = sv w 6 a1 9 ((gv w 6 a1 9) - x_8) → sp_X3_pay κ y (fun r_37 w_37 => post (x_8) w_37) w_26 a4 ((2 : Int32) * x_8))) ∧ ((p6 = 0) → (post (x_8) w))
theorem hd_X18_got : yX18_got.cls = RX18 ∧ yX18_got.cls ≠ "java/lang/invoke/MethodHandle" ∧ yX18_got.cls ≠ "java/lang/invoke/VarHandle" ∧ (parseMethodDescriptor yX18_got.desc).map (fun d => d.parameters.length) = some 6 := by decide +kernel
set_option maxHeartbeats 4000000 in
theorem m_X18_got {l : Launch} {κ : Kx} {y : Ly} {X : XR} {post : Int32 → Wd → Prop} {w : Wd} {a0 : Nat} {a1 : Nat} {p2 : Int32} {p3 : Int32} {a4 : Nat} {p6 : Int32}  (hW : WFc κ y) (l0 : a0 < 3) (l1 : live y 6 a1) (l4 : live y 1 a4) (l5 : live y 1 0) (h : sp_X18_got κ y post w a0 a1 p2 p3 a4 p6) : MetN l yX18_got (ws_ yX18_got cX18_got 8 (Option.some Jvm.ClassFile.FieldType.int)) rm_X18_got (va_Pc [.ref (kA κ (20 + a0)), .ref (y.2 6 a1), .int (p2), .int (p3), .ref (y.2 1 a4), .ref (y.2 1 0), .int (p6)] (RC κ w y X)) (va_Qi post (fun w t => Rp κ w y X [] t.heap) (Af κ)) 0 0 (Af κ) := by
  unfold sp_X18_got at h
  refine MetN.ofW (cc := cX18_got) (maxL := 8) (ret := (Option.some Jvm.ClassFile.FieldType.int)) (by decide) rfl ?_
  intro p e s m args below meth c hx hb hr hlocks hpre hnamed hml hv
  obtain ⟨rfl, hR, hK⟩ := hv
  have hts := atoms_spec (ws := ws_ yX18_got cX18_got 8 (Option.some Jvm.ClassFile.FieldType.int)) hpre
  have hts : ∀ w ∈ lw_all, w.before _ s = true := fun w h => hts w (List.mem_cons_of_mem _ h)
  have hown : s.vm.findClass RX18 = some m.cls := findClass_of_methodNamed hnamed
  have hS : va_S (Af κ) s.heap s.heap [] := va_S.rf
  have hl := lv_entry ([.ref (kA κ (20 + a0)), .ref (y.2 6 a1), .int (p2), .int (p3), .ref (y.2 1 a4), .ref (y.2 1 0), .int (p6)]) (n := 8) (Nat.le_of_ble_eq_true rfl)
  rw [lg_entry_eq]
  generalize (lg_sl ([.ref (kA κ (20 + a0)), .ref (y.2 6 a1), .int (p2), .int (p3), .ref (y.2 1 a4), .ref (y.2 1 0), .int (p6)]) ++ List.replicate (8 - (lg_sl ([.ref (kA κ (20 + a0)), .ref (y.2 6 a1), .int (p2), .int (p3), .ref (y.2 1 a4), .ref (y.2 1 0), .int (p6)])).length) Slot.unset).toArray = ls at hl ⊢
  have hl : lv_has ls 8 [(0, .ref (kA κ (20 + a0))), (1, .ref (y.2 6 a1)), (2, .int (p2)), (3, .int (p3)), (4, .ref (y.2 1 a4)), (5, .ref (y.2 1 0)), (6, .int (p6))] := hl
  refine lv_aload_n hx hb dX18_got_0 rfl (lv_at hl 1 rfl) ?_
  refine g6_9 hx hb hts hown hK hR l1 q939 dX18_got_1 ?_
  refine lv_iload_n hx hb dX18_got_4 rfl (lv_at hl 2 rfl) ?_
  refine va_mmin hx hb (hml.trans hl.1.symm) hown (hts _ q650) (hts _ q322) (hts _ q95) (hts _ q323) (Nat.le_of_ble_eq_true rfl) (Nat.le_of_ble_eq_true rfl) (Nat.le_of_ble_eq_true rfl) (Nat.le_of_ble_eq_true rfl) dX18_got_5 ?_
  refine lv_topi (fun x_8 ex_8 => ?_)
  have h := h x_8 ex_8
  refine lv_istore (lv' := [(7, .int (x_8)), (0, .ref (kA κ (20 + a0))), (1, .ref (y.2 6 a1)), (2, .int (p2)), (3, .int (p3)), (4, .ref (y.2 1 a4)), (5, .ref (y.2 1 0)), (6, .int (p6))]) hx hb dX18_got_8 hl (by decide) rfl (fun ls hl => ?_)
  refine lv_iload hx hb dX18_got_10 (lv_at hl 7 rfl) ?_
  refine lv_if_ne (tgt := 18) hx hb dX18_got_12 (by decide) (fun c_12 => ?_) (fun c_12 => ?_)
  · have h := h.1 c_12
    refine lv_aload_n hx hb dX18_got_18 rfl (lv_at hl 2 rfl) ?_
    refine lv_dup hx hb dX18_got_19 rfl ?_
    refine g6_9 hx hb hts hown hK hR l1 q939 dX18_got_20 ?_
    refine lv_iload hx hb dX18_got_23 (lv_at hl 0 rfl) ?_
    refine lv_isub hx hb dX18_got_25 ?_
    refine p6_9 hx hb hts hown hK hR hS l1 q939 dX18_got_26 (fun H locs w_26 ew_26 hR hS => ?_)
    have h := h w_26 ew_26
    refine lv_aload hx hb dX18_got_29 (lv_at hl 6 rfl) ?_
    refine lv_aload hx hb dX18_got_31 (lv_at hl 5 rfl) ?_
    refine lv_iconst (v := (2 : Int32)) hx hb dX18_got_33 (by decide) ?_
    refine lv_iload hx hb dX18_got_34 (lv_at hl 0 rfl) ?_
    refine lv_imul hx hb dX18_got_36 ?_
    refine ce_qi (fw := fun u => u) (fy := fun _ => y) (cr_O (C := RX3) (owner := "Publicanry$Chest") (Z := yX2_pay) (n := 2) (As := [.ref (y.2 1 a4), .int ((2 : Int32) * x_8)]) (rest := []) ⟨hx, hb, hml, hown, hts⟩ hK hR (m_X3_pay hW l5 l4 h) q651 q309 q307 q310 q311 q79 q312 q320 rfl rfl (by decide +kernel) ⟨Nat.le_of_ble_eq_true rfl, Nat.le_of_ble_eq_true rfl⟩ (rv_ch0 hK hR l5) rfl rfl hl.1 rfl (lv_room (Nat.le_of_ble_eq_true rfl)) dX18_got_37 ⟨(Nat.le_of_ble_eq_true rfl), (Nat.le_of_ble_eq_true rfl)⟩) hR hS (fun r_37 w_37 H locs h hR _ hS => ?_)
    refine lv_pop hx hb dX18_got_40 rfl ?_
    refine lv_iload hx hb dX18_got_41 (lv_at hl 0 rfl) ?_
    refine W.widen (k := 0) (n := 0) (Nat.le_of_ble_eq_true rfl) (Nat.le_of_ble_eq_true rfl) ?_
    exact W.iret (v := x_8) hx hb hr (fun t ht hW9 => ⟨⟨x_8, w_37, rfl, h, rpt ht hR⟩, hS.F ht⟩) hS.2.2 dX18_got_43
  · have h := h.2 c_12
    refine lv_iload hx hb dX18_got_15 (lv_at hl 0 rfl) ?_
    refine W.widen (k := 0) (n := 0) (Nat.le_of_ble_eq_true rfl) (Nat.le_of_ble_eq_true rfl) ?_
    exact W.iret (v := x_8) hx hb hr (fun t ht hW9 => ⟨⟨x_8, w, rfl, h, rpt ht hR⟩, hS.F ht⟩) hS.2.2 dX18_got_17
abbrev rm_X7_got : Room := { frames := 3, cells := 0, slots := 0, locals := 66 }
def sp_X7_got (κ : Kx) (y : Ly) (post : Int32 → Wd → Prop) (w : Wd) (a0 : Nat) (a1 : Nat) (p2 : Int32) (p3 : Int32) (a4 : Nat) (p6 : Int32) : Prop := sp_X2_coins κ y (fun r_4 w_4 => ∀ x_11 : Int32, x_11 = jmin r_4 p2 → ((p3 = 0) → (((¬ p6 = 0) → (sp_X2_pay κ y (fun r_41 w_41 => ((p3 = 0) → (post (x_11) w_41)) ∧ ((¬ (p3 = 0)) → (sp_X10_borrow κ y (fun w_58 => post (x_11) w_58) w_41 a1 (p2 - x_11) a4))) w_4 (((3 + a1))) a4 x_11)) ∧ ((p6 = 0) → (post (x_11) w_4)))) ∧ ((¬ (p3 = 0)) → (((¬ p6 = 0) → (sp_X2_pay κ y (fun r_41_a w_41_a => ((p3 = 0) → (post (p2) w_41_a)) ∧ ((¬ (p3 = 0)) → (sp_X10_borrow κ y (fun w_58_a => post (p2) w_58_a) w_41_a a1 (p2 - x_11) a4))) w_4 (((3 + a1))) a4 x_11)) ∧ ((p6 = 0) → (post (p2) w_4))))) w (((3 + a1)))
theorem hd_X7_got : yX7_got.cls = RX7 ∧ yX7_got.cls ≠ "java/lang/invoke/MethodHandle" ∧ yX7_got.cls ≠ "java/lang/invoke/VarHandle" ∧ (parseMethodDescriptor yX7_got.desc).map (fun d => d.parameters.length) = some 6 := by decide +kernel
set_option maxHeartbeats 4000000 in
theorem m_X7_got {l : Launch} {κ : Kx} {y : Ly} {X : XR} {post : Int32 → Wd → Prop} {w : Wd} {a0 : Nat} {a1 : Nat} {p2 : Int32} {p3 : Int32} {a4 : Nat} {p6 : Int32}  (hW : WFc κ y) (l0 : a0 < 3) (l1 : live y 6 a1) (l4 : live y 1 a4) (l5 : live y 1 0) (h : sp_X7_got κ y post w a0 a1 p2 p3 a4 p6) : Met l yX7_got (ws_ yX7_got cX7_got 9 (Option.some Jvm.ClassFile.FieldType.int)) rm_X7_got (va_Pc [.ref (kA κ (20 + a0)), .ref (y.2 6 a1), .int (p2), .int (p3), .ref (y.2 1 a4), .ref (y.2 1 0), .int (p6)] (RC κ w y X)) (va_Qi post (fun w t => Rp κ w y X [] t.heap) (Af κ)) 0 0 (Af κ) := by
  unfold sp_X7_got at h
  refine Met.ofW (cc := cX7_got) (maxL := 9) (ret := (Option.some Jvm.ClassFile.FieldType.int)) (by decide) rfl ?_
  intro p e s m args below meth c s₁ B hml hv
  obtain ⟨rfl, hR, hK⟩ := hv
  have hx := B.exec
  have hb := B.bytes
  have hr := B.returns
  have hts := atoms_spec (ws := ws_ yX7_got cX7_got 9 (Option.some Jvm.ClassFile.FieldType.int)) B.pre
  have hts : ∀ w ∈ lw_all, w.before _ s = true := fun w h => hts w (List.mem_cons_of_mem _ h)
  have hown : s.vm.findClass RX7 = some m.cls := findClass_of_methodNamed B.named
  have hlocks := B.notSynchronized
  have hS : va_S (Af κ) s.heap s.heap [] := va_S.rf
  have hl := lv_entry ([.ref (kA κ (20 + a0)), .ref (y.2 6 a1), .int (p2), .int (p3), .ref (y.2 1 a4), .ref (y.2 1 0), .int (p6)]) (n := 9) (Nat.le_of_ble_eq_true rfl)
  rw [lg_entry_eq]
  generalize (lg_sl ([.ref (kA κ (20 + a0)), .ref (y.2 6 a1), .int (p2), .int (p3), .ref (y.2 1 a4), .ref (y.2 1 0), .int (p6)]) ++ List.replicate (9 - (lg_sl ([.ref (kA κ (20 + a0)), .ref (y.2 6 a1), .int (p2), .int (p3), .ref (y.2 1 a4), .ref (y.2 1 0), .int (p6)])).length) Slot.unset).toArray = ls at hl ⊢
  have hl : lv_has ls 9 [(0, .ref (kA κ (20 + a0))), (1, .ref (y.2 6 a1)), (2, .int (p2)), (3, .int (p3)), (4, .ref (y.2 1 a4)), (5, .ref (y.2 1 0)), (6, .int (p6))] := hl
  refine lv_aload_n hx hb dX7_got_0 rfl (lv_at hl 1 rfl) ?_
  refine g6_2 hx hb hts hown hK hR l1 q924 dX7_got_1 ?_
  refine ce_qi (fw := fun u => u) (fy := fun _ => y) (cr_V (n := 0) (As := []) (rest := []) ⟨hx, hb, hml, hown, hts⟩ hK hR (m_X2_coins hW (hW.vch l1) h) q655 q301 q302 q78 q305 rfl rfl hd_X2_coins ⟨Nat.le_of_ble_eq_true rfl, Nat.le_of_ble_eq_true rfl⟩ (rv_ch1 hK hR (hW.vch l1) (by omega)) rfl rfl hl.1 rfl (lv_room (Nat.le_of_ble_eq_true rfl)) dX7_got_4 ⟨(Nat.le_of_ble_eq_true rfl), (Nat.le_of_ble_eq_true rfl)⟩) hR hS (fun r_4 w_4 H locs h hR _ hS => ?_)
  refine lv_iload_n hx hb dX7_got_7 rfl (lv_at hl 2 rfl) ?_
  refine va_mmin hx hb (hml.trans hl.1.symm) hown (hts _ q656) (hts _ q322) (hts _ q95) (hts _ q323) (Nat.le_of_ble_eq_true rfl) (Nat.le_of_ble_eq_true rfl) (Nat.le_of_ble_eq_true rfl) (Nat.le_of_ble_eq_true rfl) dX7_got_8 ?_
  refine lv_topi (fun x_11 ex_11 => ?_)
  have h := h x_11 ex_11
  refine lv_istore (lv' := [(7, .int (x_11)), (0, .ref (kA κ (20 + a0))), (1, .ref (y.2 6 a1)), (2, .int (p2)), (3, .int (p3)), (4, .ref (y.2 1 a4)), (5, .ref (y.2 1 0)), (6, .int (p6))]) hx hb dX7_got_11 hl (by decide) rfl (fun ls hl => ?_)
  refine lv_iload_n hx hb dX7_got_13 rfl (lv_at hl 4 rfl) ?_
  refine lv_if_eq (tgt := 21) hx hb dX7_got_14 (by decide) (fun c_14 => ?_) (fun c_14 => ?_)
  · have h := h.1 c_14
    refine lv_iload hx hb dX7_got_21 (lv_at hl 0 rfl) ?_
    refine lv_istore (lv' := [(8, .int (x_11)), (7, .int (x_11)), (0, .ref (kA κ (20 + a0))), (1, .ref (y.2 6 a1)), (2, .int (p2)), (3, .int (p3)), (4, .ref (y.2 1 a4)), (5, .ref (y.2 1 0)), (6, .int (p6))]) hx hb dX7_got_23 hl (by decide) rfl (fun ls hl => ?_)
    refine lv_iload hx hb dX7_got_25 (lv_at hl 8 rfl) ?_
    refine lv_if_ne (tgt := 33) hx hb dX7_got_27 (by decide) (fun c_27 => ?_) (fun c_27 => ?_)
    · have h := h.1 c_27
      refine lv_aload_n hx hb dX7_got_33 rfl (lv_at hl 3 rfl) ?_
      refine g6_2 hx hb hts hown hK hR l1 q924 dX7_got_34 ?_
      refine lv_aload hx hb dX7_got_37 (lv_at hl 6 rfl) ?_
      refine lv_iload hx hb dX7_got_39 (lv_at hl 1 rfl) ?_
      refine ce_qi (fw := fun u => u) (fy := fun _ => y) (cr_V (n := 2) (As := [.ref (y.2 1 a4), .int (x_11)]) (rest := []) ⟨hx, hb, hml, hown, hts⟩ hK hR (m_X2_pay hW (hW.vch l1) l4 (by first | omega | assumption) h) q657 q307 q308 q78 q320 rfl rfl hd_X2_pay ⟨Nat.le_of_ble_eq_true rfl, Nat.le_of_ble_eq_true rfl⟩ (rv_ch1 hK hR (hW.vch l1) (by omega)) rfl rfl hl.1 rfl (lv_room (Nat.le_of_ble_eq_true rfl)) dX7_got_41 ⟨(Nat.le_of_ble_eq_true rfl), (Nat.le_of_ble_eq_true rfl)⟩) hR hS (fun r_41 w_41 H locs h hR _ hS => ?_)
      refine lv_pop hx hb dX7_got_44 rfl ?_
      refine lv_iload_n hx hb dX7_got_45 rfl (lv_at hl 5 rfl) ?_
      refine lv_if_eq (tgt := 61) hx hb dX7_got_46 (by decide) (fun c_46 => ?_) (fun c_46 => ?_)
      · have h := h.1 c_46
        refine lv_iload hx hb dX7_got_61 (lv_at hl 0 rfl) ?_
        refine W.widen (k := 0) (n := 0) (Nat.le_of_ble_eq_true rfl) (Nat.le_of_ble_eq_true rfl) ?_
        exact W.iret (v := x_11) hx hb hr (fun t ht hW9 => ⟨⟨x_11, w_41, rfl, h, rpt ht hR⟩, hS.F ht⟩) hS.2.2 dX7_got_63
      · have h := h.2 c_46
        refine lv_aload_n hx hb dX7_got_49 rfl (lv_at hl 3 rfl) ?_
        refine lv_iload_n hx hb dX7_got_50 rfl (lv_at hl 4 rfl) ?_
        refine lv_iload hx hb dX7_got_51 (lv_at hl 1 rfl) ?_
        refine lv_isub hx hb dX7_got_53 ?_
        refine lv_aload hx hb dX7_got_54 (lv_at hl 6 rfl) ?_
        refine lv_aload hx hb dX7_got_56 (lv_at hl 7 rfl) ?_
        refine ce_qv (fw := fun u => u) (fy := fun _ => y) (cr_V (n := 3) (As := [.int (p2 - x_11), .ref (y.2 1 a4), .ref (y.2 1 0)]) (rest := []) ⟨hx, hb, hml, hown, hts⟩ hK hR (m_X10_borrow hW l1 l4 l5 h) q658 q659 q660 q92 q661 rfl rfl hd_X10_borrow ⟨Nat.le_of_ble_eq_true rfl, Nat.le_of_ble_eq_true rfl⟩ (rv hK hR l1 (ci := 6) rfl rfl) rfl rfl hl.1 rfl (lv_room (Nat.le_of_ble_eq_true rfl)) dX7_got_58 ⟨(Nat.le_of_ble_eq_true rfl), (Nat.le_of_ble_eq_true rfl)⟩) hR hS (fun w_58 H locs h hR _ hS => ?_)
        refine lv_iload hx hb dX7_got_61 (lv_at hl 0 rfl) ?_
        refine W.widen (k := 0) (n := 0) (Nat.le_of_ble_eq_true rfl) (Nat.le_of_ble_eq_true rfl) ?_
        exact W.iret (v := x_11) hx hb hr (fun t ht hW9 => ⟨⟨x_11, w_58, rfl, h, rpt ht hR⟩, hS.F ht⟩) hS.2.2 dX7_got_63
    · have h := h.2 c_27
      refine lv_iload hx hb dX7_got_30 (lv_at hl 0 rfl) ?_
      refine W.widen (k := 0) (n := 0) (Nat.le_of_ble_eq_true rfl) (Nat.le_of_ble_eq_true rfl) ?_
      exact W.iret (v := x_11) hx hb hr (fun t ht hW9 => ⟨⟨x_11, w_4, rfl, h, rpt ht hR⟩, hS.F ht⟩) hS.2.2 dX7_got_32
  · have h := h.2 c_14
    refine lv_iload_n hx hb dX7_got_17 rfl (lv_at hl 3 rfl) ?_
    refine lv_goto (tgt := 23) hx hb dX7_got_18 (by decide) ?_
    refine lv_istore (lv' := [(8, .int (p2)), (7, .int (x_11)), (0, .ref (kA κ (20 + a0))), (1, .ref (y.2 6 a1)), (2, .int (p2)), (3, .int (p3)), (4, .ref (y.2 1 a4)), (5, .ref (y.2 1 0)), (6, .int (p6))]) hx hb dX7_got_23 hl (by decide) rfl (fun ls hl => ?_)
    refine lv_iload hx hb dX7_got_25 (lv_at hl 8 rfl) ?_
    refine lv_if_ne (tgt := 33) hx hb dX7_got_27 (by decide) (fun c_27_a => ?_) (fun c_27_a => ?_)
    · have h := h.1 c_27_a
      refine lv_aload_n hx hb dX7_got_33 rfl (lv_at hl 3 rfl) ?_
      refine g6_2 hx hb hts hown hK hR l1 q924 dX7_got_34 ?_
      refine lv_aload hx hb dX7_got_37 (lv_at hl 6 rfl) ?_
      refine lv_iload hx hb dX7_got_39 (lv_at hl 1 rfl) ?_
      refine ce_qi (fw := fun u => u) (fy := fun _ => y) (cr_V (n := 2) (As := [.ref (y.2 1 a4), .int (x_11)]) (rest := []) ⟨hx, hb, hml, hown, hts⟩ hK hR (m_X2_pay hW (hW.vch l1) l4 (by first | omega | assumption) h) q657 q307 q308 q78 q320 rfl rfl hd_X2_pay ⟨Nat.le_of_ble_eq_true rfl, Nat.le_of_ble_eq_true rfl⟩ (rv_ch1 hK hR (hW.vch l1) (by omega)) rfl rfl hl.1 rfl (lv_room (Nat.le_of_ble_eq_true rfl)) dX7_got_41 ⟨(Nat.le_of_ble_eq_true rfl), (Nat.le_of_ble_eq_true rfl)⟩) hR hS (fun r_41_a w_41_a H locs h hR _ hS => ?_)
      refine lv_pop hx hb dX7_got_44 rfl ?_
      refine lv_iload_n hx hb dX7_got_45 rfl (lv_at hl 5 rfl) ?_
      refine lv_if_eq (tgt := 61) hx hb dX7_got_46 (by decide) (fun c_46_a => ?_) (fun c_46_a => ?_)
      · have h := h.1 c_46_a
        refine lv_iload hx hb dX7_got_61 (lv_at hl 0 rfl) ?_
        refine W.widen (k := 0) (n := 0) (Nat.le_of_ble_eq_true rfl) (Nat.le_of_ble_eq_true rfl) ?_
        exact W.iret (v := p2) hx hb hr (fun t ht hW9 => ⟨⟨p2, w_41_a, rfl, h, rpt ht hR⟩, hS.F ht⟩) hS.2.2 dX7_got_63
      · have h := h.2 c_46_a
        refine lv_aload_n hx hb dX7_got_49 rfl (lv_at hl 3 rfl) ?_
        refine lv_iload_n hx hb dX7_got_50 rfl (lv_at hl 4 rfl) ?_
        refine lv_iload hx hb dX7_got_51 (lv_at hl 1 rfl) ?_
        refine lv_isub hx hb dX7_got_53 ?_
        refine lv_aload hx hb dX7_got_54 (lv_at hl 6 rfl) ?_
        refine lv_aload hx hb dX7_got_56 (lv_at hl 7 rfl) ?_
        refine ce_qv (fw := fun u => u) (fy := fun _ => y) (cr_V (n := 3) (As := [.int (p2 - x_11), .ref (y.2 1 a4), .ref (y.2 1 0)]) (rest := []) ⟨hx, hb, hml, hown, hts⟩ hK hR (m_X10_borrow hW l1 l4 l5 h) q658 q659 q660 q92 q661 rfl rfl hd_X10_borrow ⟨Nat.le_of_ble_eq_true rfl, Nat.le_of_ble_eq_true rfl⟩ (rv hK hR l1 (ci := 6) rfl rfl) rfl rfl hl.1 rfl (lv_room (Nat.le_of_ble_eq_true rfl)) dX7_got_58 ⟨(Nat.le_of_ble_eq_true rfl), (Nat.le_of_ble_eq_true rfl)⟩) hR hS (fun w_58_a H locs h hR _ hS => ?_)
        refine lv_iload hx hb dX7_got_61 (lv_at hl 0 rfl) ?_
        refine W.widen (k := 0) (n := 0) (Nat.le_of_ble_eq_true rfl) (Nat.le_of_ble_eq_true rfl) ?_
        exact W.iret (v := p2) hx hb hr (fun t ht hW9 => ⟨⟨p2, w_58_a, rfl, h, rpt ht hR⟩, hS.F ht⟩) hS.2.2 dX7_got_63
    · have h := h.2 c_27_a
      refine lv_iload hx hb dX7_got_30 (lv_at hl 0 rfl) ?_
      refine W.widen (k := 0) (n := 0) (Nat.le_of_ble_eq_true rfl) (Nat.le_of_ble_eq_true rfl) ?_
      exact W.iret (v := p2) hx hb hr (fun t ht hW9 => ⟨⟨p2, w_4, rfl, h, rpt ht hR⟩, hS.F ht⟩) hS.2.2 dX7_got_32
def sp_D_got (κ : Kx) (y : Ly) (post : Int32 → Wd → Prop) (w : Wd) (a0 : Nat) (b1 : Nat) (p2 : Int32) (p3 : Int32) (b4 : Nat) (p6 : Int32) : Prop := (a0 = 0 → sp_X18_got κ y post w a0 b1 p2 p3 b4 p6) ∧ (a0 = 1 → sp_X7_got κ y post w a0 b1 p2 p3 b4 p6) ∧ (a0 = 2 → sp_X7_got κ y post w a0 b1 p2 p3 b4 p6)
abbrev rm_X1_lot : Room := { frames := 8, cells := 9, slots := 62, locals := 171 }
def sp_X1_lot (κ : Kx) (y : Ly) (post : Int32 → Wd → Ly → Prop) (px : String → Wd → Prop) (w : Wd) (p1 : Int32) (p2 : Int32) (p3 : Int32) (p4 : Int32) : Prop := sp_X1_dutyOf κ y (fun i_1 w_1 => ∀ j45 : Wd → Int32 → Prop, (j45 = fun (w45 : Wd) (s0_45 : Int32) => sp_X1_check κ y (fun w_47 => (nL y < 9) ∧ ((¬ y.1 11 (nL y) = 1) ∧ ((¬ y.1 12 (nL y) = 1) ∧ ((¬ y.1 13 (nL y) = 1) ∧ ((¬ y.1 14 (nL y) = 1) ∧ (∀ n_67 : Nat, n_67 = nL y → ∀ w_67 : Wd, w_67 = wMkL w_47 n_67 i_1 p2 p3 p4 → ∀ (y_67 : Ly) (q9a q9b q9c : Nat), y_67 = yMkL y n_67 q9a q9b q9c → ∀ j98 : Wd → Int32 → Prop, (j98 = fun (w98 : Wd) (s0_98 : Int32) => sp_X1_state κ y (fun w_100 => ∀ w_100_a : Wd, w_100_a = wRe w_100 w98 n_67 → (nL y_67 < 8) ∧ (∀ y_109 : Ly, YAdd y_67 44 0 (y_67.2 11 n_67) y_109 → post (nI n_67) w_100_a y_109)) px w98 s0_98) → ((((8 : Int32) ≤ nI (nL y_67)) → (j98 w_67 (0 : Int32))) ∧ ((¬ ((8 : Int32) ≤ nI (nL y_67))) → (sp_X1_clashes κ y_67 (fun r_87 w_87 => ((¬ r_87 = 0) → (j98 w_87 (0 : Int32))) ∧ ((r_87 = 0) → (j98 w_87 (1 : Int32)))) w_67 n_67))))))))) px w45 s0_45) → (((p2 < (1 : Int32)) → (j45 w_1 (0 : Int32))) ∧ ((¬ (p2 < (1 : Int32))) → (sp_X1_areVillages κ y (fun r_13 w_13 => ((r_13 = 0) → (j45 w_13 (0 : Int32))) ∧ ((¬ (r_13 = 0)) → (sp_X1_isIn κ y (fun r_22 w_22 => ((r_22 = 0) → (j45 w_22 (0 : Int32))) ∧ ((¬ (r_22 = 0)) → (sp_X1_isIn κ y (fun r_34 w_34 => ((r_34 = 0) → (j45 w_34 (0 : Int32))) ∧ ((¬ (r_34 = 0)) → (j45 w_34 (1 : Int32)))) w_22 p4 (0 : Int32) (5000 : Int32)))) w_13 p3 (1 : Int32) (5 : Int32)))) w_1 p2)))) px w p1
theorem hd_X1_lot : yX1_lot.cls = RX1 ∧ yX1_lot.cls ≠ "java/lang/invoke/MethodHandle" ∧ yX1_lot.cls ≠ "java/lang/invoke/VarHandle" ∧ (parseMethodDescriptor yX1_lot.desc).map (fun d => d.parameters.length) = some 4 := by decide +kernel
set_option maxHeartbeats 4000000 in
theorem m_X1_lot {l : Launch} {κ : Kx} {y : Ly} {X : XR} {post : Int32 → Wd → Ly → Prop} {px : String → Wd → Prop} {w : Wd} {p1 : Int32} {p2 : Int32} {p3 : Int32} {p4 : Int32}  (hfl : l.stackTraces = false) (hW : WFc κ y) (l0 : live y 0 0) (h : sp_X1_lot κ y post px w p1 p2 p3 p4) : vx_Met l yX1_lot (ws_ yX1_lot cX1_lot 7 (Option.some Jvm.ClassFile.FieldType.int)) rm_X1_lot (va_Pc [.ref (y.2 0 0), .int (p1), .int (p2), .int (p3), .int (p4)] (RC κ w y X)) (va_Qi (fun r (u : Wd × Ly) => post r u.1 u.2) (fun (u : Wd × Ly) t => Rp κ u.1 u.2 X [] t.heap ∧ WFc κ u.2) (Af κ)) (XCk κ y X px) 9 62 (Af κ) := by
  unfold sp_X1_lot at h
  refine vx_ofW (cc := cX1_lot) (maxL := 7) (ret := (Option.some Jvm.ClassFile.FieldType.int)) (by decide) rfl ?_
  intro p e s m args below meth c s₁ B hml ht hv
  obtain ⟨rfl, hR, hK⟩ := hv
  have hx := B.exec
  have hb := B.bytes
  have hr := B.returns
  have hts := atoms_spec (ws := ws_ yX1_lot cX1_lot 7 (Option.some Jvm.ClassFile.FieldType.int)) B.pre
  have hts : ∀ w ∈ lw_all, w.before _ s = true := fun w h => hts w (List.mem_cons_of_mem _ h)
  have hown : s.vm.findClass RX1 = some m.cls := findClass_of_methodNamed B.named
  have hlocks := B.notSynchronized
  have hR0 := hR
  have hLe : LeS y y := LeS.rf
  have hS : va_S (Af κ) s.heap s.heap [] := va_S.rf
  have hl := lv_entry ([.ref (y.2 0 0), .int (p1), .int (p2), .int (p3), .int (p4)]) (n := 7) (Nat.le_of_ble_eq_true rfl)
  rw [lg_entry_eq]
  generalize (lg_sl ([.ref (y.2 0 0), .int (p1), .int (p2), .int (p3), .int (p4)]) ++ List.replicate (7 - (lg_sl ([.ref (y.2 0 0), .int (p1), .int (p2), .int (p3), .int (p4)])).length) Slot.unset).toArray = ls at hl ⊢
  have hl : lv_has ls 7 [(0, .ref (y.2 0 0)), (1, .int (p1)), (2, .int (p2)), (3, .int (p3)), (4, .int (p4))] := hl
  refine lv_iload_n hx hb dX1_lot_0 rfl (lv_at hl 1 rfl) ?_
  refine cex_qr (fw := fun u : Nat × Wd => u.2) (fy := fun _ => y) (P := (fun (u : Nat × Wd) ra => ra = kA κ (20 + u.1) ∧ u.1 < 3)) (crx_S (n := 1) (As := [.int (p1)]) (rest := []) ⟨hx, hb, hml, hown, hts⟩ hK hR (m_X1_dutyOf hfl hW h) q1075 q1076 q74 q1077 rfl rfl hds_X1_dutyOf ⟨Nat.le_of_ble_eq_true rfl, Nat.le_of_ble_eq_true rfl⟩ rfl rfl hl.1 rfl (lv_room (Nat.le_of_ble_eq_true rfl)) dX1_lot_1 ⟨(Nat.le_of_ble_eq_true rfl), (Nat.le_of_ble_eq_true rfl)⟩) hR hS ht hlocks (Nat.le_of_ble_eq_true rfl) (Nat.le_of_ble_eq_true rfl) (fun u9 a_1 H locs h p9 hR _ hS => ?_)
  obtain ⟨i_1, w_1⟩ := u9
  obtain ⟨e9, lv_1⟩ := p9
  dsimp only at e9 lv_1
  subst e9
  refine lv_astore (lv' := [(5, .ref (kA κ (20 + i_1))), (0, .ref (y.2 0 0)), (1, .int (p1)), (2, .int (p2)), (3, .int (p3)), (4, .int (p4))]) hx hb dX1_lot_4 hl (by decide) rfl (fun ls hl => ?_)
  refine lv_iload_n hx hb dX1_lot_6 rfl (lv_at hl 3 rfl) ?_
  refine lv_iconst (v := (1 : Int32)) hx hb dX1_lot_7 (by decide) ?_
  refine jn_elim h (fun j45 ej45 h => ?_)
  have Jj45 : ∀ (w45 : Wd) (s0_45 : Int32) (H : Heap) (locs : List Loc) (ls : Array Slot), j45 w45 s0_45 → Rp κ w45 y X [] H → va_S (Af κ) s.heap H locs → lv_has ls 7 [(5, .ref (kA κ (20 + i_1))), (0, .ref (y.2 0 0)), (2, .int (p2)), (3, .int (p3)), (4, .int (p4))] → W p l e (headSpec (ws_ yX1_lot cX1_lot 7 (Option.some Jvm.ClassFile.FieldType.int)) rm_X1_lot).room s m ([.ref (y.2 0 0), .int (p1), .int (p2), .int (p3), .int (p4)] : List Value).toArray below meth c H locs (2) (9) (vx_MQ below (va_Qi (fun r (u : Wd × Ly) => post r u.1 u.2) (fun (u : Wd × Ly) t => Rp κ u.1 u.2 X [] t.heap ∧ WFc κ u.2) (Af κ)) (XCk κ y X px) ([.ref (y.2 0 0), .int (p1), .int (p2), .int (p3), .int (p4)] : List Value).toArray s 9 62 (Af κ)) (F0 m 45 ls [.int (s0_45)]) := by
    clear h
    intro w45 s0_45 H locs ls h hR hS hl
    subst ej45
    refine jr_ldcS (own := "Publicanry") (k := 114) (tx := "lot") (n := 1114) hx hb hown hK (List.mem_of_getElem? (i := 11) rfl) dX1_lot_45 ?_
    refine cex_qv (fw := fun u => u) (fy := fun _ => y) (crx_S (n := 2) (As := [.int (s0_45), .ref (kA κ 1114)]) (rest := []) ⟨hx, hb, hml, hown, hts⟩ hK hR (m_X1_check hfl hW h) q794 q795 q74 q796 rfl rfl hds_X1_check ⟨Nat.le_of_ble_eq_true rfl, Nat.le_of_ble_eq_true rfl⟩ rfl rfl hl.1 rfl (lv_room (Nat.le_of_ble_eq_true rfl)) dX1_lot_47 ⟨(Nat.le_of_ble_eq_true rfl), (Nat.le_of_ble_eq_true rfl)⟩) hR hS ht hlocks (Nat.le_of_ble_eq_true rfl) (Nat.le_of_ble_eq_true rfl) (fun w_47 H locs h hR _ hS => ?_)
    refine xa_new (C := RX15) (T := TX15) (N := 15) (ci := 9) (fs := [.int 0, .null, .int 0, .int 0, .int 0, .null, .null, .null, .null, .int 0, .int 0, .int 0, .int 0, .int 0, .int 0]) hx hb hts in_X15 tyX15 tyX15_ok hown q497 q1246 q112 hK.1 hS rfl (fun j hj => by rcases (show j = 0 ∨ j = 1 ∨ j = 2 ∨ j = 3 ∨ j = 4 ∨ j = 5 ∨ j = 6 ∨ j = 7 ∨ j = 8 ∨ j = 9 ∨ j = 10 ∨ j = 11 ∨ j = 12 ∨ j = 13 ∨ j = 14 by omega) with rfl | rfl | rfl | rfl | rfl | rfl | rfl | rfl | rfl | rfl | rfl | rfl | rfl | rfl | rfl <;> rfl) (Nat.le_of_ble_eq_true rfl) (Nat.le_of_ble_eq_true rfl) dX1_lot_50 (fun q_50 H1 hq h1 hz ho hS => ?_)
    have hR := hR.newL hq h1 (by omega) ho
    clear hq h1 hz ho
    generalize H1 = H at hR hS ⊢
    have hR : Rp κ w_47 y X [(q_50, .inr (9, [.int 0, .null, .int 0, .int 0, .int 0, .null, .null, .null, .null, .int 0, .int 0, .int 0, .int 0, .int 0, .int 0]))] H := hR
    refine lv_dup hx hb dX1_lot_53 rfl ?_
    refine lv_aload_n hx hb dX1_lot_54 rfl (lv_at hl 1 rfl) ?_
    refine g0_2 hx hb hts hown hK hR l0 q249 dX1_lot_55 ?_
    refine jr_size ⟨hx, hb, hml, hown, hts⟩ hK hR ⟨fun _ _ _ _ _ => rfl, fun _ _ _ _ _ => rfl⟩ hW.lsL q536 ⟨Nat.le_of_ble_eq_true rfl, Nat.le_of_ble_eq_true rfl⟩ hl.1 (Nat.le_of_ble_eq_true rfl) dX1_lot_58 ⟨(Nat.le_of_ble_eq_true rfl), (Nat.le_of_ble_eq_true rfl)⟩ ?_
    refine lv_aload hx hb dX1_lot_61 (lv_at hl 0 rfl) ?_
    refine lv_iload_n hx hb dX1_lot_63 rfl (lv_at hl 2 rfl) ?_
    refine lv_iload_n hx hb dX1_lot_64 rfl (lv_at hl 3 rfl) ?_
    refine lv_iload hx hb dX1_lot_65 (lv_at hl 4 rfl) ?_
    have o_67 := h.1
    have h := h.2
    have o_67_a := h.1
    have h := h.2
    have o_67_b := h.1
    have h := h.2
    have o_67_c := h.1
    have h := h.2
    have o_67_d := h.1
    have h := h.2
    obtain ⟨n_67, en_n_67⟩ : ∃ z : Nat, z = nL y := ⟨_, rfl⟩
    have h := h n_67 en_n_67
    rw [show y.1 (44 + 100) 0 = n_67 from en_n_67.symm]
    refine va_callv (va_runI (As := [.int (nI n_67), .ref (kA κ (20 + i_1)), .int (p2), .int (p3), .int (p4)]) (rest := [.ref (q_50)]) ⟨hx, hb, hml, hown, hts⟩ (m_X15_init (X := xl X [(q_50, .inr (9, [.int 0, .null, .int 0, .int 0, .int 0, .null, .null, .null, .null, .int 0, .int 0, .int 0, .int 0, .int 0, .int 0]))]) (Or.inr ⟨0, rfl⟩)) (cwI 5 hts (lw_meth q1249) rfl rfl rfl (hts _ q112) (hts _ q1247) (hts _ q1248) rfl (by decide +kernel) ⟨Nat.le_of_ble_eq_true rfl, Nat.le_of_ble_eq_true rfl⟩) ⟨RC.blind, RC.pre hR hK⟩ rfl rfl hl.1 rfl (lv_room (Nat.le_of_ble_eq_true rfl)) dX1_lot_67 ⟨(Nat.le_of_ble_eq_true rfl), (Nat.le_of_ble_eq_true rfl)⟩) hS (fun _ _ h => h) (fun _ h => h) (fun u_67 t9 H locs ht9 _ hp9 hB9 hz9 _ hS => ?_)
    rw [ht9] at hB9
    have hR := hR.wroteLs (t := 0) rfl hB9
    clear hB9 hz9 hp9
    have hR := hR.mkL (n := n_67) lv_1
    obtain ⟨w_67, ew_67⟩ : ∃ z, z = wMkL w_47 n_67 i_1 p2 p3 p4 := ⟨_, rfl⟩
    obtain ⟨y_67, ey_67⟩ : ∃ z, z = yMkL y n_67 q_50 u_67.1 u_67.2 := ⟨_, rfl⟩
    have h := h w_67 ew_67 y_67 _ _ _ ey_67
    have hR : Rp κ w_67 y_67 X [] H := by
      rw [ew_67, ey_67]
      exact hR
    have lv_y_67 : live y_67 11 n_67 := ⟨by rw [ey_67]; exact yMkL_f0, by decide⟩
    have hq_y_67 : q_50 = y_67.2 11 n_67 := by rw [ey_67]; exact yMkL_a0.symm
    have hW_y_67 : WFc κ y_67 := by rw [ey_67]; exact WFc.mkL hW en_n_67 (by rw [en_n_67]; exact o_67)
    rw [hq_y_67]
    have lv_67 := l0
    have ea_67 : y_67.2 0 0 = y.2 0 0 := by rw [ey_67]; exact yMkL_2 (by omega)
    have lw_67 : live y_67 0 0 := ⟨by rw [ey_67, yMkL_1 (by omega)]; exact lv_67.1, lv_67.2⟩
    have hl : lv_has ls 7 [(5, .ref (kA κ (20 + i_1))), (0, .ref (y_67.2 0 0)), (2, .int (p2)), (3, .int (p3)), (4, .int (p4))] := by
      rw [ea_67]
      exact hl
    have cn_67 : n_67 = nL y_67 := by rw [en_n_67, ey_67]; exact (show (yMkL y n_67 q_50 u_67.1 u_67.2).1 144 0 = y.1 144 0 from yMkL_1 (by omega)).symm
    refine lv_astore (lv' := [(6, .ref (y_67.2 11 n_67)), (5, .ref (kA κ (20 + i_1))), (0, .ref (y_67.2 0 0)), (2, .int (p2)), (3, .int (p3)), (4, .int (p4))]) hx hb dX1_lot_70 hl (by decide) rfl (fun ls hl => ?_)
    refine lv_aload_n hx hb dX1_lot_72 rfl (lv_at hl 2 rfl) ?_
    refine g0_2 hx hb hts hown hK hR lw_67 q249 dX1_lot_73 ?_
    refine jr_size ⟨hx, hb, hml, hown, hts⟩ hK hR ⟨fun _ _ _ _ _ => rfl, fun _ _ _ _ _ => rfl⟩ hW_y_67.lsL q536 ⟨Nat.le_of_ble_eq_true rfl, Nat.le_of_ble_eq_true rfl⟩ hl.1 (Nat.le_of_ble_eq_true rfl) dX1_lot_76 ⟨(Nat.le_of_ble_eq_true rfl), (Nat.le_of_ble_eq_true rfl)⟩ ?_
    refine lv_bipush (v := (8 : Int32)) hx hb dX1_lot_79 (by decide) ?_
    refine jn_elim h (fun j98 ej98 h => ?_)
    have Jj98 : ∀ (w98 : Wd) (s0_98 : Int32) (H : Heap) (locs : List Loc) (ls : Array Slot), j98 w98 s0_98 → Rp κ w98 y_67 X [] H → va_S (Af κ) s.heap H locs → lv_has ls 7 [(6, .ref (y_67.2 11 n_67)), (0, .ref (y_67.2 0 0))] → W p l e (headSpec (ws_ yX1_lot cX1_lot 7 (Option.some Jvm.ClassFile.FieldType.int)) rm_X1_lot).room s m ([.ref (y.2 0 0), .int (p1), .int (p2), .int (p3), .int (p4)] : List Value).toArray below meth c H locs (7) (46) (vx_MQ below (va_Qi (fun r (u : Wd × Ly) => post r u.1 u.2) (fun (u : Wd × Ly) t => Rp κ u.1 u.2 X [] t.heap ∧ WFc κ u.2) (Af κ)) (XCk κ y X px) ([.ref (y.2 0 0), .int (p1), .int (p2), .int (p3), .int (p4)] : List Value).toArray s 9 62 (Af κ)) (F0 m 98 ls [.int (s0_98)]) := by
      clear h
      intro w98 s0_98 H locs ls h hR hS hl
      subst ej98
      refine jr_ldcS (own := "Publicanry") (k := 114) (tx := "lot") (n := 1114) hx hb hown hK (List.mem_of_getElem? (i := 11) rfl) dX1_lot_98 ?_
      have hRu := hR.unL ey_67 (by rw [en_n_67]; exact o_67_a) (by rw [en_n_67]; exact o_67_b) (by rw [en_n_67]; exact o_67_c) (by rw [en_n_67]; exact o_67_d)
      refine cex_qv (fw := fun u => u) (fy := fun _ => y) (crx_S (n := 2) (As := [.int (s0_98), .ref (kA κ 1114)]) (rest := []) ⟨hx, hb, hml, hown, hts⟩ hK hRu (m_X1_state hfl hW h) q813 q814 q74 q815 rfl rfl hds_X1_state ⟨Nat.le_of_ble_eq_true rfl, Nat.le_of_ble_eq_true rfl⟩ rfl rfl hl.1 rfl (lv_room (Nat.le_of_ble_eq_true rfl)) dX1_lot_100 ⟨(Nat.le_of_ble_eq_true rfl), (Nat.le_of_ble_eq_true rfl)⟩) hRu hS ht hlocks (Nat.le_of_ble_eq_true rfl) (Nat.le_of_ble_eq_true rfl) (fun w_100 H locs h hRu _ hS => ?_)
      have hR := Rp.reL ey_67 hRu
      obtain ⟨w_100_a, ew_100_a⟩ : ∃ z, z = wRe w_100 w98 n_67 := ⟨_, rfl⟩
      rw [← ew_100_a] at hR
      have h := h w_100_a ew_100_a
      refine lv_aload_n hx hb dX1_lot_103 rfl (lv_at hl 1 rfl) ?_
      refine g0_2 hx hb hts hown hK hR lw_67 q249 dX1_lot_104 ?_
      refine lv_aload hx hb dX1_lot_107 (lv_at hl 0 rfl) ?_
      have o_109 := h.1
      have h := h.2
      have lv_109 := lv_y_67
      have lv_109_a := lw_67
      refine jr_add ⟨hx, hb, hml, hown, hts⟩ hK hR hS ⟨fun _ _ _ _ _ => rfl, fun _ _ _ _ _ => rfl⟩ (by decide) (by decide) (by decide) hW_y_67.lsL (Nat.lt_of_le_of_lt hW_y_67.nL8 (by decide)) (fun hp9 => hW_y_67.arL hp9) (fun X1 L1 H1 hR1 => ⟨9, _, _, rfl, List.mem_of_getElem? (i := 25) rfl, hR1.role (live_off lv_y_67 (by omega) (by omega))⟩) q1002 ⟨Nat.le_of_ble_eq_true rfl, Nat.le_of_ble_eq_true rfl⟩ hl.1 (Nat.le_of_ble_eq_true rfl) dX1_lot_109 ⟨(Nat.le_of_ble_eq_true rfl), (Nat.le_of_ble_eq_true rfl)⟩ (fun H locs y_109 hY_y_109 hR hS => ?_)
      have h := h y_109 hY_y_109
      have hW_y_109 : WFc κ y_109 := WFc.addL hW_y_67 hY_y_109 cn_67 (by rw [cn_67]; exact o_109) lv_y_67
      have ea_109 : y_109.2 11 n_67 = y_67.2 11 n_67 := hY_y_109.2.2 11 n_67 (by omega) (by omega)
      have lw_109 : live y_109 11 n_67 := ⟨by rw [hY_y_109.2.1 11 n_67 (by omega) (by omega) (by omega)]; exact lv_109.1, lv_109.2⟩
      have ea_109_a : y_109.2 0 0 = y_67.2 0 0 := hY_y_109.2.2 0 0 (by omega) (by omega)
      have lw_109_a : live y_109 0 0 := ⟨by rw [hY_y_109.2.1 0 0 (by omega) (by omega) (by omega)]; exact lv_109_a.1, lv_109_a.2⟩
      have hl : lv_has ls 7 [(6, .ref (y_109.2 11 n_67)), (0, .ref (y_109.2 0 0))] := by
        rw [ea_109, ea_109_a]
        exact hl
      refine lv_pop hx hb dX1_lot_112 rfl ?_
      refine lv_aload hx hb dX1_lot_113 (lv_at hl 0 rfl) ?_
      refine g11_0 hx hb hts hown hK hR lw_109 q1253 dX1_lot_115 ?_
      refine W.widen (k := 9) (n := 62) (Nat.le_of_ble_eq_true rfl) (Nat.le_of_ble_eq_true rfl) ?_
      refine vx_ret ?_; exact W.iret (v := nI n_67) hx hb hr (fun t ht hW9 => ⟨⟨nI n_67, (w_100_a, y_109), rfl, h, ⟨rpt ht hR, hW_y_109⟩⟩, hS.F ht⟩) hS.2.2 dX1_lot_118
    refine lv_icmp_ge (tgt := 97) hx hb dX1_lot_81 (by decide) (fun c_81 => ?_) (fun c_81 => ?_)
    · have h := h.1 c_81
      refine lv_iconst (v := (0 : Int32)) hx hb dX1_lot_97 (by decide) ?_
      refine W.widen (k := 7) (n := 46) (Nat.le_of_ble_eq_true rfl) (Nat.le_of_ble_eq_true rfl) ?_
      exact Jj98 w_67 (0 : Int32) _ _ _ h hR hS (lv_sub hl [0, 2] rfl)
    · have h := h.2 c_81
      refine lv_aload_n hx hb dX1_lot_84 rfl (lv_at hl 2 rfl) ?_
      refine lv_aload hx hb dX1_lot_85 (lv_at hl 0 rfl) ?_
      refine ce_qi (fw := fun u => u) (fy := fun _ => y_67) (cr_V (n := 1) (As := [.ref (y_67.2 11 n_67)]) (rest := []) ⟨hx, hb, hml, hown, hts⟩ hK hR (m_X1_clashes hW_y_67 lw_67 lv_y_67 h) q506 q508 qs2 q74 q509 rfl rfl hd_X1_clashes ⟨Nat.le_of_ble_eq_true rfl, Nat.le_of_ble_eq_true rfl⟩ (rv hK hR lw_67 (ci := 0) rfl rfl) rfl rfl hl.1 rfl (lv_room (Nat.le_of_ble_eq_true rfl)) dX1_lot_87 ⟨(Nat.le_of_ble_eq_true rfl), (Nat.le_of_ble_eq_true rfl)⟩) hR hS (fun r_87 w_87 H locs h hR _ hS => ?_)
      refine lv_if_ne (tgt := 97) hx hb dX1_lot_90 (by decide) (fun c_90 => ?_) (fun c_90 => ?_)
      · have h := h.1 c_90
        refine lv_iconst (v := (0 : Int32)) hx hb dX1_lot_97 (by decide) ?_
        refine W.widen (k := 7) (n := 46) (Nat.le_of_ble_eq_true rfl) (Nat.le_of_ble_eq_true rfl) ?_
        exact Jj98 w_87 (0 : Int32) _ _ _ h hR hS (lv_sub hl [0, 2] rfl)
      · have h := h.2 c_90
        refine lv_iconst (v := (1 : Int32)) hx hb dX1_lot_93 (by decide) ?_
        refine lv_goto (tgt := 98) hx hb dX1_lot_94 (by decide) ?_
        refine W.widen (k := 7) (n := 46) (Nat.le_of_ble_eq_true rfl) (Nat.le_of_ble_eq_true rfl) ?_
        exact Jj98 w_87 (1 : Int32) _ _ _ h hR hS (lv_sub hl [0, 2] rfl)
  refine lv_icmp_lt (tgt := 44) hx hb dX1_lot_8 (by decide) (fun c_8 => ?_) (fun c_8 => ?_)
  · have h := h.1 c_8
    refine lv_iconst (v := (0 : Int32)) hx hb dX1_lot_44 (by decide) ?_
    refine W.widen (k := 2) (n := 9) (Nat.le_of_ble_eq_true rfl) (Nat.le_of_ble_eq_true rfl) ?_
    exact Jj45 w_1 (0 : Int32) _ _ _ h hR hS (lv_sub hl [0, 1, 3, 4, 5] rfl)
  · have h := h.2 c_8
    refine lv_aload_n hx hb dX1_lot_11 rfl (lv_at hl 1 rfl) ?_
    refine lv_iload_n hx hb dX1_lot_12 rfl (lv_at hl 3 rfl) ?_
    refine ce_qi (fw := fun u => u) (fy := fun _ => y) (cr_V (n := 1) (As := [.int (p2)]) (rest := []) ⟨hx, hb, hml, hown, hts⟩ hK hR (m_X1_areVillages hW l0 h) q1063 q1065 qs21 q74 q1066 rfl rfl hd_X1_areVillages ⟨Nat.le_of_ble_eq_true rfl, Nat.le_of_ble_eq_true rfl⟩ (rv hK hR l0 (ci := 0) rfl rfl) rfl rfl hl.1 rfl (lv_room (Nat.le_of_ble_eq_true rfl)) dX1_lot_13 ⟨(Nat.le_of_ble_eq_true rfl), (Nat.le_of_ble_eq_true rfl)⟩) hR hS (fun r_13 w_13 H locs h hR _ hS => ?_)
    refine lv_if_eq (tgt := 44) hx hb dX1_lot_16 (by decide) (fun c_16 => ?_) (fun c_16 => ?_)
    · have h := h.1 c_16
      refine lv_iconst (v := (0 : Int32)) hx hb dX1_lot_44 (by decide) ?_
      refine W.widen (k := 2) (n := 9) (Nat.le_of_ble_eq_true rfl) (Nat.le_of_ble_eq_true rfl) ?_
      exact Jj45 w_13 (0 : Int32) _ _ _ h hR hS (lv_sub hl [0, 1, 3, 4, 5] rfl)
    · have h := h.2 c_16
      refine lv_iload_n hx hb dX1_lot_19 rfl (lv_at hl 4 rfl) ?_
      refine lv_iconst (v := (1 : Int32)) hx hb dX1_lot_20 (by decide) ?_
      refine lv_iconst (v := (5 : Int32)) hx hb dX1_lot_21 (by decide) ?_
      refine ce_qi (fw := fun u => u) (fy := fun _ => y) (cr_S (n := 3) (As := [.int (p3), .int ((1 : Int32)), .int ((5 : Int32))]) (rest := []) ⟨hx, hb, hml, hown, hts⟩ hK hR (m_X1_isIn hW h) q790 q791 q74 q792 rfl rfl hds_X1_isIn ⟨Nat.le_of_ble_eq_true rfl, Nat.le_of_ble_eq_true rfl⟩ rfl rfl hl.1 rfl (lv_room (Nat.le_of_ble_eq_true rfl)) dX1_lot_22 ⟨(Nat.le_of_ble_eq_true rfl), (Nat.le_of_ble_eq_true rfl)⟩) hR hS (fun r_22 w_22 H locs h hR _ hS => ?_)
      refine lv_if_eq (tgt := 44) hx hb dX1_lot_25 (by decide) (fun c_25 => ?_) (fun c_25 => ?_)
      · have h := h.1 c_25
        refine lv_iconst (v := (0 : Int32)) hx hb dX1_lot_44 (by decide) ?_
        refine W.widen (k := 2) (n := 9) (Nat.le_of_ble_eq_true rfl) (Nat.le_of_ble_eq_true rfl) ?_
        exact Jj45 w_22 (0 : Int32) _ _ _ h hR hS (lv_sub hl [0, 1, 3, 4, 5] rfl)
      · have h := h.2 c_25
        refine lv_iload hx hb dX1_lot_28 (lv_at hl 5 rfl) ?_
        refine lv_iconst (v := (0 : Int32)) hx hb dX1_lot_30 (by decide) ?_
        refine lv_sipush (v := (5000 : Int32)) hx hb dX1_lot_31 (by decide) ?_
        refine ce_qi (fw := fun u => u) (fy := fun _ => y) (cr_S (n := 3) (As := [.int (p4), .int ((0 : Int32)), .int ((5000 : Int32))]) (rest := []) ⟨hx, hb, hml, hown, hts⟩ hK hR (m_X1_isIn hW h) q790 q791 q74 q792 rfl rfl hds_X1_isIn ⟨Nat.le_of_ble_eq_true rfl, Nat.le_of_ble_eq_true rfl⟩ rfl rfl hl.1 rfl (lv_room (Nat.le_of_ble_eq_true rfl)) dX1_lot_34 ⟨(Nat.le_of_ble_eq_true rfl), (Nat.le_of_ble_eq_true rfl)⟩) hR hS (fun r_34 w_34 H locs h hR _ hS => ?_)
        refine lv_if_eq (tgt := 44) hx hb dX1_lot_37 (by decide) (fun c_37 => ?_) (fun c_37 => ?_)
        · have h := h.1 c_37
          refine lv_iconst (v := (0 : Int32)) hx hb dX1_lot_44 (by decide) ?_
          refine W.widen (k := 2) (n := 9) (Nat.le_of_ble_eq_true rfl) (Nat.le_of_ble_eq_true rfl) ?_
          exact Jj45 w_34 (0 : Int32) _ _ _ h hR hS (lv_sub hl [0, 1, 3, 4, 5] rfl)
        · have h := h.2 c_37
          refine lv_iconst (v := (1 : Int32)) hx hb dX1_lot_40 (by decide) ?_
          refine lv_goto (tgt := 45) hx hb dX1_lot_41 (by decide) ?_
          refine W.widen (k := 2) (n := 9) (Nat.le_of_ble_eq_true rfl) (Nat.le_of_ble_eq_true rfl) ?_
          exact Jj45 w_34 (1 : Int32) _ _ _ h hR hS (lv_sub hl [0, 1, 3, 4, 5] rfl)
abbrev rm_X1_isWhole : Room := { frames := 4, cells := 12, slots := 48, locals := 91 }
def st_X1_isWhole_64 (κ : Kx) (y : Ly) (post : Int32 → Wd → Prop) (ex : Wd → (Int32) → (Int32) → Prop) (rec : Wd → Int32 → Int32 → Nat → Int32 → Prop)  (w : Wd) (v1 : Int32) (v2 : Int32) (c3 : Nat) (z3 : Int32) : Prop := ((¬ (¬ c3 = nV y)) → (ex w v1 v2)) ∧ (((¬ c3 = nV y)) → (sp_X2_coins κ y (fun r_90 w_90 => ∀ x_94 : Int32, x_94 = v1 + r_90 → sp_X2_coins κ y (fun r_101 w_101 => ∀ j112 : Wd → Int32 → Int32 → Prop, (j112 = fun (w112 : Wd) (s0_112 : Int32) (s1_112 : Int32) => ∀ x_113 : Int32, x_113 = s1_112 &&& s0_112 → rec w112 x_94 x_113 (c3 + 1) (nI c3)) → (((r_101 < 0) → (j112 w_101 (0 : Int32) v2)) ∧ ((¬ (r_101 < 0)) → (j112 w_101 (1 : Int32) v2)))) w_90 (((3 + c3)))) w (((3 + c3)))))
def sp_X1_isWhole_64 (κ : Kx) (y : Ly) (post : Int32 → Wd → Prop) (ex : Wd → (Int32) → (Int32) → Prop)  : Nat → Wd → Int32 → Int32 → Nat → Int32 → Prop
  | 0 => fun _ _ _ _ _ => False
  | n + 1 => fun w v1 v2 c3 z3 => st_X1_isWhole_64 κ y post ex (sp_X1_isWhole_64 κ y post ex  n)  w v1 v2 c3 z3
set_option maxHeartbeats 4000000 in
theorem lp_X1_isWhole_64 {p : Program} {l : Launch} {e : Env} {s : State} {m : MethodId} {args : Array Value} {below : List Frame} {meth : Method} {c : Code} {κ : Kx} {y : Ly} {X : XR} {post : Int32 → Wd → Prop} {q3 : Nat} (hx : p.tables.exec = Jvm.exec) (hb : c.code = cX1_isWhole) (hr : meth.sig.returnType = (Option.some Jvm.ClassFile.FieldType.boolean)) (hml : c.maxLocals = 5) (hown : s.vm.findClass RX1 = some m.cls) (hts : ∀ w ∈ lw_all, w.before args s = true) (hlocks : meth.locks = false) (hK : KK κ s) (hW : WFc κ y) (l0 : live y 0 0) {C1 S1 : Nat} (hC : C1 ≤ 12) (hSl : S1 ≤ 48) {ex : Wd → (Int32) → (Int32) → Prop}
    (kx : ∀ (w : Wd) (v1 : Int32) (v2 : Int32) (H : Heap) (locs : List Loc) (ls : Array Slot) (cells slots : Nat) , ex w v1 v2 → Rp κ w y X [] H → va_S (Af κ) s.heap H locs → lv_has ls 5 [(0, .ref (y.2 0 0)), (1, .int (v1)), (2, .int (v2))] → cells ≤ C1 → slots ≤ S1 → W p l e (headSpec (ws_ yX1_isWhole cX1_isWhole 5 (Option.some Jvm.ClassFile.FieldType.boolean)) rm_X1_isWhole).room s m args below meth c H locs cells slots (MQ below (va_Qi post (fun w t => Rp κ w y X [] t.heap) (Af κ)) args s 12 48 (Af κ)) (F0 m 117 ls [])) :
    ∀ (f : Nat) (w : Wd) (v1 : Int32) (v2 : Int32) (c3 : Nat) (z3 : Int32) (H : Heap) (locs : List Loc) (ls : Array Slot) (cells slots : Nat)  (hc3 : c3 ≤ nV y), sp_X1_isWhole_64 κ y post ex  f w v1 v2 c3 z3 → Rp κ w y X [(q3, itC y 40 0 c3 z3)] H → va_S (Af κ) s.heap H locs → lv_has ls 5 [(0, .ref (y.2 0 0)), (1, .int (v1)), (2, .int (v2)), (3, .ref (q3))] → cells + f * 0 ≤ C1 → slots + f * 0 ≤ S1 → W p l e (headSpec (ws_ yX1_isWhole cX1_isWhole 5 (Option.some Jvm.ClassFile.FieldType.boolean)) rm_X1_isWhole).room s m args below meth c H locs cells slots (MQ below (va_Qi post (fun w t => Rp κ w y X [] t.heap) (Af κ)) args s 12 48 (Af κ)) (F0 m 64 ls []) := by
  intro f
  induction f with
  | zero =>
    intro w v1 v2 c3 z3 H locs ls cells slots hc3 h
    exact False.elim h
  | succ f ih =>
    intro w v1 v2 c3 z3 H locs ls cells slots hc3 h hR hS hl hc hs
    have h : st_X1_isWhole_64 κ y post ex (sp_X1_isWhole_64 κ y post ex  f)  w v1 v2 c3 z3 := h
    unfold st_X1_isWhole_64 at h
    refine lv_aload_n hx hb dX1_isWhole_64 rfl (lv_at hl 3 rfl) ?_
    refine jr_hasNext (t := 0) ⟨hx, hb, hml, hown, hts⟩ hK hR rfl ⟨fun _ _ _ _ _ => rfl, fun _ _ _ _ _ => rfl⟩ hW.lsV (by omega) (Nat.le_trans hW.nV8 (by decide)) q349 ⟨Nat.le_of_ble_eq_true rfl, Nat.le_of_ble_eq_true rfl⟩ hl.1 (Nat.le_of_ble_eq_true rfl) dX1_isWhole_65 ⟨(Nat.le_trans (show cells + 0 ≤ C1 from by omega) hC), (Nat.le_trans (show slots + 0 ≤ S1 from by omega) hSl)⟩ ?_
    refine lv_if_eq (tgt := 117) hx hb dX1_isWhole_70 (by decide) (fun c_70 => ?_) (fun c_70 => ?_)
    · replace c_70 : ¬ (¬ c3 = nV y) := bi_0.mp c_70
      have h := h.1 c_70
      have hR := hR.sub (L' := []) [] rfl rfl
      exact kx w v1 v2 _ _ _ _ _ h hR hS (lv_sub hl [0, 1, 2] rfl) (by omega) (by omega)
    · replace c_70 : (¬ c3 = nV y) := bi_n0.mp c_70
      have h := h.2 c_70
      refine lv_aload_n hx hb dX1_isWhole_73 rfl (lv_at hl 3 rfl) ?_
      have hn_74 : c3 < nV y := by omega
      refine jr_next (t := 0) (a := y.2 6 c3) ⟨hx, hb, hml, hown, hts⟩ hK hR hS rfl ⟨fun _ _ _ _ _ => rfl, fun _ _ _ _ _ => rfl⟩ hW.lsV ⟨hW.arV (Nat.lt_of_le_of_lt (Nat.zero_le _) hn_74), (Nat.le_trans hW.nV8 (by decide))⟩ hn_74 (hW.elV hn_74) q359 ⟨Nat.le_of_ble_eq_true rfl, Nat.le_of_ble_eq_true rfl⟩ hl.1 (Nat.le_of_ble_eq_true rfl) dX1_isWhole_74 ⟨(Nat.le_trans (show cells + 0 ≤ C1 from by omega) hC), (Nat.le_trans (show slots + 0 ≤ S1 from by omega) hSl)⟩ (fun H locs hR hS => ?_)
      have hR : Rp κ w y X [(q3, itC y 40 0 (c3 + 1) (nI c3))] H := hR
      refine jr_castS (ci := 6) hx hb hown hK hts (hR.role (hW.vil hn_74)) rfl q496 dX1_isWhole_79 ?_
      refine lv_astore (lv' := [(4, .ref (y.2 6 c3)), (0, .ref (y.2 0 0)), (1, .int (v1)), (2, .int (v2)), (3, .ref (q3))]) hx hb dX1_isWhole_82 hl (by decide) rfl (fun ls hl => ?_)
      refine lv_iload_n hx hb dX1_isWhole_84 rfl (lv_at hl 2 rfl) ?_
      refine lv_aload hx hb dX1_isWhole_85 (lv_at hl 0 rfl) ?_
      refine g6_2 hx hb hts hown hK hR (hW.vil hn_74) q925 dX1_isWhole_87 ?_
      refine ce_qi (fw := fun u => u) (fy := fun _ => y) (cr_V (n := 0) (As := []) (rest := [.int (v1)]) ⟨hx, hb, hml, hown, hts⟩ hK hR (m_X2_coins hW (hW.vch (hW.vil hn_74)) h) q300 q301 q302 q78 q305 rfl rfl hd_X2_coins ⟨Nat.le_of_ble_eq_true rfl, Nat.le_of_ble_eq_true rfl⟩ (rv_ch1 hK hR (hW.vch (hW.vil hn_74)) (by omega)) rfl rfl hl.1 rfl (lv_room (Nat.le_of_ble_eq_true rfl)) dX1_isWhole_90 ⟨(Nat.le_trans (show cells + 0 ≤ C1 from by omega) hC), (Nat.le_trans (show slots + 0 ≤ S1 from by omega) hSl)⟩) hR hS (fun r_90 w_90 H locs h hR _ hS => ?_)
      refine lv_iadd hx hb dX1_isWhole_93 ?_
      refine lv_topi (fun x_94 ex_94 => ?_)
      have h := h x_94 ex_94
      refine lv_istore_n (lv' := [(1, .int (x_94)), (4, .ref (y.2 6 c3)), (0, .ref (y.2 0 0)), (2, .int (v2)), (3, .ref (q3))]) hx hb dX1_isWhole_94 rfl hl (by decide) rfl (fun ls hl => ?_)
      refine lv_iload_n hx hb dX1_isWhole_95 rfl (lv_at hl 3 rfl) ?_
      refine lv_aload hx hb dX1_isWhole_96 (lv_at hl 1 rfl) ?_
      refine g6_2 hx hb hts hown hK hR (hW.vil hn_74) q925 dX1_isWhole_98 ?_
      refine ce_qi (fw := fun u => u) (fy := fun _ => y) (cr_V (n := 0) (As := []) (rest := [.int (v2)]) ⟨hx, hb, hml, hown, hts⟩ hK hR (m_X2_coins hW (hW.vch (hW.vil hn_74)) h) q300 q301 q302 q78 q305 rfl rfl hd_X2_coins ⟨Nat.le_of_ble_eq_true rfl, Nat.le_of_ble_eq_true rfl⟩ (rv_ch1 hK hR (hW.vch (hW.vil hn_74)) (by omega)) rfl rfl hl.1 rfl (lv_room (Nat.le_of_ble_eq_true rfl)) dX1_isWhole_101 ⟨(Nat.le_trans (show cells + 0 ≤ C1 from by omega) hC), (Nat.le_trans (show slots + 0 ≤ S1 from by omega) hSl)⟩) hR hS (fun r_101 w_101 H locs h hR _ hS => ?_)
      refine jn_elim h (fun j112 ej112 h => ?_)
      have Jj112 : ∀ (w112 : Wd) (s0_112 : Int32) (s1_112 : Int32) (H : Heap) (locs : List Loc) (ls : Array Slot), j112 w112 s0_112 s1_112 → Rp κ w112 y X [(q3, itC y 40 0 (c3 + 1) (nI c3))] H → va_S (Af κ) s.heap H locs → lv_has ls 5 [(1, .int (x_94)), (0, .ref (y.2 0 0)), (3, .ref (q3))] → W p l e (headSpec (ws_ yX1_isWhole cX1_isWhole 5 (Option.some Jvm.ClassFile.FieldType.boolean)) rm_X1_isWhole).room s m args below meth c H locs (cells + 0) (slots + 0) (MQ below (va_Qi post (fun w t => Rp κ w y X [] t.heap) (Af κ)) args s 12 48 (Af κ)) (F0 m 112 ls [.int (s0_112), .int (s1_112)]) := by
        clear h
        intro w112 s0_112 s1_112 H locs ls h hR hS hl
        subst ej112
        refine lv_iand hx hb dX1_isWhole_112 ?_
        refine lv_topi (fun x_113 ex_113 => ?_)
        have h := h x_113 ex_113
        refine lv_istore_n (lv' := [(2, .int (x_113)), (1, .int (x_94)), (0, .ref (y.2 0 0)), (3, .ref (q3))]) hx hb dX1_isWhole_113 rfl hl (by decide) rfl (fun ls hl => ?_)
        refine lv_goto (tgt := 64) hx hb dX1_isWhole_114 (by decide) ?_
        exact ih w112 x_94 x_113 (c3 + 1) (nI c3) _ _ _ _ _ (by omega) h hR hS (lv_sub hl [2, 1, 0, 3] rfl) (by omega) (by omega)
      refine lv_if_lt (tgt := 111) hx hb dX1_isWhole_104 (by decide) (fun c_104 => ?_) (fun c_104 => ?_)
      · have h := h.1 c_104
        refine lv_iconst (v := (0 : Int32)) hx hb dX1_isWhole_111 (by decide) ?_
        refine W.widen (k := cells + 0) (n := slots + 0) (by omega) (by omega) ?_
        exact Jj112 w_101 (0 : Int32) v2 _ _ _ h hR hS (lv_sub hl [0, 2, 4] rfl)
      · have h := h.2 c_104
        refine lv_iconst (v := (1 : Int32)) hx hb dX1_isWhole_107 (by decide) ?_
        refine lv_goto (tgt := 112) hx hb dX1_isWhole_108 (by decide) ?_
        refine W.widen (k := cells + 0) (n := slots + 0) (by omega) (by omega) ?_
        exact Jj112 w_101 (1 : Int32) v2 _ _ _ h hR hS (lv_sub hl [0, 2, 4] rfl)
def st_X1_isWhole_125 (κ : Kx) (y : Ly) (post : Int32 → Wd → Prop) (ex : Wd → (Int32) → (Int32) → Prop) (rec : Wd → Int32 → Int32 → Nat → Int32 → Prop)  (w : Wd) (v1 : Int32) (v2 : Int32) (c3 : Nat) (z3 : Int32) : Prop := ((¬ (¬ c3 = nC y)) → (ex w v1 v2)) ∧ (((¬ c3 = nC y)) → (sp_X2_coins κ y (fun r_151 w_151 => ∀ x_155 : Int32, x_155 = v1 + r_151 → sp_X2_coins κ y (fun r_162 w_162 => ∀ j186 : Wd → Int32 → Int32 → Prop, (j186 = fun (w186 : Wd) (s0_186 : Int32) (s1_186 : Int32) => ∀ x_187 : Int32, x_187 = s1_186 &&& s0_186 → rec w186 x_155 x_187 (c3 + 1) (nI c3)) → (((r_162 < 0) → (j186 w_162 (0 : Int32) v2)) ∧ ((¬ (r_162 < 0)) → (((gv w_162 9 c3 3 < gv w_162 9 c3 4) → (j186 w_162 (0 : Int32) v2)) ∧ ((¬ (gv w_162 9 c3 3 < gv w_162 9 c3 4)) → (j186 w_162 (1 : Int32) v2)))))) w_151 (((11 + c3)))) w (((11 + c3)))))
def sp_X1_isWhole_125 (κ : Kx) (y : Ly) (post : Int32 → Wd → Prop) (ex : Wd → (Int32) → (Int32) → Prop)  : Nat → Wd → Int32 → Int32 → Nat → Int32 → Prop
  | 0 => fun _ _ _ _ _ => False
  | n + 1 => fun w v1 v2 c3 z3 => st_X1_isWhole_125 κ y post ex (sp_X1_isWhole_125 κ y post ex  n)  w v1 v2 c3 z3
set_option maxHeartbeats 4000000 in
theorem lp_X1_isWhole_125 {p : Program} {l : Launch} {e : Env} {s : State} {m : MethodId} {args : Array Value} {below : List Frame} {meth : Method} {c : Code} {κ : Kx} {y : Ly} {X : XR} {post : Int32 → Wd → Prop} {q3 : Nat} (hx : p.tables.exec = Jvm.exec) (hb : c.code = cX1_isWhole) (hr : meth.sig.returnType = (Option.some Jvm.ClassFile.FieldType.boolean)) (hml : c.maxLocals = 5) (hown : s.vm.findClass RX1 = some m.cls) (hts : ∀ w ∈ lw_all, w.before args s = true) (hlocks : meth.locks = false) (hK : KK κ s) (hW : WFc κ y) (l0 : live y 0 0) {C1 S1 : Nat} (hC : C1 ≤ 12) (hSl : S1 ≤ 48) {ex : Wd → (Int32) → (Int32) → Prop}
    (kx : ∀ (w : Wd) (v1 : Int32) (v2 : Int32) (H : Heap) (locs : List Loc) (ls : Array Slot) (cells slots : Nat) , ex w v1 v2 → Rp κ w y X [] H → va_S (Af κ) s.heap H locs → lv_has ls 5 [(0, .ref (y.2 0 0)), (1, .int (v1)), (2, .int (v2))] → cells ≤ C1 → slots ≤ S1 → W p l e (headSpec (ws_ yX1_isWhole cX1_isWhole 5 (Option.some Jvm.ClassFile.FieldType.boolean)) rm_X1_isWhole).room s m args below meth c H locs cells slots (MQ below (va_Qi post (fun w t => Rp κ w y X [] t.heap) (Af κ)) args s 12 48 (Af κ)) (F0 m 191 ls [])) :
    ∀ (f : Nat) (w : Wd) (v1 : Int32) (v2 : Int32) (c3 : Nat) (z3 : Int32) (H : Heap) (locs : List Loc) (ls : Array Slot) (cells slots : Nat)  (hc3 : c3 ≤ nC y), sp_X1_isWhole_125 κ y post ex  f w v1 v2 c3 z3 → Rp κ w y X [(q3, itC y 42 0 c3 z3)] H → va_S (Af κ) s.heap H locs → lv_has ls 5 [(0, .ref (y.2 0 0)), (1, .int (v1)), (2, .int (v2)), (3, .ref (q3))] → cells + f * 0 ≤ C1 → slots + f * 0 ≤ S1 → W p l e (headSpec (ws_ yX1_isWhole cX1_isWhole 5 (Option.some Jvm.ClassFile.FieldType.boolean)) rm_X1_isWhole).room s m args below meth c H locs cells slots (MQ below (va_Qi post (fun w t => Rp κ w y X [] t.heap) (Af κ)) args s 12 48 (Af κ)) (F0 m 125 ls []) := by
  intro f
  induction f with
  | zero =>
    intro w v1 v2 c3 z3 H locs ls cells slots hc3 h
    exact False.elim h
  | succ f ih =>
    intro w v1 v2 c3 z3 H locs ls cells slots hc3 h hR hS hl hc hs
    have h : st_X1_isWhole_125 κ y post ex (sp_X1_isWhole_125 κ y post ex  f)  w v1 v2 c3 z3 := h
    unfold st_X1_isWhole_125 at h
    refine lv_aload_n hx hb dX1_isWhole_125 rfl (lv_at hl 3 rfl) ?_
    refine jr_hasNext (t := 0) ⟨hx, hb, hml, hown, hts⟩ hK hR rfl ⟨fun _ _ _ _ _ => rfl, fun _ _ _ _ _ => rfl⟩ hW.lsC (by omega) (Nat.le_trans hW.nC4 (by decide)) q349 ⟨Nat.le_of_ble_eq_true rfl, Nat.le_of_ble_eq_true rfl⟩ hl.1 (Nat.le_of_ble_eq_true rfl) dX1_isWhole_126 ⟨(Nat.le_trans (show cells + 0 ≤ C1 from by omega) hC), (Nat.le_trans (show slots + 0 ≤ S1 from by omega) hSl)⟩ ?_
    refine lv_if_eq (tgt := 191) hx hb dX1_isWhole_131 (by decide) (fun c_131 => ?_) (fun c_131 => ?_)
    · replace c_131 : ¬ (¬ c3 = nC y) := bi_0.mp c_131
      have h := h.1 c_131
      have hR := hR.sub (L' := []) [] rfl rfl
      exact kx w v1 v2 _ _ _ _ _ h hR hS (lv_sub hl [0, 1, 2] rfl) (by omega) (by omega)
    · replace c_131 : (¬ c3 = nC y) := bi_n0.mp c_131
      have h := h.2 c_131
      refine lv_aload_n hx hb dX1_isWhole_134 rfl (lv_at hl 3 rfl) ?_
      have hn_135 : c3 < nC y := by omega
      refine jr_next (t := 0) (a := y.2 9 c3) ⟨hx, hb, hml, hown, hts⟩ hK hR hS rfl ⟨fun _ _ _ _ _ => rfl, fun _ _ _ _ _ => rfl⟩ hW.lsC ⟨hW.arC (Nat.lt_of_le_of_lt (Nat.zero_le _) hn_135), (Nat.le_trans hW.nC4 (by decide))⟩ hn_135 (hW.elC hn_135) q359 ⟨Nat.le_of_ble_eq_true rfl, Nat.le_of_ble_eq_true rfl⟩ hl.1 (Nat.le_of_ble_eq_true rfl) dX1_isWhole_135 ⟨(Nat.le_trans (show cells + 0 ≤ C1 from by omega) hC), (Nat.le_trans (show slots + 0 ≤ S1 from by omega) hSl)⟩ (fun H locs hR hS => ?_)
      have hR : Rp κ w y X [(q3, itC y 42 0 (c3 + 1) (nI c3))] H := hR
      refine jr_castS (ci := 7) hx hb hown hK hts (hR.role (hW.com hn_135)) rfl q371 dX1_isWhole_140 ?_
      refine lv_astore (lv' := [(4, .ref (y.2 9 c3)), (0, .ref (y.2 0 0)), (1, .int (v1)), (2, .int (v2)), (3, .ref (q3))]) hx hb dX1_isWhole_143 hl (by decide) rfl (fun ls hl => ?_)
      refine lv_iload_n hx hb dX1_isWhole_145 rfl (lv_at hl 2 rfl) ?_
      refine lv_aload hx hb dX1_isWhole_146 (lv_at hl 0 rfl) ?_
      refine g9_1 hx hb hts hown hK hR (hW.com hn_135) q1124 dX1_isWhole_148 ?_
      refine ce_qi (fw := fun u => u) (fy := fun _ => y) (cr_V (n := 0) (As := []) (rest := [.int (v1)]) ⟨hx, hb, hml, hown, hts⟩ hK hR (m_X2_coins hW (hW.cch (hW.com hn_135)) h) q300 q301 q302 q78 q305 rfl rfl hd_X2_coins ⟨Nat.le_of_ble_eq_true rfl, Nat.le_of_ble_eq_true rfl⟩ (rv_ch1 hK hR (hW.cch (hW.com hn_135)) (by omega)) rfl rfl hl.1 rfl (lv_room (Nat.le_of_ble_eq_true rfl)) dX1_isWhole_151 ⟨(Nat.le_trans (show cells + 0 ≤ C1 from by omega) hC), (Nat.le_trans (show slots + 0 ≤ S1 from by omega) hSl)⟩) hR hS (fun r_151 w_151 H locs h hR _ hS => ?_)
      refine lv_iadd hx hb dX1_isWhole_154 ?_
      refine lv_topi (fun x_155 ex_155 => ?_)
      have h := h x_155 ex_155
      refine lv_istore_n (lv' := [(1, .int (x_155)), (4, .ref (y.2 9 c3)), (0, .ref (y.2 0 0)), (2, .int (v2)), (3, .ref (q3))]) hx hb dX1_isWhole_155 rfl hl (by decide) rfl (fun ls hl => ?_)
      refine lv_iload_n hx hb dX1_isWhole_156 rfl (lv_at hl 3 rfl) ?_
      refine lv_aload hx hb dX1_isWhole_157 (lv_at hl 1 rfl) ?_
      refine g9_1 hx hb hts hown hK hR (hW.com hn_135) q1124 dX1_isWhole_159 ?_
      refine ce_qi (fw := fun u => u) (fy := fun _ => y) (cr_V (n := 0) (As := []) (rest := [.int (v2)]) ⟨hx, hb, hml, hown, hts⟩ hK hR (m_X2_coins hW (hW.cch (hW.com hn_135)) h) q300 q301 q302 q78 q305 rfl rfl hd_X2_coins ⟨Nat.le_of_ble_eq_true rfl, Nat.le_of_ble_eq_true rfl⟩ (rv_ch1 hK hR (hW.cch (hW.com hn_135)) (by omega)) rfl rfl hl.1 rfl (lv_room (Nat.le_of_ble_eq_true rfl)) dX1_isWhole_162 ⟨(Nat.le_trans (show cells + 0 ≤ C1 from by omega) hC), (Nat.le_trans (show slots + 0 ≤ S1 from by omega) hSl)⟩) hR hS (fun r_162 w_162 H locs h hR _ hS => ?_)
      refine jn_elim h (fun j186 ej186 h => ?_)
      have Jj186 : ∀ (w186 : Wd) (s0_186 : Int32) (s1_186 : Int32) (H : Heap) (locs : List Loc) (ls : Array Slot), j186 w186 s0_186 s1_186 → Rp κ w186 y X [(q3, itC y 42 0 (c3 + 1) (nI c3))] H → va_S (Af κ) s.heap H locs → lv_has ls 5 [(1, .int (x_155)), (0, .ref (y.2 0 0)), (3, .ref (q3))] → W p l e (headSpec (ws_ yX1_isWhole cX1_isWhole 5 (Option.some Jvm.ClassFile.FieldType.boolean)) rm_X1_isWhole).room s m args below meth c H locs (cells + 0) (slots + 0) (MQ below (va_Qi post (fun w t => Rp κ w y X [] t.heap) (Af κ)) args s 12 48 (Af κ)) (F0 m 186 ls [.int (s0_186), .int (s1_186)]) := by
        clear h
        intro w186 s0_186 s1_186 H locs ls h hR hS hl
        subst ej186
        refine lv_iand hx hb dX1_isWhole_186 ?_
        refine lv_topi (fun x_187 ex_187 => ?_)
        have h := h x_187 ex_187
        refine lv_istore_n (lv' := [(2, .int (x_187)), (1, .int (x_155)), (0, .ref (y.2 0 0)), (3, .ref (q3))]) hx hb dX1_isWhole_187 rfl hl (by decide) rfl (fun ls hl => ?_)
        refine lv_goto (tgt := 125) hx hb dX1_isWhole_188 (by decide) ?_
        exact ih w186 x_155 x_187 (c3 + 1) (nI c3) _ _ _ _ _ (by omega) h hR hS (lv_sub hl [2, 1, 0, 3] rfl) (by omega) (by omega)
      refine lv_if_lt (tgt := 185) hx hb dX1_isWhole_165 (by decide) (fun c_165 => ?_) (fun c_165 => ?_)
      · have h := h.1 c_165
        refine lv_iconst (v := (0 : Int32)) hx hb dX1_isWhole_185 (by decide) ?_
        refine W.widen (k := cells + 0) (n := slots + 0) (by omega) (by omega) ?_
        exact Jj186 w_162 (0 : Int32) v2 _ _ _ h hR hS (lv_sub hl [0, 2, 4] rfl)
      · have h := h.2 c_165
        refine lv_aload hx hb dX1_isWhole_168 (lv_at hl 1 rfl) ?_
        refine g9_4 hx hb hts hown hK hR (hW.com hn_135) q1131 dX1_isWhole_170 ?_
        refine lv_aload hx hb dX1_isWhole_173 (lv_at hl 1 rfl) ?_
        refine g9_3 hx hb hts hown hK hR (hW.com hn_135) q1128 dX1_isWhole_175 ?_
        refine lv_icmp_gt (tgt := 185) hx hb dX1_isWhole_178 (by decide) (fun c_178 => ?_) (fun c_178 => ?_)
        · have h := h.1 c_178
          refine lv_iconst (v := (0 : Int32)) hx hb dX1_isWhole_185 (by decide) ?_
          refine W.widen (k := cells + 0) (n := slots + 0) (by omega) (by omega) ?_
          exact Jj186 w_162 (0 : Int32) v2 _ _ _ h hR hS (lv_sub hl [0, 2, 4] rfl)
        · have h := h.2 c_178
          refine lv_iconst (v := (1 : Int32)) hx hb dX1_isWhole_181 (by decide) ?_
          refine lv_goto (tgt := 186) hx hb dX1_isWhole_182 (by decide) ?_
          refine W.widen (k := cells + 0) (n := slots + 0) (by omega) (by omega) ?_
          exact Jj186 w_162 (1 : Int32) v2 _ _ _ h hR hS (lv_sub hl [0, 2, 4] rfl)
def st_X1_isWhole_199 (κ : Kx) (y : Ly) (post : Int32 → Wd → Prop) (ex : Wd → (Int32) → Prop) (rec : Wd → Int32 → Nat → Int32 → Prop) (v1 : Int32) (w : Wd) (v2 : Int32) (c3 : Nat) (z3 : Int32) : Prop := ((¬ (¬ c3 = nL y)) → (ex w v2)) ∧ (((¬ c3 = nL y)) → (sp_X15_isOpen κ y (fun r_222 w_222 => ∀ j267 : Wd → Int32 → Int32 → Prop, (j267 = fun (w267 : Wd) (s0_267 : Int32) (s1_267 : Int32) => ∀ x_268 : Int32, x_268 = s1_267 &&& s0_267 → rec w267 x_268 (c3 + 1) (nI c3)) → (((r_222 = 0) → (sp_X15_isLeased κ y (fun r_239 w_239 => ((r_239 = 0) → (j267 w_239 (1 : Int32) v2)) ∧ ((¬ (r_239 = 0)) → ((y.1 14 c3 = 1 ∧ live y 9 (gv w_239 14 c3 0).toNatClampNeg) ∧ (((¬ gv w_239 9 (((gv w_239 14 c3 0).toNatClampNeg)) 11 = 0) → (j267 w_239 (0 : Int32) v2)) ∧ ((gv w_239 9 (((gv w_239 14 c3 0).toNatClampNeg)) 11 = 0) → (j267 w_239 (1 : Int32) v2)))))) w_222 c3)) ∧ ((¬ (r_222 = 0)) → (sp_X1_clashes κ y (fun r_231 w_231 => ((¬ r_231 = 0) → (j267 w_231 (0 : Int32) v2)) ∧ ((r_231 = 0) → (sp_X15_isLeased κ y (fun r_239_a w_239_a => ((r_239_a = 0) → (j267 w_239_a (1 : Int32) v2)) ∧ ((¬ (r_239_a = 0)) → ((y.1 14 c3 = 1 ∧ live y 9 (gv w_239_a 14 c3 0).toNatClampNeg) ∧ (((¬ gv w_239_a 9 (((gv w_239_a 14 c3 0).toNatClampNeg)) 11 = 0) → (j267 w_239_a (0 : Int32) v2)) ∧ ((gv w_239_a 9 (((gv w_239_a 14 c3 0).toNatClampNeg)) 11 = 0) → (j267 w_239_a (1 : Int32) v2)))))) w_231 c3))) w_222 c3)))) w c3))
def sp_X1_isWhole_199 (κ : Kx) (y : Ly) (post : Int32 → Wd → Prop) (ex : Wd → (Int32) → Prop) (v1 : Int32) : Nat → Wd → Int32 → Nat → Int32 → Prop
  | 0 => fun _ _ _ _ => False
  | n + 1 => fun w v2 c3 z3 => st_X1_isWhole_199 κ y post ex (sp_X1_isWhole_199 κ y post ex v1 n) v1 w v2 c3 z3
set_option maxHeartbeats 4000000 in
theorem lp_X1_isWhole_199 {p : Program} {l : Launch} {e : Env} {s : State} {m : MethodId} {args : Array Value} {below : List Frame} {meth : Method} {c : Code} {κ : Kx} {y : Ly} {X : XR} {post : Int32 → Wd → Prop} {q3 : Nat} {v1 : Int32} (hx : p.tables.exec = Jvm.exec) (hb : c.code = cX1_isWhole) (hr : meth.sig.returnType = (Option.some Jvm.ClassFile.FieldType.boolean)) (hml : c.maxLocals = 5) (hown : s.vm.findClass RX1 = some m.cls) (hts : ∀ w ∈ lw_all, w.before args s = true) (hlocks : meth.locks = false) (hK : KK κ s) (hW : WFc κ y) (l0 : live y 0 0) {C1 S1 : Nat} (hC : C1 ≤ 12) (hSl : S1 ≤ 48) {ex : Wd → (Int32) → Prop}
    (kx : ∀ (w : Wd) (v2 : Int32) (H : Heap) (locs : List Loc) (ls : Array Slot) (cells slots : Nat) , ex w v2 → Rp κ w y X [] H → va_S (Af κ) s.heap H locs → lv_has ls 5 [(1, .int (v1)), (2, .int (v2))] → cells ≤ C1 → slots ≤ S1 → W p l e (headSpec (ws_ yX1_isWhole cX1_isWhole 5 (Option.some Jvm.ClassFile.FieldType.boolean)) rm_X1_isWhole).room s m args below meth c H locs cells slots (MQ below (va_Qi post (fun w t => Rp κ w y X [] t.heap) (Af κ)) args s 12 48 (Af κ)) (F0 m 272 ls [])) :
    ∀ (f : Nat) (w : Wd) (v2 : Int32) (c3 : Nat) (z3 : Int32) (H : Heap) (locs : List Loc) (ls : Array Slot) (cells slots : Nat)  (hc3 : c3 ≤ nL y), sp_X1_isWhole_199 κ y post ex v1 f w v2 c3 z3 → Rp κ w y X [(q3, itC y 44 0 c3 z3)] H → va_S (Af κ) s.heap H locs → lv_has ls 5 [(0, .ref (y.2 0 0)), (1, .int (v1)), (2, .int (v2)), (3, .ref (q3))] → cells + f * 1 ≤ C1 → slots + f * 4 ≤ S1 → W p l e (headSpec (ws_ yX1_isWhole cX1_isWhole 5 (Option.some Jvm.ClassFile.FieldType.boolean)) rm_X1_isWhole).room s m args below meth c H locs cells slots (MQ below (va_Qi post (fun w t => Rp κ w y X [] t.heap) (Af κ)) args s 12 48 (Af κ)) (F0 m 199 ls []) := by
  intro f
  induction f with
  | zero =>
    intro w v2 c3 z3 H locs ls cells slots hc3 h
    exact False.elim h
  | succ f ih =>
    intro w v2 c3 z3 H locs ls cells slots hc3 h hR hS hl hc hs
    have h : st_X1_isWhole_199 κ y post ex (sp_X1_isWhole_199 κ y post ex v1 f) v1 w v2 c3 z3 := h
    unfold st_X1_isWhole_199 at h
    refine lv_aload_n hx hb dX1_isWhole_199 rfl (lv_at hl 3 rfl) ?_
    refine jr_hasNext (t := 0) ⟨hx, hb, hml, hown, hts⟩ hK hR rfl ⟨fun _ _ _ _ _ => rfl, fun _ _ _ _ _ => rfl⟩ hW.lsL (by omega) (Nat.le_trans hW.nL8 (by decide)) q349 ⟨Nat.le_of_ble_eq_true rfl, Nat.le_of_ble_eq_true rfl⟩ hl.1 (Nat.le_of_ble_eq_true rfl) dX1_isWhole_200 ⟨(Nat.le_trans (show cells + 0 ≤ C1 from by omega) hC), (Nat.le_trans (show slots + 0 ≤ S1 from by omega) hSl)⟩ ?_
    refine lv_if_eq (tgt := 272) hx hb dX1_isWhole_205 (by decide) (fun c_205 => ?_) (fun c_205 => ?_)
    · replace c_205 : ¬ (¬ c3 = nL y) := bi_0.mp c_205
      have h := h.1 c_205
      have hR := hR.sub (L' := []) [] rfl rfl
      exact kx w v2 _ _ _ _ _ h hR hS (lv_sub hl [1, 2] rfl) (by omega) (by omega)
    · replace c_205 : (¬ c3 = nL y) := bi_n0.mp c_205
      have h := h.2 c_205
      refine lv_aload_n hx hb dX1_isWhole_208 rfl (lv_at hl 3 rfl) ?_
      have hn_209 : c3 < nL y := by omega
      refine jr_next (t := 0) (a := y.2 11 c3) ⟨hx, hb, hml, hown, hts⟩ hK hR hS rfl ⟨fun _ _ _ _ _ => rfl, fun _ _ _ _ _ => rfl⟩ hW.lsL ⟨hW.arL (Nat.lt_of_le_of_lt (Nat.zero_le _) hn_209), (Nat.le_trans hW.nL8 (by decide))⟩ hn_209 (hW.elL hn_209) q359 ⟨Nat.le_of_ble_eq_true rfl, Nat.le_of_ble_eq_true rfl⟩ hl.1 (Nat.le_of_ble_eq_true rfl) dX1_isWhole_209 ⟨(Nat.le_trans (show cells + 0 ≤ C1 from by omega) hC), (Nat.le_trans (show slots + 0 ≤ S1 from by omega) hSl)⟩ (fun H locs hR hS => ?_)
      have hR : Rp κ w y X [(q3, itC y 44 0 (c3 + 1) (nI c3))] H := hR
      refine jr_castS (ci := 9) hx hb hown hK hts (hR.role (hW.lot hn_209)) rfl q497 dX1_isWhole_214 ?_
      refine lv_astore (lv' := [(4, .ref (y.2 11 c3)), (0, .ref (y.2 0 0)), (1, .int (v1)), (2, .int (v2)), (3, .ref (q3))]) hx hb dX1_isWhole_217 hl (by decide) rfl (fun ls hl => ?_)
      refine lv_iload_n hx hb dX1_isWhole_219 rfl (lv_at hl 3 rfl) ?_
      refine lv_aload hx hb dX1_isWhole_220 (lv_at hl 0 rfl) ?_
      refine ce_qi (fw := fun u => u) (fy := fun _ => y) (cr_V (n := 0) (As := []) (rest := [.int (v2)]) ⟨hx, hb, hml, hown, hts⟩ hK hR (m_X15_isOpen hW (hW.lot hn_209) h) q498 q499 q500 q112 q501 rfl rfl hd_X15_isOpen ⟨Nat.le_of_ble_eq_true rfl, Nat.le_of_ble_eq_true rfl⟩ (rv hK hR (hW.lot hn_209) (ci := 9) rfl rfl) rfl rfl hl.1 rfl (lv_room (Nat.le_of_ble_eq_true rfl)) dX1_isWhole_222 ⟨(Nat.le_trans (show cells + 0 ≤ C1 from by omega) hC), (Nat.le_trans (show slots + 0 ≤ S1 from by omega) hSl)⟩) hR hS (fun r_222 w_222 H locs h hR _ hS => ?_)
      refine jn_elim h (fun j267 ej267 h => ?_)
      have Jj267 : ∀ (w267 : Wd) (s0_267 : Int32) (s1_267 : Int32) (H : Heap) (locs : List Loc) (ls : Array Slot), j267 w267 s0_267 s1_267 → Rp κ w267 y X [(q3, itC y 44 0 (c3 + 1) (nI c3))] H → va_S (Af κ) s.heap H locs → lv_has ls 5 [(0, .ref (y.2 0 0)), (1, .int (v1)), (3, .ref (q3))] → W p l e (headSpec (ws_ yX1_isWhole cX1_isWhole 5 (Option.some Jvm.ClassFile.FieldType.boolean)) rm_X1_isWhole).room s m args below meth c H locs (cells + 1) (slots + 4) (MQ below (va_Qi post (fun w t => Rp κ w y X [] t.heap) (Af κ)) args s 12 48 (Af κ)) (F0 m 267 ls [.int (s0_267), .int (s1_267)]) := by
        clear h
        intro w267 s0_267 s1_267 H locs ls h hR hS hl
        subst ej267
        refine lv_iand hx hb dX1_isWhole_267 ?_
        refine lv_topi (fun x_268 ex_268 => ?_)
        have h := h x_268 ex_268
        refine lv_istore_n (lv' := [(2, .int (x_268)), (0, .ref (y.2 0 0)), (1, .int (v1)), (3, .ref (q3))]) hx hb dX1_isWhole_268 rfl hl (by decide) rfl (fun ls hl => ?_)
        refine lv_goto (tgt := 199) hx hb dX1_isWhole_269 (by decide) ?_
        exact ih w267 x_268 (c3 + 1) (nI c3) _ _ _ _ _ (by omega) h hR hS (lv_sub hl [1, 2, 0, 3] rfl) (by omega) (by omega)
      refine lv_if_eq (tgt := 237) hx hb dX1_isWhole_225 (by decide) (fun c_225 => ?_) (fun c_225 => ?_)
      · have h := h.1 c_225
        refine lv_aload hx hb dX1_isWhole_237 (lv_at hl 0 rfl) ?_
        refine ce_qi (fw := fun u => u) (fy := fun _ => y) (cr_V (n := 0) (As := []) (rest := [.int (v2)]) ⟨hx, hb, hml, hown, hts⟩ hK hR (m_X15_isLeased hW (hW.lot hn_209) h) q515 q516 q517 q112 q518 rfl rfl hd_X15_isLeased ⟨Nat.le_of_ble_eq_true rfl, Nat.le_of_ble_eq_true rfl⟩ (rv hK hR (hW.lot hn_209) (ci := 9) rfl rfl) rfl rfl hl.1 rfl (lv_room (Nat.le_of_ble_eq_true rfl)) dX1_isWhole_239 ⟨(Nat.le_trans (show cells + 0 ≤ C1 from by omega) hC), (Nat.le_trans (show slots + 0 ≤ S1 from by omega) hSl)⟩) hR hS (fun r_239 w_239 H locs h hR _ hS => ?_)
        refine lv_if_eq (tgt := 262) hx hb dX1_isWhole_242 (by decide) (fun c_242 => ?_) (fun c_242 => ?_)
        · have h := h.1 c_242
          refine lv_iconst (v := (1 : Int32)) hx hb dX1_isWhole_262 (by decide) ?_
          refine lv_goto (tgt := 267) hx hb dX1_isWhole_263 (by decide) ?_
          refine W.widen (k := cells + 1) (n := slots + 4) (by omega) (by omega) ?_
          exact Jj267 w_239 (1 : Int32) v2 _ _ _ h hR hS (lv_sub hl [1, 2, 4] rfl)
        · have h := h.2 c_242
          refine lv_aload hx hb dX1_isWhole_245 (lv_at hl 0 rfl) ?_
          refine g11_8 hx hb hts hown hK hR (hW.lot hn_209) q1269 dX1_isWhole_247 ?_
          have o_250 := h.1
          have h := h.2
          refine jr_oget (z := y.2 9 ((gv w_239 14 c3 0).toNatClampNeg)) ⟨hx, hb, hml, hown, hts⟩ hK (ho_at hK hR c3) (if_pos o_250.1) q519 ⟨Nat.le_of_ble_eq_true rfl, Nat.le_of_ble_eq_true rfl⟩ hl.1 (Nat.le_of_ble_eq_true rfl) dX1_isWhole_250 ⟨(Nat.le_trans (show cells + 0 ≤ C1 from by omega) hC), (Nat.le_trans (show slots + 0 ≤ S1 from by omega) hSl)⟩ ?_
          refine jr_castS (ci := 7) hx hb hown hK hts (hR.role o_250.2) rfl q371 dX1_isWhole_253 ?_
          refine g9_11 hx hb hts hown hK hR o_250.2 q1143 dX1_isWhole_256 ?_
          refine lv_if_ne (tgt := 266) hx hb dX1_isWhole_259 (by decide) (fun c_259 => ?_) (fun c_259 => ?_)
          · have h := h.1 c_259
            refine lv_iconst (v := (0 : Int32)) hx hb dX1_isWhole_266 (by decide) ?_
            refine W.widen (k := cells + 1) (n := slots + 4) (by omega) (by omega) ?_
            exact Jj267 w_239 (0 : Int32) v2 _ _ _ h hR hS (lv_sub hl [1, 2, 4] rfl)
          · have h := h.2 c_259
            refine lv_iconst (v := (1 : Int32)) hx hb dX1_isWhole_262 (by decide) ?_
            refine lv_goto (tgt := 267) hx hb dX1_isWhole_263 (by decide) ?_
            refine W.widen (k := cells + 1) (n := slots + 4) (by omega) (by omega) ?_
            exact Jj267 w_239 (1 : Int32) v2 _ _ _ h hR hS (lv_sub hl [1, 2, 4] rfl)
      · have h := h.2 c_225
        refine lv_aload_n hx hb dX1_isWhole_228 rfl (lv_at hl 1 rfl) ?_
        refine lv_aload hx hb dX1_isWhole_229 (lv_at hl 0 rfl) ?_
        refine ce_qi (fw := fun u => u) (fy := fun _ => y) (cr_V (n := 1) (As := [.ref (y.2 11 c3)]) (rest := [.int (v2)]) ⟨hx, hb, hml, hown, hts⟩ hK hR (m_X1_clashes hW l0 (hW.lot hn_209) h) q506 q508 qs2 q74 q509 rfl rfl hd_X1_clashes ⟨Nat.le_of_ble_eq_true rfl, Nat.le_of_ble_eq_true rfl⟩ (rv hK hR l0 (ci := 0) rfl rfl) rfl rfl hl.1 rfl (lv_room (Nat.le_of_ble_eq_true rfl)) dX1_isWhole_231 ⟨(Nat.le_trans (show cells + 1 ≤ C1 from by omega) hC), (Nat.le_trans (show slots + 4 ≤ S1 from by omega) hSl)⟩) hR hS (fun r_231 w_231 H locs h hR _ hS => ?_)
        refine lv_if_ne (tgt := 266) hx hb dX1_isWhole_234 (by decide) (fun c_234 => ?_) (fun c_234 => ?_)
        · have h := h.1 c_234
          refine lv_iconst (v := (0 : Int32)) hx hb dX1_isWhole_266 (by decide) ?_
          refine W.widen (k := cells + 1) (n := slots + 4) (by omega) (by omega) ?_
          exact Jj267 w_231 (0 : Int32) v2 _ _ _ h hR hS (lv_sub hl [1, 2, 4] rfl)
        · have h := h.2 c_234
          refine lv_aload hx hb dX1_isWhole_237 (lv_at hl 0 rfl) ?_
          refine ce_qi (fw := fun u => u) (fy := fun _ => y) (cr_V (n := 0) (As := []) (rest := [.int (v2)]) ⟨hx, hb, hml, hown, hts⟩ hK hR (m_X15_isLeased hW (hW.lot hn_209) h) q515 q516 q517 q112 q518 rfl rfl hd_X15_isLeased ⟨Nat.le_of_ble_eq_true rfl, Nat.le_of_ble_eq_true rfl⟩ (rv hK hR (hW.lot hn_209) (ci := 9) rfl rfl) rfl rfl hl.1 rfl (lv_room (Nat.le_of_ble_eq_true rfl)) dX1_isWhole_239 ⟨(Nat.le_trans (show cells + 1 + 0 ≤ C1 from by omega) hC), (Nat.le_trans (show slots + 4 + 0 ≤ S1 from by omega) hSl)⟩) hR hS (fun r_239_a w_239_a H locs h hR _ hS => ?_)
          refine lv_if_eq (tgt := 262) hx hb dX1_isWhole_242 (by decide) (fun c_242_a => ?_) (fun c_242_a => ?_)
          · have h := h.1 c_242_a
            refine lv_iconst (v := (1 : Int32)) hx hb dX1_isWhole_262 (by decide) ?_
            refine lv_goto (tgt := 267) hx hb dX1_isWhole_263 (by decide) ?_
            refine W.widen (k := cells + 1) (n := slots + 4) (by omega) (by omega) ?_
            exact Jj267 w_239_a (1 : Int32) v2 _ _ _ h hR hS (lv_sub hl [1, 2, 4] rfl)
          · have h := h.2 c_242_a
            refine lv_aload hx hb dX1_isWhole_245 (lv_at hl 0 rfl) ?_
            refine g11_8 hx hb hts hown hK hR (hW.lot hn_209) q1269 dX1_isWhole_247 ?_
            have o_250_a := h.1
            have h := h.2
            refine jr_oget (z := y.2 9 ((gv w_239_a 14 c3 0).toNatClampNeg)) ⟨hx, hb, hml, hown, hts⟩ hK (ho_at hK hR c3) (if_pos o_250_a.1) q519 ⟨Nat.le_of_ble_eq_true rfl, Nat.le_of_ble_eq_true rfl⟩ hl.1 (Nat.le_of_ble_eq_true rfl) dX1_isWhole_250 ⟨(Nat.le_trans (show cells + 1 + 0 ≤ C1 from by omega) hC), (Nat.le_trans (show slots + 4 + 0 ≤ S1 from by omega) hSl)⟩ ?_
            refine jr_castS (ci := 7) hx hb hown hK hts (hR.role o_250_a.2) rfl q371 dX1_isWhole_253 ?_
            refine g9_11 hx hb hts hown hK hR o_250_a.2 q1143 dX1_isWhole_256 ?_
            refine lv_if_ne (tgt := 266) hx hb dX1_isWhole_259 (by decide) (fun c_259_a => ?_) (fun c_259_a => ?_)
            · have h := h.1 c_259_a
              refine lv_iconst (v := (0 : Int32)) hx hb dX1_isWhole_266 (by decide) ?_
              refine W.widen (k := cells + 1) (n := slots + 4) (by omega) (by omega) ?_
              exact Jj267 w_239_a (0 : Int32) v2 _ _ _ h hR hS (lv_sub hl [1, 2, 4] rfl)
            · have h := h.2 c_259_a
              refine lv_iconst (v := (1 : Int32)) hx hb dX1_isWhole_262 (by decide) ?_
              refine lv_goto (tgt := 267) hx hb dX1_isWhole_263 (by decide) ?_
              refine W.widen (k := cells + 1) (n := slots + 4) (by omega) (by omega) ?_
              exact Jj267 w_239_a (1 : Int32) v2 _ _ _ h hR hS (lv_sub hl [1, 2, 4] rfl)
def sp_X1_isWhole (κ : Kx) (y : Ly) (post : Int32 → Wd → Prop) (w : Wd)  : Prop := sp_X2_coins κ y (fun r_4 w_4 => sp_X2_coins κ y (fun r_11 w_11 => sp_X2_coins κ y (fun r_22 w_22 => ∀ x_26 : Int32, x_26 = (r_4 + r_11) + r_22 → sp_X2_coins κ y (fun r_31 w_31 => ∀ j55 : Wd → Int32 → Prop, (j55 = fun (w55 : Wd) (s0_55 : Int32) => sp_X1_isWhole_64 κ y post (fun w_64 y1_64 y2_64 => sp_X1_isWhole_125 κ y post (fun w_125 y1_125 y2_125 => sp_X1_isWhole_199 κ y post (fun w_199 y2_199 => ((y2_199 = 0) → (post ((0 : Int32)) w_199)) ∧ ((¬ (y2_199 = 0)) → (((¬ y1_125 = 0) → (post ((0 : Int32)) w_199)) ∧ ((y1_125 = 0) → (post ((1 : Int32)) w_199))))) y1_125 9 w_125 y2_125 0 (-1))  5 w_64 y1_64 y2_64 0 (-1))  9 w55 x_26 s0_55 0 (-1)) → (((r_31 < 0) → (j55 w_31 (0 : Int32))) ∧ ((¬ (r_31 < 0)) → (sp_X2_coins κ y (fun r_44 w_44 => ((r_44 < 0) → (j55 w_44 (0 : Int32))) ∧ ((¬ (r_44 < 0)) → (j55 w_44 (1 : Int32)))) w_31 2)))) w_22 1) w_11 2) w_4 1) w 0
theorem hd_X1_isWhole : yX1_isWhole.cls = RX1 ∧ yX1_isWhole.cls ≠ "java/lang/invoke/MethodHandle" ∧ yX1_isWhole.cls ≠ "java/lang/invoke/VarHandle" ∧ (parseMethodDescriptor yX1_isWhole.desc).map (fun d => d.parameters.length) = some 0 := by decide +kernel
set_option maxHeartbeats 4000000 in
theorem m_X1_isWhole {l : Launch} {κ : Kx} {y : Ly} {X : XR} {post : Int32 → Wd → Prop} {w : Wd}   (hW : WFc κ y) (l0 : live y 0 0) (h : sp_X1_isWhole κ y post w ) : Met l yX1_isWhole (ws_ yX1_isWhole cX1_isWhole 5 (Option.some Jvm.ClassFile.FieldType.boolean)) rm_X1_isWhole (va_Pc [.ref (y.2 0 0)] (RC κ w y X)) (va_Qi post (fun w t => Rp κ w y X [] t.heap) (Af κ)) 12 48 (Af κ) := by
  unfold sp_X1_isWhole at h
  refine Met.ofW (cc := cX1_isWhole) (maxL := 5) (ret := (Option.some Jvm.ClassFile.FieldType.boolean)) (by decide) rfl ?_
  intro p e s m args below meth c s₁ B hml hv
  obtain ⟨rfl, hR, hK⟩ := hv
  have hx := B.exec
  have hb := B.bytes
  have hr := B.returns
  have hts := atoms_spec (ws := ws_ yX1_isWhole cX1_isWhole 5 (Option.some Jvm.ClassFile.FieldType.boolean)) B.pre
  have hts : ∀ w ∈ lw_all, w.before _ s = true := fun w h => hts w (List.mem_cons_of_mem _ h)
  have hown : s.vm.findClass RX1 = some m.cls := findClass_of_methodNamed B.named
  have hlocks := B.notSynchronized
  have hS : va_S (Af κ) s.heap s.heap [] := va_S.rf
  have hl := lv_entry ([.ref (y.2 0 0)]) (n := 5) (Nat.le_of_ble_eq_true rfl)
  rw [lg_entry_eq]
  generalize (lg_sl ([.ref (y.2 0 0)]) ++ List.replicate (5 - (lg_sl ([.ref (y.2 0 0)])).length) Slot.unset).toArray = ls at hl ⊢
  have hl : lv_has ls 5 [(0, .ref (y.2 0 0))] := hl
  refine lv_aload_n hx hb dX1_isWhole_0 rfl (lv_at hl 0 rfl) ?_
  refine g0_4 hx hb hts hown hK hR l0 q251 dX1_isWhole_1 ?_
  refine ce_qi (fw := fun u => u) (fy := fun _ => y) (cr_U (C := RX3) (owner := "Publicanry$Chest") (Z := yX2_coins) (n := 0) (As := []) (rest := []) ⟨hx, hb, hml, hown, hts⟩ hK hR (m_X2_coins hW hW.wor h) q300 q303 q304 q301 q78 q305 rfl rfl rfl (by decide +kernel) ⟨Nat.le_of_ble_eq_true rfl, Nat.le_of_ble_eq_true rfl⟩ (rv_ch0 hK hR hW.wor) rfl rfl hl.1 rfl (lv_room (Nat.le_of_ble_eq_true rfl)) dX1_isWhole_4 ⟨(Nat.le_of_ble_eq_true rfl), (Nat.le_of_ble_eq_true rfl)⟩) hR hS (fun r_4 w_4 H locs h hR _ hS => ?_)
  refine lv_aload_n hx hb dX1_isWhole_7 rfl (lv_at hl 0 rfl) ?_
  refine g0_5 hx hb hts hown hK hR l0 q252 dX1_isWhole_8 ?_
  refine ce_qi (fw := fun u => u) (fy := fun _ => y) (cr_V (n := 0) (As := []) (rest := [.int (r_4)]) ⟨hx, hb, hml, hown, hts⟩ hK hR (m_X2_coins hW hW.tre h) q300 q301 q302 q78 q305 rfl rfl hd_X2_coins ⟨Nat.le_of_ble_eq_true rfl, Nat.le_of_ble_eq_true rfl⟩ (rv_ch1 hK hR hW.tre (by omega)) rfl rfl hl.1 rfl (lv_room (Nat.le_of_ble_eq_true rfl)) dX1_isWhole_11 ⟨(Nat.le_of_ble_eq_true rfl), (Nat.le_of_ble_eq_true rfl)⟩) hR hS (fun r_11 w_11 H locs h hR _ hS => ?_)
  refine lv_iadd hx hb dX1_isWhole_14 ?_
  refine lv_aload_n hx hb dX1_isWhole_15 rfl (lv_at hl 0 rfl) ?_
  refine g0_6 hx hb hts hown hK hR l0 q253 dX1_isWhole_16 ?_
  refine g2_0 hx hb hts hown hK hR hW.gov q187 dX1_isWhole_19 ?_
  refine ce_qi (fw := fun u => u) (fy := fun _ => y) (cr_V (n := 0) (As := []) (rest := [.int (r_4 + r_11)]) ⟨hx, hb, hml, hown, hts⟩ hK hR (m_X2_coins hW hW.goc h) q300 q301 q302 q78 q305 rfl rfl hd_X2_coins ⟨Nat.le_of_ble_eq_true rfl, Nat.le_of_ble_eq_true rfl⟩ (rv_ch1 hK hR hW.goc (by omega)) rfl rfl hl.1 rfl (lv_room (Nat.le_of_ble_eq_true rfl)) dX1_isWhole_22 ⟨(Nat.le_of_ble_eq_true rfl), (Nat.le_of_ble_eq_true rfl)⟩) hR hS (fun r_22 w_22 H locs h hR _ hS => ?_)
  refine lv_iadd hx hb dX1_isWhole_25 ?_
  refine lv_topi (fun x_26 ex_26 => ?_)
  have h := h x_26 ex_26
  refine lv_istore_n (lv' := [(1, .int (x_26)), (0, .ref (y.2 0 0))]) hx hb dX1_isWhole_26 rfl hl (by decide) rfl (fun ls hl => ?_)
  refine lv_aload_n hx hb dX1_isWhole_27 rfl (lv_at hl 1 rfl) ?_
  refine g0_5 hx hb hts hown hK hR l0 q252 dX1_isWhole_28 ?_
  refine ce_qi (fw := fun u => u) (fy := fun _ => y) (cr_V (n := 0) (As := []) (rest := []) ⟨hx, hb, hml, hown, hts⟩ hK hR (m_X2_coins hW hW.tre h) q300 q301 q302 q78 q305 rfl rfl hd_X2_coins ⟨Nat.le_of_ble_eq_true rfl, Nat.le_of_ble_eq_true rfl⟩ (rv_ch1 hK hR hW.tre (by omega)) rfl rfl hl.1 rfl (lv_room (Nat.le_of_ble_eq_true rfl)) dX1_isWhole_31 ⟨(Nat.le_of_ble_eq_true rfl), (Nat.le_of_ble_eq_true rfl)⟩) hR hS (fun r_31 w_31 H locs h hR _ hS => ?_)
  refine jn_elim h (fun j55 ej55 h => ?_)
  have Jj55 : ∀ (w55 : Wd) (s0_55 : Int32) (H : Heap) (locs : List Loc) (ls : Array Slot), j55 w55 s0_55 → Rp κ w55 y X [] H → va_S (Af κ) s.heap H locs → lv_has ls 5 [(1, .int (x_26)), (0, .ref (y.2 0 0))] → W p l e (headSpec (ws_ yX1_isWhole cX1_isWhole 5 (Option.some Jvm.ClassFile.FieldType.boolean)) rm_X1_isWhole).room s m ([.ref (y.2 0 0)] : List Value).toArray below meth c H locs (0) (0) (MQ below (va_Qi post (fun w t => Rp κ w y X [] t.heap) (Af κ)) ([.ref (y.2 0 0)] : List Value).toArray s 12 48 (Af κ)) (F0 m 55 ls [.int (s0_55)]) := by
    clear h
    intro w55 s0_55 H locs ls h hR hS hl
    subst ej55
    refine lv_istore_n (lv' := [(2, .int (s0_55)), (1, .int (x_26)), (0, .ref (y.2 0 0))]) hx hb dX1_isWhole_55 rfl hl (by decide) rfl (fun ls hl => ?_)
    refine lv_aload_n hx hb dX1_isWhole_56 rfl (lv_at hl 2 rfl) ?_
    refine g0_0 hx hb hts hown hK hR l0 q247 dX1_isWhole_57 ?_
    refine jr_iter ⟨hx, hb, hml, hown, hts⟩ hK hR hS ⟨fun _ _ _ _ _ => rfl, fun _ _ _ _ _ => rfl⟩ hW.lsV q325 ⟨Nat.le_of_ble_eq_true rfl, Nat.le_of_ble_eq_true rfl⟩ hl.1 (Nat.le_of_ble_eq_true rfl) dX1_isWhole_60 ⟨(Nat.le_of_ble_eq_true rfl), (Nat.le_of_ble_eq_true rfl)⟩ (fun q_60 H locs hR hS => ?_)
    have hR : Rp κ w55 y X [(q_60, itC y 40 0 0 (-1))] H := hR
    refine lv_astore_n (lv' := [(3, .ref (q_60)), (2, .int (s0_55)), (1, .int (x_26)), (0, .ref (y.2 0 0))]) hx hb dX1_isWhole_63 rfl hl (by decide) rfl (fun ls hl => ?_)
    refine lp_X1_isWhole_64 (C1 := 1) (S1 := 4) hx hb hr hml hown hts hlocks hK hW l0 (Nat.le_of_ble_eq_true rfl) (Nat.le_of_ble_eq_true rfl) (fun w_64 y1_64 y2_64 H locs ls cells9 slots9 h hR hS hl hc9 hs9 => ?_) 9 w55 x_26 s0_55 0 (-1) _ _ _ _ _ (by omega) h hR hS (lv_sub hl [3, 2, 1, 0] rfl) (by omega) (by omega)
    refine W.widen (k := 1) (n := 4) hc9 hs9 ?_
    refine lv_aload_n hx hb dX1_isWhole_117 rfl (lv_at hl 0 rfl) ?_
    refine g0_1 hx hb hts hown hK hR l0 q248 dX1_isWhole_118 ?_
    refine jr_iter ⟨hx, hb, hml, hown, hts⟩ hK hR hS ⟨fun _ _ _ _ _ => rfl, fun _ _ _ _ _ => rfl⟩ hW.lsC q325 ⟨Nat.le_of_ble_eq_true rfl, Nat.le_of_ble_eq_true rfl⟩ hl.1 (Nat.le_of_ble_eq_true rfl) dX1_isWhole_121 ⟨(Nat.le_of_ble_eq_true rfl), (Nat.le_of_ble_eq_true rfl)⟩ (fun q_121 H locs hR hS => ?_)
    have hR : Rp κ w_64 y X [(q_121, itC y 42 0 0 (-1))] H := hR
    refine lv_astore_n (lv' := [(3, .ref (q_121)), (0, .ref (y.2 0 0)), (1, .int (y1_64)), (2, .int (y2_64))]) hx hb dX1_isWhole_124 rfl hl (by decide) rfl (fun ls hl => ?_)
    refine lp_X1_isWhole_125 (C1 := 2) (S1 := 8) hx hb hr hml hown hts hlocks hK hW l0 (Nat.le_of_ble_eq_true rfl) (Nat.le_of_ble_eq_true rfl) (fun w_125 y1_125 y2_125 H locs ls cells9 slots9 h hR hS hl hc9 hs9 => ?_) 5 w_64 y1_64 y2_64 0 (-1) _ _ _ _ _ (by omega) h hR hS (lv_sub hl [1, 2, 3, 0] rfl) (by omega) (by omega)
    refine W.widen (k := 2) (n := 8) hc9 hs9 ?_
    refine lv_aload_n hx hb dX1_isWhole_191 rfl (lv_at hl 0 rfl) ?_
    refine g0_2 hx hb hts hown hK hR l0 q249 dX1_isWhole_192 ?_
    refine jr_iter ⟨hx, hb, hml, hown, hts⟩ hK hR hS ⟨fun _ _ _ _ _ => rfl, fun _ _ _ _ _ => rfl⟩ hW.lsL q325 ⟨Nat.le_of_ble_eq_true rfl, Nat.le_of_ble_eq_true rfl⟩ hl.1 (Nat.le_of_ble_eq_true rfl) dX1_isWhole_195 ⟨(Nat.le_of_ble_eq_true rfl), (Nat.le_of_ble_eq_true rfl)⟩ (fun q_195 H locs hR hS => ?_)
    have hR : Rp κ w_125 y X [(q_195, itC y 44 0 0 (-1))] H := hR
    refine lv_astore_n (lv' := [(3, .ref (q_195)), (0, .ref (y.2 0 0)), (1, .int (y1_125)), (2, .int (y2_125))]) hx hb dX1_isWhole_198 rfl hl (by decide) rfl (fun ls hl => ?_)
    refine lp_X1_isWhole_199 (C1 := 12) (S1 := 48) hx hb hr hml hown hts hlocks hK hW l0 (Nat.le_of_ble_eq_true rfl) (Nat.le_of_ble_eq_true rfl) (fun w_199 y2_199 H locs ls cells9 slots9 h hR hS hl hc9 hs9 => ?_) 9 w_125 y2_125 0 (-1) _ _ _ _ _ (by omega) h hR hS (lv_sub hl [1, 2, 3, 0] rfl) (by omega) (by omega)
    refine W.widen (k := 12) (n := 48) hc9 hs9 ?_
    refine lv_iload_n hx hb dX1_isWhole_272 rfl (lv_at hl 1 rfl) ?_
    refine lv_if_eq (tgt := 284) hx hb dX1_isWhole_273 (by decide) (fun c_273 => ?_) (fun c_273 => ?_)
    · have h := h.1 c_273
      refine lv_iconst (v := (0 : Int32)) hx hb dX1_isWhole_284 (by decide) ?_
      refine W.widen (k := 12) (n := 48) (Nat.le_of_ble_eq_true rfl) (Nat.le_of_ble_eq_true rfl) ?_
      exact W.zret (v := (0 : Int32)) hx hb hr nbo_0.n (fun t ht hW9 => ⟨⟨(0 : Int32), w_199, rfl, h, rpt ht hR⟩, hS.F ht⟩) hS.2.2 dX1_isWhole_285
    · have h := h.2 c_273
      refine lv_iload_n hx hb dX1_isWhole_276 rfl (lv_at hl 0 rfl) ?_
      refine lv_if_ne (tgt := 284) hx hb dX1_isWhole_277 (by decide) (fun c_277 => ?_) (fun c_277 => ?_)
      · have h := h.1 c_277
        refine lv_iconst (v := (0 : Int32)) hx hb dX1_isWhole_284 (by decide) ?_
        refine W.widen (k := 12) (n := 48) (Nat.le_of_ble_eq_true rfl) (Nat.le_of_ble_eq_true rfl) ?_
        exact W.zret (v := (0 : Int32)) hx hb hr nbo_0.n (fun t ht hW9 => ⟨⟨(0 : Int32), w_199, rfl, h, rpt ht hR⟩, hS.F ht⟩) hS.2.2 dX1_isWhole_285
      · have h := h.2 c_277
        refine lv_iconst (v := (1 : Int32)) hx hb dX1_isWhole_280 (by decide) ?_
        refine lv_goto (tgt := 285) hx hb dX1_isWhole_281 (by decide) ?_
        refine W.widen (k := 12) (n := 48) (Nat.le_of_ble_eq_true rfl) (Nat.le_of_ble_eq_true rfl) ?_
        exact W.zret (v := (1 : Int32)) hx hb hr nbo_1.n (fun t ht hW9 => ⟨⟨(1 : Int32), w_199, rfl, h, rpt ht hR⟩, hS.F ht⟩) hS.2.2 dX1_isWhole_285
  refine lv_if_lt (tgt := 54) hx hb dX1_isWhole_34 (by decide) (fun c_34 => ?_) (fun c_34 => ?_)
  · have h := h.1 c_34
    refine lv_iconst (v := (0 : Int32)) hx hb dX1_isWhole_54 (by decide) ?_
    refine W.widen (k := 0) (n := 0) (Nat.le_of_ble_eq_true rfl) (Nat.le_of_ble_eq_true rfl) ?_
    exact Jj55 w_31 (0 : Int32) _ _ _ h hR hS (lv_sub hl [0, 1] rfl)
  · have h := h.2 c_34
    refine lv_aload_n hx hb dX1_isWhole_37 rfl (lv_at hl 1 rfl) ?_
    refine g0_6 hx hb hts hown hK hR l0 q253 dX1_isWhole_38 ?_
    refine g2_0 hx hb hts hown hK hR hW.gov q187 dX1_isWhole_41 ?_
    refine ce_qi (fw := fun u => u) (fy := fun _ => y) (cr_V (n := 0) (As := []) (rest := []) ⟨hx, hb, hml, hown, hts⟩ hK hR (m_X2_coins hW hW.goc h) q300 q301 q302 q78 q305 rfl rfl hd_X2_coins ⟨Nat.le_of_ble_eq_true rfl, Nat.le_of_ble_eq_true rfl⟩ (rv_ch1 hK hR hW.goc (by omega)) rfl rfl hl.1 rfl (lv_room (Nat.le_of_ble_eq_true rfl)) dX1_isWhole_44 ⟨(Nat.le_of_ble_eq_true rfl), (Nat.le_of_ble_eq_true rfl)⟩) hR hS (fun r_44 w_44 H locs h hR _ hS => ?_)
    refine lv_if_lt (tgt := 54) hx hb dX1_isWhole_47 (by decide) (fun c_47 => ?_) (fun c_47 => ?_)
    · have h := h.1 c_47
      refine lv_iconst (v := (0 : Int32)) hx hb dX1_isWhole_54 (by decide) ?_
      refine W.widen (k := 0) (n := 0) (Nat.le_of_ble_eq_true rfl) (Nat.le_of_ble_eq_true rfl) ?_
      exact Jj55 w_44 (0 : Int32) _ _ _ h hR hS (lv_sub hl [0, 1] rfl)
    · have h := h.2 c_47
      refine lv_iconst (v := (1 : Int32)) hx hb dX1_isWhole_50 (by decide) ?_
      refine lv_goto (tgt := 55) hx hb dX1_isWhole_51 (by decide) ?_
      refine W.widen (k := 0) (n := 0) (Nat.le_of_ble_eq_true rfl) (Nat.le_of_ble_eq_true rfl) ?_
      exact Jj55 w_44 (1 : Int32) _ _ _ h hR hS (lv_sub hl [0, 1] rfl)
