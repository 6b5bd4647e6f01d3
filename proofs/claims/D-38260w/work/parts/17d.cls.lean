/-! printed by wip gen: X1_cut, X1_bid, X1_fallDue, X1_letOn, X1_deliver, X1_sue, X1_gift, X1_quarter, X1_remit, X1_spring -/
set_option maxRecDepth 100000
abbrev rm_X1_cut : Room := { frames := 8, cells := 1, slots := 6, locals := 133 }
def sp_X1_cut (κ : Kx) (y : Ly) (post : Int32 → Wd → Prop) (px : String → Wd → Prop) (w : Wd) (p1 : Int32) : Prop := sp_X1_villageOf κ y (fun i_2 w_2 => ∀ x_10 : Int32, x_10 = gv w_2 6 i_2 15 → sp_X2_pay κ y (fun r_20 w_20 => sp_X10_cut κ y (fun w_33 => post (x_10) w_33) w_20 i_2 (gv w_20 0 0 10)) w_2 1 0 (3 : Int32)) px w p1
theorem hd_X1_cut : yX1_cut.cls = RX1 ∧ yX1_cut.cls ≠ "java/lang/invoke/MethodHandle" ∧ yX1_cut.cls ≠ "java/lang/invoke/VarHandle" ∧ (parseMethodDescriptor yX1_cut.desc).map (fun d => d.parameters.length) = some 1 := by decide +kernel
set_option maxHeartbeats 4000000 in
theorem m_X1_cut {l : Launch} {κ : Kx} {y : Ly} {X : XR} {post : Int32 → Wd → Prop} {px : String → Wd → Prop} {w : Wd} {p1 : Int32}  (hfl : l.stackTraces = false) (hW : WFc κ y) (l0 : live y 0 0) (h : sp_X1_cut κ y post px w p1) : vx_Met l yX1_cut (ws_ yX1_cut cX1_cut 4 (Option.some Jvm.ClassFile.FieldType.int)) rm_X1_cut (va_Pc [.ref (y.2 0 0), .int (p1)] (RC κ w y X)) (va_Qi post (fun w t => Rp κ w y X [] t.heap) (Af κ)) (XCk κ y X px) 1 6 (Af κ) := by
  unfold sp_X1_cut at h
  refine vx_ofW (cc := cX1_cut) (maxL := 4) (ret := (Option.some Jvm.ClassFile.FieldType.int)) (by decide) rfl ?_
  intro p e s m args below meth c s₁ B hml ht hv
  obtain ⟨rfl, hR, hK⟩ := hv
  have hx := B.exec
  have hb := B.bytes
  have hr := B.returns
  have hts := atoms_spec (ws := ws_ yX1_cut cX1_cut 4 (Option.some Jvm.ClassFile.FieldType.int)) B.pre
  have hts : ∀ w ∈ lw_all, w.before _ s = true := fun w h => hts w (List.mem_cons_of_mem _ h)
  have hown : s.vm.findClass RX1 = some m.cls := findClass_of_methodNamed B.named
  have hlocks := B.notSynchronized
  have hR0 := hR
  have hS : va_S (Af κ) s.heap s.heap [] := va_S.rf
  have hl := lv_entry ([.ref (y.2 0 0), .int (p1)]) (n := 4) (Nat.le_of_ble_eq_true rfl)
  rw [lg_entry_eq]
  generalize (lg_sl ([.ref (y.2 0 0), .int (p1)]) ++ List.replicate (4 - (lg_sl ([.ref (y.2 0 0), .int (p1)])).length) Slot.unset).toArray = ls at hl ⊢
  have hl : lv_has ls 4 [(0, .ref (y.2 0 0)), (1, .int (p1))] := hl
  refine lv_aload_n hx hb dX1_cut_0 rfl (lv_at hl 0 rfl) ?_
  refine lv_iload_n hx hb dX1_cut_1 rfl (lv_at hl 1 rfl) ?_
  refine cex_qr (fw := fun u : Nat × Wd => u.2) (fy := fun _ => y) (P := (fun (u : Nat × Wd) ra => ra = y.2 6 u.1 ∧ live y 6 u.1)) (crx_V (n := 1) (As := [.int (p1)]) (rest := []) ⟨hx, hb, hml, hown, hts⟩ hK hR (m_X1_villageOf hfl hW l0 h) q1029 q1031 qs20 q74 q1032 rfl rfl hd_X1_villageOf ⟨Nat.le_of_ble_eq_true rfl, Nat.le_of_ble_eq_true rfl⟩ (rv hK hR l0 (ci := 0) rfl rfl) rfl rfl hl.1 rfl (lv_room (Nat.le_of_ble_eq_true rfl)) dX1_cut_2 ⟨(Nat.le_of_ble_eq_true rfl), (Nat.le_of_ble_eq_true rfl)⟩) hR hS ht hlocks (Nat.le_of_ble_eq_true rfl) (Nat.le_of_ble_eq_true rfl) (fun u9 a_2 H locs h p9 hR _ hS => ?_)
  obtain ⟨i_2, w_2⟩ := u9
  obtain ⟨e9, lv_2⟩ := p9
  dsimp only at e9 lv_2
  subst e9
  refine lv_astore_n (lv' := [(2, .ref (y.2 6 i_2)), (0, .ref (y.2 0 0)), (1, .int (p1))]) hx hb dX1_cut_5 rfl hl (by decide) rfl (fun ls hl => ?_)
  refine lv_aload_n hx hb dX1_cut_6 rfl (lv_at hl 0 rfl) ?_
  refine g6_15 hx hb hts hown hK hR lv_2 q953 dX1_cut_7 ?_
  refine lv_topi (fun x_10 ex_10 => ?_)
  have h := h x_10 ex_10
  refine lv_istore_n (lv' := [(3, .int (x_10)), (2, .ref (y.2 6 i_2)), (0, .ref (y.2 0 0)), (1, .int (p1))]) hx hb dX1_cut_10 rfl hl (by decide) rfl (fun ls hl => ?_)
  refine lv_aload_n hx hb dX1_cut_11 rfl (lv_at hl 2 rfl) ?_
  refine g0_5 hx hb hts hown hK hR l0 q252 dX1_cut_12 ?_
  refine lv_aload_n hx hb dX1_cut_15 rfl (lv_at hl 2 rfl) ?_
  refine g0_4 hx hb hts hown hK hR l0 q251 dX1_cut_16 ?_
  refine lv_iconst (v := (3 : Int32)) hx hb dX1_cut_19 (by decide) ?_
  refine ce_qi (fw := fun u => u) (fy := fun _ => y) (cr_V (n := 2) (As := [.ref (y.2 1 0), .int ((3 : Int32))]) (rest := []) ⟨hx, hb, hml, hown, hts⟩ hK hR (m_X2_pay hW hW.tre hW.wor (by first | omega | assumption) h) q306 q307 q308 q78 q320 rfl rfl hd_X2_pay ⟨Nat.le_of_ble_eq_true rfl, Nat.le_of_ble_eq_true rfl⟩ (rv_ch1 hK hR hW.tre (by omega)) rfl rfl hl.1 rfl (lv_room (Nat.le_of_ble_eq_true rfl)) dX1_cut_20 ⟨(Nat.le_of_ble_eq_true rfl), (Nat.le_of_ble_eq_true rfl)⟩) hR hS (fun r_20 w_20 H locs h hR _ hS => ?_)
  refine lv_pop hx hb dX1_cut_23 rfl ?_
  refine lv_aload_n hx hb dX1_cut_24 rfl (lv_at hl 1 rfl) ?_
  refine lv_aload_n hx hb dX1_cut_25 rfl (lv_at hl 2 rfl) ?_
  refine g0_3 hx hb hts hown hK hR l0 q250 dX1_cut_26 ?_
  refine lv_aload_n hx hb dX1_cut_29 rfl (lv_at hl 2 rfl) ?_
  refine g0_10 hx hb hts hown hK hR l0 q257 dX1_cut_30 ?_
  refine ce_qv (fw := fun u => u) (fy := fun _ => y) (cr_V (n := 2) (As := [.ref (y.2 5 0), .int (gv w_20 0 0 10)]) (rest := []) ⟨hx, hb, hml, hown, hts⟩ hK hR (m_X10_cut hW lv_2 hW.rla h) q997 q998 q999 q92 q1000 rfl rfl hd_X10_cut ⟨Nat.le_of_ble_eq_true rfl, Nat.le_of_ble_eq_true rfl⟩ (rv hK hR lv_2 (ci := 6) rfl rfl) rfl rfl hl.1 rfl (lv_room (Nat.le_of_ble_eq_true rfl)) dX1_cut_33 ⟨(Nat.le_of_ble_eq_true rfl), (Nat.le_of_ble_eq_true rfl)⟩) hR hS (fun w_33 H locs h hR _ hS => ?_)
  refine lv_iload_n hx hb dX1_cut_36 rfl (lv_at hl 0 rfl) ?_
  refine W.widen (k := 1) (n := 6) (Nat.le_of_ble_eq_true rfl) (Nat.le_of_ble_eq_true rfl) ?_
  refine vx_ret ?_; exact W.iret (v := x_10) hx hb hr (fun t ht hW9 => ⟨⟨x_10, w_33, rfl, h, rpt ht hR⟩, hS.F ht⟩) hS.2.2 dX1_cut_37
abbrev rm_X1_bid : Room := { frames := 8, cells := 4, slots := 24, locals := 133 }
def sp_X1_bid (κ : Kx) (y : Ly) (post : Int32 → Wd → Prop) (px : String → Wd → Prop) (w : Wd) (p1 : Int32) (p2 : Int32) (p3 : Int32) : Prop := sp_X1_companyOf κ y (fun i_2 w_2 => sp_X1_lotOf κ y (fun i_9 w_9 => sp_X1_isIn κ y (fun r_19 w_19 => sp_X1_check κ y (fun w_24 => ((gv w_24 11 i_9 7).toNatClampNeg < 4) ∧ (((¬ ((gv w_24 11 i_9 7).toNatClampNeg = 0)) → (sp_X1_state κ y (fun w_63 => (vp_in (p1) 4) ∧ (∀ w_73 : Wd, w_73 = sv w_63 12 i_9 (p1).toNatClampNeg (p3) → sp_X15_highest κ y (fun r_76 w_76 => post (r_76) w_76) w_73 i_9)) px w_24 (0 : Int32))) ∧ (((gv w_24 11 i_9 7).toNatClampNeg = 0) → (((¬ gv w_24 9 i_2 11 = 0) → (sp_X1_state κ y (fun w_63_a => (vp_in (p1) 4) ∧ (∀ w_73_a : Wd, w_73_a = sv w_63_a 12 i_9 (p1).toNatClampNeg (p3) → sp_X15_highest κ y (fun r_76_a w_76_a => post (r_76_a) w_76_a) w_73_a i_9)) px w_24 (0 : Int32))) ∧ ((gv w_24 9 i_2 11 = 0) → (sp_X12_isLandEnough κ y (fun r_49 w_49 => ((r_49 = 0) → (sp_X1_state κ y (fun w_63_b => (vp_in (p1) 4) ∧ (∀ w_73_b : Wd, w_73_b = sv w_63_b 12 i_9 (p1).toNatClampNeg (p3) → sp_X15_highest κ y (fun r_76_b w_76_b => post (r_76_b) w_76_b) w_73_b i_9)) px w_49 (0 : Int32))) ∧ ((¬ (r_49 = 0)) → (sp_X1_state κ y (fun w_63_c => (vp_in (p1) 4) ∧ (∀ w_73_c : Wd, w_73_c = sv w_63_c 12 i_9 (p1).toNatClampNeg (p3) → sp_X15_highest κ y (fun r_76_c w_76_c => post (r_76_c) w_76_c) w_73_c i_9)) px w_49 (1 : Int32)))) w_24 i_2 p3)))))) px w_19 r_19) w_9 p3 (1 : Int32) (9000 : Int32)) px w_2 p2) px w p1
theorem hd_X1_bid : yX1_bid.cls = RX1 ∧ yX1_bid.cls ≠ "java/lang/invoke/MethodHandle" ∧ yX1_bid.cls ≠ "java/lang/invoke/VarHandle" ∧ (parseMethodDescriptor yX1_bid.desc).map (fun d => d.parameters.length) = some 3 := by decide +kernel
set_option maxHeartbeats 4000000 in
theorem m_X1_bid {l : Launch} {κ : Kx} {y : Ly} {X : XR} {post : Int32 → Wd → Prop} {px : String → Wd → Prop} {w : Wd} {p1 : Int32} {p2 : Int32} {p3 : Int32}  (hfl : l.stackTraces = false) (hW : WFc κ y) (l0 : live y 0 0) (h : sp_X1_bid κ y post px w p1 p2 p3) : vx_Met l yX1_bid (ws_ yX1_bid cX1_bid 6 (Option.some Jvm.ClassFile.FieldType.int)) rm_X1_bid (va_Pc [.ref (y.2 0 0), .int (p1), .int (p2), .int (p3)] (RC κ w y X)) (va_Qi post (fun w t => Rp κ w y X [] t.heap) (Af κ)) (XCk κ y X px) 4 24 (Af κ) := by
  unfold sp_X1_bid at h
  refine vx_ofW (cc := cX1_bid) (maxL := 6) (ret := (Option.some Jvm.ClassFile.FieldType.int)) (by decide) rfl ?_
  intro p e s m args below meth c s₁ B hml ht hv
  obtain ⟨rfl, hR, hK⟩ := hv
  have hx := B.exec
  have hb := B.bytes
  have hr := B.returns
  have hts := atoms_spec (ws := ws_ yX1_bid cX1_bid 6 (Option.some Jvm.ClassFile.FieldType.int)) B.pre
  have hts : ∀ w ∈ lw_all, w.before _ s = true := fun w h => hts w (List.mem_cons_of_mem _ h)
  have hown : s.vm.findClass RX1 = some m.cls := findClass_of_methodNamed B.named
  have hlocks := B.notSynchronized
  have hR0 := hR
  have hS : va_S (Af κ) s.heap s.heap [] := va_S.rf
  have hl := lv_entry ([.ref (y.2 0 0), .int (p1), .int (p2), .int (p3)]) (n := 6) (Nat.le_of_ble_eq_true rfl)
  rw [lg_entry_eq]
  generalize (lg_sl ([.ref (y.2 0 0), .int (p1), .int (p2), .int (p3)]) ++ List.replicate (6 - (lg_sl ([.ref (y.2 0 0), .int (p1), .int (p2), .int (p3)])).length) Slot.unset).toArray = ls at hl ⊢
  have hl : lv_has ls 6 [(0, .ref (y.2 0 0)), (1, .int (p1)), (2, .int (p2)), (3, .int (p3))] := hl
  refine lv_aload_n hx hb dX1_bid_0 rfl (lv_at hl 0 rfl) ?_
  refine lv_iload_n hx hb dX1_bid_1 rfl (lv_at hl 1 rfl) ?_
  refine cex_qr (fw := fun u : Nat × Wd => u.2) (fy := fun _ => y) (P := (fun (u : Nat × Wd) ra => ra = y.2 9 u.1 ∧ live y 9 u.1)) (crx_V (n := 1) (As := [.int (p1)]) (rest := []) ⟨hx, hb, hml, hown, hts⟩ hK hR (m_X1_companyOf hfl hW l0 h) q1176 q1178 qs22 q74 q1179 rfl rfl hd_X1_companyOf ⟨Nat.le_of_ble_eq_true rfl, Nat.le_of_ble_eq_true rfl⟩ (rv hK hR l0 (ci := 0) rfl rfl) rfl rfl hl.1 rfl (lv_room (Nat.le_of_ble_eq_true rfl)) dX1_bid_2 ⟨(Nat.le_of_ble_eq_true rfl), (Nat.le_of_ble_eq_true rfl)⟩) hR hS ht hlocks (Nat.le_of_ble_eq_true rfl) (Nat.le_of_ble_eq_true rfl) (fun u9 a_2 H locs h p9 hR _ hS => ?_)
  obtain ⟨i_2, w_2⟩ := u9
  obtain ⟨e9, lv_2⟩ := p9
  dsimp only at e9 lv_2
  subst e9
  refine lv_astore (lv' := [(4, .ref (y.2 9 i_2)), (0, .ref (y.2 0 0)), (1, .int (p1)), (2, .int (p2)), (3, .int (p3))]) hx hb dX1_bid_5 hl (by decide) rfl (fun ls hl => ?_)
  refine lv_aload_n hx hb dX1_bid_7 rfl (lv_at hl 1 rfl) ?_
  refine lv_iload_n hx hb dX1_bid_8 rfl (lv_at hl 3 rfl) ?_
  refine cex_qr (fw := fun u : Nat × Wd => u.2) (fy := fun _ => y) (P := (fun (u : Nat × Wd) ra => ra = y.2 11 u.1 ∧ live y 11 u.1)) (crx_V (n := 1) (As := [.int (p2)]) (rest := []) ⟨hx, hb, hml, hown, hts⟩ hK hR (m_X1_lotOf hfl hW l0 h) q1317 q1319 qs24 q74 q1320 rfl rfl hd_X1_lotOf ⟨Nat.le_of_ble_eq_true rfl, Nat.le_of_ble_eq_true rfl⟩ (rv hK hR l0 (ci := 0) rfl rfl) rfl rfl hl.1 rfl (lv_room (Nat.le_of_ble_eq_true rfl)) dX1_bid_9 ⟨(Nat.le_of_ble_eq_true rfl), (Nat.le_of_ble_eq_true rfl)⟩) hR hS ht hlocks (Nat.le_of_ble_eq_true rfl) (Nat.le_of_ble_eq_true rfl) (fun u9 a_9 H locs h p9 hR _ hS => ?_)
  obtain ⟨i_9, w_9⟩ := u9
  obtain ⟨e9, lv_9⟩ := p9
  dsimp only at e9 lv_9
  subst e9
  refine lv_astore (lv' := [(5, .ref (y.2 11 i_9)), (4, .ref (y.2 9 i_2)), (0, .ref (y.2 0 0)), (1, .int (p1)), (2, .int (p2)), (3, .int (p3))]) hx hb dX1_bid_12 hl (by decide) rfl (fun ls hl => ?_)
  refine lv_iload_n hx hb dX1_bid_14 rfl (lv_at hl 5 rfl) ?_
  refine lv_iconst (v := (1 : Int32)) hx hb dX1_bid_15 (by decide) ?_
  refine lv_sipush (v := (9000 : Int32)) hx hb dX1_bid_16 (by decide) ?_
  refine ce_qi (fw := fun u => u) (fy := fun _ => y) (cr_S (n := 3) (As := [.int (p3), .int ((1 : Int32)), .int ((9000 : Int32))]) (rest := []) ⟨hx, hb, hml, hown, hts⟩ hK hR (m_X1_isIn hW h) q790 q791 q74 q792 rfl rfl hds_X1_isIn ⟨Nat.le_of_ble_eq_true rfl, Nat.le_of_ble_eq_true rfl⟩ rfl rfl hl.1 rfl (lv_room (Nat.le_of_ble_eq_true rfl)) dX1_bid_19 ⟨(Nat.le_of_ble_eq_true rfl), (Nat.le_of_ble_eq_true rfl)⟩) hR hS (fun r_19 w_19 H locs h hR _ hS => ?_)
  refine jr_ldcS (own := "Publicanry") (k := 245) (tx := "amount") (n := 1245) hx hb hown hK (List.mem_of_getElem? (i := 8) rfl) dX1_bid_22 ?_
  refine cex_qv (fw := fun u => u) (fy := fun _ => y) (crx_S (n := 2) (As := [.int (r_19), .ref (kA κ 1245)]) (rest := []) ⟨hx, hb, hml, hown, hts⟩ hK hR (m_X1_check hfl hW h) q794 q795 q74 q796 rfl rfl hds_X1_check ⟨Nat.le_of_ble_eq_true rfl, Nat.le_of_ble_eq_true rfl⟩ rfl rfl hl.1 rfl (lv_room (Nat.le_of_ble_eq_true rfl)) dX1_bid_24 ⟨(Nat.le_of_ble_eq_true rfl), (Nat.le_of_ble_eq_true rfl)⟩) hR hS ht hlocks (Nat.le_of_ble_eq_true rfl) (Nat.le_of_ble_eq_true rfl) (fun w_24 H locs h hR _ hS => ?_)
  refine lv_aload hx hb dX1_bid_27 (lv_at hl 0 rfl) ?_
  refine g11_7 hx hb hts hown hK hR lv_9 q1267 dX1_bid_29 ?_
  refine jr_gets (C := "Publicanry$Stand") (n := "OFFERED") (d := "LPublicanry$Stand;") (j := 10) hx hb hown hK hR hS (List.mem_of_getElem? (i := 2) rfl) q1321 hts dX1_bid_32 ?_
  have o_35 := h.1
  have h := h.2
  refine lv_acmp_ne (rx := some (kA κ (10 + (gv w_24 11 i_9 7).toNatClampNeg))) (ry := some (kA κ (10 + 0))) (tgt := 59) hx hb dX1_bid_35 (by decide) (fun c_35 => ?_) (fun c_35 => ?_)
  · replace c_35 : ¬ ((gv w_24 11 i_9 7).toNatClampNeg = 0) := fun q9 => c_35 (congrArg some (congrArg (fun z => kA κ (10 + z)) q9))
    have h := h.1 c_35
    refine lv_iconst (v := (0 : Int32)) hx hb dX1_bid_59 (by decide) ?_
    refine jr_ldcwS (own := "Publicanry") (k := 292) (tx := "bid") (n := 1292) hx hb hown hK (List.mem_of_getElem? (i := 12) rfl) dX1_bid_60 ?_
    refine cex_qv (fw := fun u => u) (fy := fun _ => y) (crx_S (n := 2) (As := [.int ((0 : Int32)), .ref (kA κ 1292)]) (rest := []) ⟨hx, hb, hml, hown, hts⟩ hK hR (m_X1_state hfl hW h) q813 q814 q74 q815 rfl rfl hds_X1_state ⟨Nat.le_of_ble_eq_true rfl, Nat.le_of_ble_eq_true rfl⟩ rfl rfl hl.1 rfl (lv_room (Nat.le_of_ble_eq_true rfl)) dX1_bid_63 ⟨(Nat.le_of_ble_eq_true rfl), (Nat.le_of_ble_eq_true rfl)⟩) hR hS ht hlocks (Nat.le_of_ble_eq_true rfl) (Nat.le_of_ble_eq_true rfl) (fun w_63 H locs h hR _ hS => ?_)
    refine lv_aload hx hb dX1_bid_66 (lv_at hl 0 rfl) ?_
    refine g11_5 hx hb hts hown hK hR lv_9 q1263 dX1_bid_68 ?_
    refine lv_iload_n hx hb dX1_bid_71 rfl (lv_at hl 3 rfl) ?_
    refine lv_iload_n hx hb dX1_bid_72 rfl (lv_at hl 5 rfl) ?_
    have o_73 := h.1
    have h := h.2
    refine b12 hx hb hK hR hS (hW.bid lv_9) o_73 dX1_bid_73 (fun H locs w_73 ew_73 hR hS => ?_)
    have h := h w_73 ew_73
    refine lv_aload hx hb dX1_bid_74 (lv_at hl 0 rfl) ?_
    refine ce_qi (fw := fun u => u) (fy := fun _ => y) (cr_V (n := 0) (As := []) (rest := []) ⟨hx, hb, hml, hown, hts⟩ hK hR (m_X15_highest hW lv_9 h) q747 q748 q749 q112 q750 rfl rfl hd_X15_highest ⟨Nat.le_of_ble_eq_true rfl, Nat.le_of_ble_eq_true rfl⟩ (rv hK hR lv_9 (ci := 9) rfl rfl) rfl rfl hl.1 rfl (lv_room (Nat.le_of_ble_eq_true rfl)) dX1_bid_76 ⟨(Nat.le_of_ble_eq_true rfl), (Nat.le_of_ble_eq_true rfl)⟩) hR hS (fun r_76 w_76 H locs h hR _ hS => ?_)
    refine W.widen (k := 4) (n := 24) (Nat.le_of_ble_eq_true rfl) (Nat.le_of_ble_eq_true rfl) ?_
    refine vx_ret ?_; exact W.iret (v := r_76) hx hb hr (fun t ht hW9 => ⟨⟨r_76, w_76, rfl, h, rpt ht hR⟩, hS.F ht⟩) hS.2.2 dX1_bid_79
  · replace c_35 : (gv w_24 11 i_9 7).toNatClampNeg = 0 := hK.2.2.2.2.2.2.1 _ _ o_35 (by decide) ((Option.some.inj c_35))
    have h := h.2 c_35
    refine lv_aload hx hb dX1_bid_38 (lv_at hl 1 rfl) ?_
    refine g9_11 hx hb hts hown hK hR lv_2 q1143 dX1_bid_40 ?_
    refine lv_if_ne (tgt := 59) hx hb dX1_bid_43 (by decide) (fun c_43 => ?_) (fun c_43 => ?_)
    · have h := h.1 c_43
      refine lv_iconst (v := (0 : Int32)) hx hb dX1_bid_59 (by decide) ?_
      refine jr_ldcwS (own := "Publicanry") (k := 292) (tx := "bid") (n := 1292) hx hb hown hK (List.mem_of_getElem? (i := 12) rfl) dX1_bid_60 ?_
      refine cex_qv (fw := fun u => u) (fy := fun _ => y) (crx_S (n := 2) (As := [.int ((0 : Int32)), .ref (kA κ 1292)]) (rest := []) ⟨hx, hb, hml, hown, hts⟩ hK hR (m_X1_state hfl hW h) q813 q814 q74 q815 rfl rfl hds_X1_state ⟨Nat.le_of_ble_eq_true rfl, Nat.le_of_ble_eq_true rfl⟩ rfl rfl hl.1 rfl (lv_room (Nat.le_of_ble_eq_true rfl)) dX1_bid_63 ⟨(Nat.le_of_ble_eq_true rfl), (Nat.le_of_ble_eq_true rfl)⟩) hR hS ht hlocks (Nat.le_of_ble_eq_true rfl) (Nat.le_of_ble_eq_true rfl) (fun w_63_a H locs h hR _ hS => ?_)
      refine lv_aload hx hb dX1_bid_66 (lv_at hl 0 rfl) ?_
      refine g11_5 hx hb hts hown hK hR lv_9 q1263 dX1_bid_68 ?_
      refine lv_iload_n hx hb dX1_bid_71 rfl (lv_at hl 3 rfl) ?_
      refine lv_iload_n hx hb dX1_bid_72 rfl (lv_at hl 5 rfl) ?_
      have o_73_a := h.1
      have h := h.2
      refine b12 hx hb hK hR hS (hW.bid lv_9) o_73_a dX1_bid_73 (fun H locs w_73_a ew_73_a hR hS => ?_)
      have h := h w_73_a ew_73_a
      refine lv_aload hx hb dX1_bid_74 (lv_at hl 0 rfl) ?_
      refine ce_qi (fw := fun u => u) (fy := fun _ => y) (cr_V (n := 0) (As := []) (rest := []) ⟨hx, hb, hml, hown, hts⟩ hK hR (m_X15_highest hW lv_9 h) q747 q748 q749 q112 q750 rfl rfl hd_X15_highest ⟨Nat.le_of_ble_eq_true rfl, Nat.le_of_ble_eq_true rfl⟩ (rv hK hR lv_9 (ci := 9) rfl rfl) rfl rfl hl.1 rfl (lv_room (Nat.le_of_ble_eq_true rfl)) dX1_bid_76 ⟨(Nat.le_of_ble_eq_true rfl), (Nat.le_of_ble_eq_true rfl)⟩) hR hS (fun r_76_a w_76_a H locs h hR _ hS => ?_)
      refine W.widen (k := 4) (n := 24) (Nat.le_of_ble_eq_true rfl) (Nat.le_of_ble_eq_true rfl) ?_
      refine vx_ret ?_; exact W.iret (v := r_76_a) hx hb hr (fun t ht hW9 => ⟨⟨r_76_a, w_76_a, rfl, h, rpt ht hR⟩, hS.F ht⟩) hS.2.2 dX1_bid_79
    · have h := h.2 c_43
      refine lv_aload hx hb dX1_bid_46 (lv_at hl 1 rfl) ?_
      refine lv_iload_n hx hb dX1_bid_48 rfl (lv_at hl 5 rfl) ?_
      refine ce_qi (fw := fun u => u) (fy := fun _ => y) (cr_V (n := 1) (As := [.int (p3)]) (rest := []) ⟨hx, hb, hml, hown, hts⟩ hK hR (m_X12_isLandEnough hW lv_2 h) q1322 q1323 q1324 q106 q1325 rfl rfl hd_X12_isLandEnough ⟨Nat.le_of_ble_eq_true rfl, Nat.le_of_ble_eq_true rfl⟩ (rv hK hR lv_2 (ci := 7) rfl rfl) rfl rfl hl.1 rfl (lv_room (Nat.le_of_ble_eq_true rfl)) dX1_bid_49 ⟨(Nat.le_of_ble_eq_true rfl), (Nat.le_of_ble_eq_true rfl)⟩) hR hS (fun r_49 w_49 H locs h hR _ hS => ?_)
      refine lv_if_eq (tgt := 59) hx hb dX1_bid_52 (by decide) (fun c_52 => ?_) (fun c_52 => ?_)
      · have h := h.1 c_52
        refine lv_iconst (v := (0 : Int32)) hx hb dX1_bid_59 (by decide) ?_
        refine jr_ldcwS (own := "Publicanry") (k := 292) (tx := "bid") (n := 1292) hx hb hown hK (List.mem_of_getElem? (i := 12) rfl) dX1_bid_60 ?_
        refine cex_qv (fw := fun u => u) (fy := fun _ => y) (crx_S (n := 2) (As := [.int ((0 : Int32)), .ref (kA κ 1292)]) (rest := []) ⟨hx, hb, hml, hown, hts⟩ hK hR (m_X1_state hfl hW h) q813 q814 q74 q815 rfl rfl hds_X1_state ⟨Nat.le_of_ble_eq_true rfl, Nat.le_of_ble_eq_true rfl⟩ rfl rfl hl.1 rfl (lv_room (Nat.le_of_ble_eq_true rfl)) dX1_bid_63 ⟨(Nat.le_of_ble_eq_true rfl), (Nat.le_of_ble_eq_true rfl)⟩) hR hS ht hlocks (Nat.le_of_ble_eq_true rfl) (Nat.le_of_ble_eq_true rfl) (fun w_63_b H locs h hR _ hS => ?_)
        refine lv_aload hx hb dX1_bid_66 (lv_at hl 0 rfl) ?_
        refine g11_5 hx hb hts hown hK hR lv_9 q1263 dX1_bid_68 ?_
        refine lv_iload_n hx hb dX1_bid_71 rfl (lv_at hl 3 rfl) ?_
        refine lv_iload_n hx hb dX1_bid_72 rfl (lv_at hl 5 rfl) ?_
        have o_73_b := h.1
        have h := h.2
        refine b12 hx hb hK hR hS (hW.bid lv_9) o_73_b dX1_bid_73 (fun H locs w_73_b ew_73_b hR hS => ?_)
        have h := h w_73_b ew_73_b
        refine lv_aload hx hb dX1_bid_74 (lv_at hl 0 rfl) ?_
        refine ce_qi (fw := fun u => u) (fy := fun _ => y) (cr_V (n := 0) (As := []) (rest := []) ⟨hx, hb, hml, hown, hts⟩ hK hR (m_X15_highest hW lv_9 h) q747 q748 q749 q112 q750 rfl rfl hd_X15_highest ⟨Nat.le_of_ble_eq_true rfl, Nat.le_of_ble_eq_true rfl⟩ (rv hK hR lv_9 (ci := 9) rfl rfl) rfl rfl hl.1 rfl (lv_room (Nat.le_of_ble_eq_true rfl)) dX1_bid_76 ⟨(Nat.le_of_ble_eq_true rfl), (Nat.le_of_ble_eq_true rfl)⟩) hR hS (fun r_76_b w_76_b H locs h hR _ hS => ?_)
        refine W.widen (k := 4) (n := 24) (Nat.le_of_ble_eq_true rfl) (Nat.le_of_ble_eq_true rfl) ?_
        refine vx_ret ?_; exact W.iret (v := r_76_b) hx hb hr (fun t ht hW9 => ⟨⟨r_76_b, w_76_b, rfl, h, rpt ht hR⟩, hS.F ht⟩) hS.2.2 dX1_bid_79
      · have h := h.2 c_52
        refine lv_iconst (v := (1 : Int32)) hx hb dX1_bid_55 (by decide) ?_
        refine lv_goto (tgt := 60) hx hb dX1_bid_56 (by decide) ?_
        refine jr_ldcwS (own := "Publicanry") (k := 292) (tx := "bid") (n := 1292) hx hb hown hK (List.mem_of_getElem? (i := 12) rfl) dX1_bid_60 ?_
        refine cex_qv (fw := fun u => u) (fy := fun _ => y) (crx_S (n := 2) (As := [.int ((1 : Int32)), .ref (kA κ 1292)]) (rest := []) ⟨hx, hb, hml, hown, hts⟩ hK hR (m_X1_state hfl hW h) q813 q814 q74 q815 rfl rfl hds_X1_state ⟨Nat.le_of_ble_eq_true rfl, Nat.le_of_ble_eq_true rfl⟩ rfl rfl hl.1 rfl (lv_room (Nat.le_of_ble_eq_true rfl)) dX1_bid_63 ⟨(Nat.le_of_ble_eq_true rfl), (Nat.le_of_ble_eq_true rfl)⟩) hR hS ht hlocks (Nat.le_of_ble_eq_true rfl) (Nat.le_of_ble_eq_true rfl) (fun w_63_c H locs h hR _ hS => ?_)
        refine lv_aload hx hb dX1_bid_66 (lv_at hl 0 rfl) ?_
        refine g11_5 hx hb hts hown hK hR lv_9 q1263 dX1_bid_68 ?_
        refine lv_iload_n hx hb dX1_bid_71 rfl (lv_at hl 3 rfl) ?_
        refine lv_iload_n hx hb dX1_bid_72 rfl (lv_at hl 5 rfl) ?_
        have o_73_c := h.1
        have h := h.2
        refine b12 hx hb hK hR hS (hW.bid lv_9) o_73_c dX1_bid_73 (fun H locs w_73_c ew_73_c hR hS => ?_)
        have h := h w_73_c ew_73_c
        refine lv_aload hx hb dX1_bid_74 (lv_at hl 0 rfl) ?_
        refine ce_qi (fw := fun u => u) (fy := fun _ => y) (cr_V (n := 0) (As := []) (rest := []) ⟨hx, hb, hml, hown, hts⟩ hK hR (m_X15_highest hW lv_9 h) q747 q748 q749 q112 q750 rfl rfl hd_X15_highest ⟨Nat.le_of_ble_eq_true rfl, Nat.le_of_ble_eq_true rfl⟩ (rv hK hR lv_9 (ci := 9) rfl rfl) rfl rfl hl.1 rfl (lv_room (Nat.le_of_ble_eq_true rfl)) dX1_bid_76 ⟨(Nat.le_of_ble_eq_true rfl), (Nat.le_of_ble_eq_true rfl)⟩) hR hS (fun r_76_c w_76_c H locs h hR _ hS => ?_)
        refine W.widen (k := 4) (n := 24) (Nat.le_of_ble_eq_true rfl) (Nat.le_of_ble_eq_true rfl) ?_
        refine vx_ret ?_; exact W.iret (v := r_76_c) hx hb hr (fun t ht hW9 => ⟨⟨r_76_c, w_76_c, rfl, h, rpt ht hR⟩, hS.F ht⟩) hS.2.2 dX1_bid_79
abbrev rm_X1_fallDue : Room := { frames := 3, cells := 1, slots := 4, locals := 68 }
def st_X1_fallDue_163 (κ : Kx) (y : Ly) (post : Wd → Prop) (ex : Wd → Prop) (rec : Wd → Nat → Int32 → Prop) (i2 : Nat) (w : Wd) (c7 : Nat) (z7 : Int32) : Prop := ((¬ (¬ c7 = nL y)) → (ex w )) ∧ (((¬ c7 = nL y)) → (((¬ (y.1 14 c7 = 1)) → (rec w (c7 + 1) (nI c7))) ∧ (((y.1 14 c7 = 1)) → ((y.1 14 c7 = 1 ∧ live y 9 (gv w 14 c7 0).toNatClampNeg) ∧ (((¬ (((gv w 14 c7 0).toNatClampNeg) = i2)) → (rec w (c7 + 1) (nI c7))) ∧ ((((gv w 14 c7 0).toNatClampNeg) = i2) → (sp_X15_end κ y (fun w_210 => rec w_210 (c7 + 1) (nI c7)) w c7)))))))
def sp_X1_fallDue_163 (κ : Kx) (y : Ly) (post : Wd → Prop) (ex : Wd → Prop) (i2 : Nat) : Nat → Wd → Nat → Int32 → Prop
  | 0 => fun _ _ _ => False
  | n + 1 => fun w c7 z7 => st_X1_fallDue_163 κ y post ex (sp_X1_fallDue_163 κ y post ex i2 n) i2 w c7 z7
set_option maxHeartbeats 4000000 in
theorem lp_X1_fallDue_163 {p : Program} {l : Launch} {e : Env} {s : State} {m : MethodId} {args : Array Value} {below : List Frame} {meth : Method} {c : Code} {κ : Kx} {y : Ly} {X : XR} {post : Wd → Prop} {q7 : Nat} {i2 : Nat} (hx : p.tables.exec = Jvm.exec) (hb : c.code = cX1_fallDue) (hr : meth.sig.returnType = (Option.none : Option Jvm.ClassFile.FieldType)) (hml : c.maxLocals = 9) (hown : s.vm.findClass RX1 = some m.cls) (hts : ∀ w ∈ lw_all, w.before args s = true) (hlocks : meth.locks = false) (hK : KK κ s) (hW : WFc κ y) (l2 : live y 9 i2) {C1 S1 : Nat} (hC : C1 ≤ 1) (hSl : S1 ≤ 4) {ex : Wd → Prop}
    (kx : ∀ (w : Wd)  (H : Heap) (locs : List Loc) (ls : Array Slot) (cells slots : Nat) , ex w  → Rp κ w y X [] H → va_S (Af κ) s.heap H locs → lv_has ls 9 [(2, .ref (y.2 9 i2))] → cells ≤ C1 → slots ≤ S1 → W p l e (headSpec (ws_ yX1_fallDue cX1_fallDue 9 (Option.none : Option Jvm.ClassFile.FieldType)) rm_X1_fallDue).room s m args below meth c H locs cells slots (MQ below (va_Qv post (fun w t => Rp κ w y X [] t.heap) (Af κ)) args s 1 4 (Af κ)) (F0 m 216 ls [])) :
    ∀ (f : Nat) (w : Wd) (c7 : Nat) (z7 : Int32) (H : Heap) (locs : List Loc) (ls : Array Slot) (cells slots : Nat)  (hc7 : c7 ≤ nL y), sp_X1_fallDue_163 κ y post ex i2 f w c7 z7 → Rp κ w y X [(q7, itC y 44 0 c7 z7)] H → va_S (Af κ) s.heap H locs → lv_has ls 9 [(2, .ref (y.2 9 i2)), (7, .ref (q7))] → cells + f * 0 ≤ C1 → slots + f * 0 ≤ S1 → W p l e (headSpec (ws_ yX1_fallDue cX1_fallDue 9 (Option.none : Option Jvm.ClassFile.FieldType)) rm_X1_fallDue).room s m args below meth c H locs cells slots (MQ below (va_Qv post (fun w t => Rp κ w y X [] t.heap) (Af κ)) args s 1 4 (Af κ)) (F0 m 163 ls []) := by
  intro f
  induction f with
  | zero =>
    intro w c7 z7 H locs ls cells slots hc7 h
    exact False.elim h
  | succ f ih =>
    intro w c7 z7 H locs ls cells slots hc7 h hR hS hl hc hs
    have h : st_X1_fallDue_163 κ y post ex (sp_X1_fallDue_163 κ y post ex i2 f) i2 w c7 z7 := h
    unfold st_X1_fallDue_163 at h
    refine lv_aload hx hb dX1_fallDue_163 (lv_at hl 1 rfl) ?_
    refine jr_hasNext (t := 0) ⟨hx, hb, hml, hown, hts⟩ hK hR rfl ⟨fun _ _ _ _ _ => rfl, fun _ _ _ _ _ => rfl⟩ hW.lsL (by omega) (Nat.le_trans hW.nL8 (by decide)) q349 ⟨Nat.le_of_ble_eq_true rfl, Nat.le_of_ble_eq_true rfl⟩ hl.1 (Nat.le_of_ble_eq_true rfl) dX1_fallDue_165 ⟨(Nat.le_trans (show cells + 0 ≤ C1 from by omega) hC), (Nat.le_trans (show slots + 0 ≤ S1 from by omega) hSl)⟩ ?_
    refine lv_if_eq (tgt := 216) hx hb dX1_fallDue_170 (by decide) (fun c_170 => ?_) (fun c_170 => ?_)
    · replace c_170 : ¬ (¬ c7 = nL y) := bi_0.mp c_170
      have h := h.1 c_170
      have hR := hR.sub (L' := []) [] rfl rfl
      exact kx w  _ _ _ _ _ h hR hS (lv_sub hl [0] rfl) (by omega) (by omega)
    · replace c_170 : (¬ c7 = nL y) := bi_n0.mp c_170
      have h := h.2 c_170
      refine lv_aload hx hb dX1_fallDue_173 (lv_at hl 1 rfl) ?_
      have hn_175 : c7 < nL y := by omega
      refine jr_next (t := 0) (a := y.2 11 c7) ⟨hx, hb, hml, hown, hts⟩ hK hR hS rfl ⟨fun _ _ _ _ _ => rfl, fun _ _ _ _ _ => rfl⟩ hW.lsL ⟨hW.arL (Nat.lt_of_le_of_lt (Nat.zero_le _) hn_175), (Nat.le_trans hW.nL8 (by decide))⟩ hn_175 (hW.elL hn_175) q359 ⟨Nat.le_of_ble_eq_true rfl, Nat.le_of_ble_eq_true rfl⟩ hl.1 (Nat.le_of_ble_eq_true rfl) dX1_fallDue_175 ⟨(Nat.le_trans (show cells + 0 ≤ C1 from by omega) hC), (Nat.le_trans (show slots + 0 ≤ S1 from by omega) hSl)⟩ (fun H locs hR hS => ?_)
      have hR : Rp κ w y X [(q7, itC y 44 0 (c7 + 1) (nI c7))] H := hR
      refine jr_castS (ci := 9) hx hb hown hK hts (hR.role (hW.lot hn_175)) rfl q497 dX1_fallDue_180 ?_
      refine lv_astore (lv' := [(8, .ref (y.2 11 c7)), (2, .ref (y.2 9 i2)), (7, .ref (q7))]) hx hb dX1_fallDue_183 hl (by decide) rfl (fun ls hl => ?_)
      refine lv_aload hx hb dX1_fallDue_185 (lv_at hl 0 rfl) ?_
      refine g11_8 hx hb hts hown hK hR (hW.lot hn_175) q1269 dX1_fallDue_187 ?_
      refine jr_oisPresent ⟨hx, hb, hml, hown, hts⟩ hK (ho_at hK hR c7) q703 ⟨Nat.le_of_ble_eq_true rfl, Nat.le_of_ble_eq_true rfl⟩ hl.1 (Nat.le_of_ble_eq_true rfl) dX1_fallDue_190 ⟨(Nat.le_trans (show cells + 0 ≤ C1 from by omega) hC), (Nat.le_trans (show slots + 0 ≤ S1 from by omega) hSl)⟩ ?_
      rw [op_pre]
      refine lv_if_eq (tgt := 213) hx hb dX1_fallDue_193 (by decide) (fun c_193 => ?_) (fun c_193 => ?_)
      · replace c_193 : ¬ (y.1 14 c7 = 1) := bi_0.mp c_193
        have h := h.1 c_193
        refine lv_goto (tgt := 163) hx hb dX1_fallDue_213 (by decide) ?_
        exact ih w (c7 + 1) (nI c7) _ _ _ _ _ (by omega) h hR hS (lv_sub hl [1, 2] rfl) (by omega) (by omega)
      · replace c_193 : (y.1 14 c7 = 1) := bi_n0.mp c_193
        have h := h.2 c_193
        refine lv_aload hx hb dX1_fallDue_196 (lv_at hl 0 rfl) ?_
        refine g11_8 hx hb hts hown hK hR (hW.lot hn_175) q1269 dX1_fallDue_198 ?_
        have o_201 := h.1
        have h := h.2
        refine jr_oget (z := y.2 9 ((gv w 14 c7 0).toNatClampNeg)) ⟨hx, hb, hml, hown, hts⟩ hK (ho_at hK hR c7) (if_pos o_201.1) q519 ⟨Nat.le_of_ble_eq_true rfl, Nat.le_of_ble_eq_true rfl⟩ hl.1 (Nat.le_of_ble_eq_true rfl) dX1_fallDue_201 ⟨(Nat.le_trans (show cells + 0 ≤ C1 from by omega) hC), (Nat.le_trans (show slots + 0 ≤ S1 from by omega) hSl)⟩ ?_
        refine lv_aload_n hx hb dX1_fallDue_204 rfl (lv_at hl 1 rfl) ?_
        refine lv_acmp_ne (rx := some (y.2 9 ((gv w 14 c7 0).toNatClampNeg))) (ry := some (y.2 9 i2)) (tgt := 213) hx hb dX1_fallDue_205 (by decide) (fun c_205 => ?_) (fun c_205 => ?_)
        · replace c_205 : ¬ (((gv w 14 c7 0).toNatClampNeg) = i2) := fun q9 => c_205 (congrArg some (congrArg (y.2 9) q9))
          have h := h.1 c_205
          refine lv_goto (tgt := 163) hx hb dX1_fallDue_213 (by decide) ?_
          exact ih w (c7 + 1) (nI c7) _ _ _ _ _ (by omega) h hR hS (lv_sub hl [1, 2] rfl) (by omega) (by omega)
        · replace c_205 : ((gv w 14 c7 0).toNatClampNeg) = i2 := (hR.inj o_201.2 l2 ((Option.some.inj c_205))).2
          have h := h.2 c_205
          refine lv_aload hx hb dX1_fallDue_208 (lv_at hl 0 rfl) ?_
          refine ce_qv (fw := fun u => u) (fy := fun _ => y) (cr_V (n := 0) (As := []) (rest := []) ⟨hx, hb, hml, hown, hts⟩ hK hR (m_X15_end hW (hW.lot hn_175) h) q1391 q1392 q1393 q112 q1394 rfl rfl hd_X15_end ⟨Nat.le_of_ble_eq_true rfl, Nat.le_of_ble_eq_true rfl⟩ (rv hK hR (hW.lot hn_175) (ci := 9) rfl rfl) rfl rfl hl.1 rfl (lv_room (Nat.le_of_ble_eq_true rfl)) dX1_fallDue_210 ⟨(Nat.le_trans (show cells + 0 ≤ C1 from by omega) hC), (Nat.le_trans (show slots + 0 ≤ S1 from by omega) hSl)⟩) hR hS (fun w_210 H locs h hR _ hS => ?_)
          refine lv_goto (tgt := 163) hx hb dX1_fallDue_213 (by decide) ?_
          exact ih w_210 (c7 + 1) (nI c7) _ _ _ _ _ (by omega) h hR hS (lv_sub hl [1, 2] rfl) (by omega) (by omega)
def sp_X1_fallDue (κ : Kx) (y : Ly) (post : Wd → Prop) (w : Wd) (a1 : Nat) : Prop := (y.1 14 a1 = 1 ∧ live y 9 (gv w 14 a1 0).toNatClampNeg) ∧ (sp_X15_installment κ y (fun r_16 w_16 => ∀ w_27 : Wd, w_27 = sv w_16 11 a1 11 ((gv w_16 11 a1 11) + (1 : Int32)) → ∀ x_38 : Int32, x_38 = jmin (gv w_27 11 a1 13) r_16 → ∀ w_48 : Wd, w_48 = sv w_27 11 a1 13 ((gv w_27 11 a1 13) - x_38) → ∀ x_55 : Int32, x_55 = r_16 - x_38 → ∀ x_64 : Int32, x_64 = jmin (gv w_48 9 (((gv w 14 a1 0).toNatClampNeg)) 7) x_55 → ∀ w_74 : Wd, w_74 = sv w_48 9 (((gv w 14 a1 0).toNatClampNeg)) 7 ((gv w_48 9 (((gv w 14 a1 0).toNatClampNeg)) 7) - x_64) → ∀ x_81 : Int32, x_81 = x_55 - x_64 → sp_X2_pay κ y (fun r_91 w_91 => ∀ w_104 : Wd, w_104 = sv w_91 9 (((gv w 14 a1 0).toNatClampNeg)) 10 ((gv w_91 9 (((gv w 14 a1 0).toNatClampNeg)) 10) + r_91) → ((¬ r_91 = x_81) → (∀ x_127 : Int32, x_127 = jmin ((gv w_104 11 a1 9) / (4 : Int32)) (x_81 - r_91) → ∀ w_137 : Wd, w_137 = sv w_104 9 (((gv w 14 a1 0).toNatClampNeg)) 3 ((gv w_104 9 (((gv w 14 a1 0).toNatClampNeg)) 3) - x_127) → sp_X3_pay κ y (fun r_150 w_150 => sp_X1_fallDue_163 κ y post (fun w_163  => ∀ w_218 : Wd, w_218 = sv w_163 9 (((gv w 14 a1 0).toNatClampNeg)) 11 ((1 : Int32)) → post w_218) (((gv w 14 a1 0).toNatClampNeg)) 9 w_150 0 (-1)) w_137 1 x_127)) ∧ ((r_91 = x_81) → (post w_104))) w_74 (((11 + (((gv w 14 a1 0).toNatClampNeg))))) 1 x_81) w a1 (gv w 11 a1 11))
theorem hd_X1_fallDue : yX1_fallDue.cls = RX1 ∧ yX1_fallDue.cls ≠ "java/lang/invoke/MethodHandle" ∧ yX1_fallDue.cls ≠ "java/lang/invoke/VarHandle" ∧ (parseMethodDescriptor yX1_fallDue.desc).map (fun d => d.parameters.length) = some 1 := by decide +kernel
set_option maxHeartbeats 4000000 in
theorem m_X1_fallDue {l : Launch} {κ : Kx} {y : Ly} {X : XR} {post : Wd → Prop} {w : Wd} {a1 : Nat}  (hW : WFc κ y) (l0 : live y 0 0) (l1 : live y 11 a1) (h : sp_X1_fallDue κ y post w a1) : Met l yX1_fallDue (ws_ yX1_fallDue cX1_fallDue 9 (Option.none : Option Jvm.ClassFile.FieldType)) rm_X1_fallDue (va_Pc [.ref (y.2 0 0), .ref (y.2 11 a1)] (RC κ w y X)) (va_Qv post (fun w t => Rp κ w y X [] t.heap) (Af κ)) 1 4 (Af κ) := by
  unfold sp_X1_fallDue at h
  refine Met.ofW (cc := cX1_fallDue) (maxL := 9) (ret := (Option.none : Option Jvm.ClassFile.FieldType)) (by decide) rfl ?_
  intro p e s m args below meth c s₁ B hml hv
  obtain ⟨rfl, hR, hK⟩ := hv
  have hx := B.exec
  have hb := B.bytes
  have hr := B.returns
  have hts := atoms_spec (ws := ws_ yX1_fallDue cX1_fallDue 9 (Option.none : Option Jvm.ClassFile.FieldType)) B.pre
  have hts : ∀ w ∈ lw_all, w.before _ s = true := fun w h => hts w (List.mem_cons_of_mem _ h)
  have hown : s.vm.findClass RX1 = some m.cls := findClass_of_methodNamed B.named
  have hlocks := B.notSynchronized
  have hS : va_S (Af κ) s.heap s.heap [] := va_S.rf
  have hl := lv_entry ([.ref (y.2 0 0), .ref (y.2 11 a1)]) (n := 9) (Nat.le_of_ble_eq_true rfl)
  rw [lg_entry_eq]
  generalize (lg_sl ([.ref (y.2 0 0), .ref (y.2 11 a1)]) ++ List.replicate (9 - (lg_sl ([.ref (y.2 0 0), .ref (y.2 11 a1)])).length) Slot.unset).toArray = ls at hl ⊢
  have hl : lv_has ls 9 [(0, .ref (y.2 0 0)), (1, .ref (y.2 11 a1))] := hl
  refine lv_aload_n hx hb dX1_fallDue_0 rfl (lv_at hl 1 rfl) ?_
  refine g11_8 hx hb hts hown hK hR l1 q1269 dX1_fallDue_1 ?_
  have o_4 := h.1
  have h := h.2
  refine jr_oget (z := y.2 9 ((gv w 14 a1 0).toNatClampNeg)) ⟨hx, hb, hml, hown, hts⟩ hK (ho_at hK hR a1) (if_pos o_4.1) q519 ⟨Nat.le_of_ble_eq_true rfl, Nat.le_of_ble_eq_true rfl⟩ hl.1 (Nat.le_of_ble_eq_true rfl) dX1_fallDue_4 ⟨(Nat.le_of_ble_eq_true rfl), (Nat.le_of_ble_eq_true rfl)⟩ ?_
  refine jr_castS (ci := 7) hx hb hown hK hts (hR.role o_4.2) rfl q371 dX1_fallDue_7 ?_
  refine lv_astore_n (lv' := [(2, .ref (y.2 9 ((gv w 14 a1 0).toNatClampNeg))), (0, .ref (y.2 0 0)), (1, .ref (y.2 11 a1))]) hx hb dX1_fallDue_10 rfl hl (by decide) rfl (fun ls hl => ?_)
  refine lv_aload_n hx hb dX1_fallDue_11 rfl (lv_at hl 2 rfl) ?_
  refine lv_aload_n hx hb dX1_fallDue_12 rfl (lv_at hl 2 rfl) ?_
  refine g11_11 hx hb hts hown hK hR l1 q1274 dX1_fallDue_13 ?_
  refine ce_qi (fw := fun u => u) (fy := fun _ => y) (cr_V (n := 1) (As := [.int (gv w 11 a1 11)]) (rest := []) ⟨hx, hb, hml, hown, hts⟩ hK hR (m_X15_installment hW l1 h) q1387 q1388 q1389 q112 q1390 rfl rfl hd_X15_installment ⟨Nat.le_of_ble_eq_true rfl, Nat.le_of_ble_eq_true rfl⟩ (rv hK hR l1 (ci := 9) rfl rfl) rfl rfl hl.1 rfl (lv_room (Nat.le_of_ble_eq_true rfl)) dX1_fallDue_16 ⟨(Nat.le_of_ble_eq_true rfl), (Nat.le_of_ble_eq_true rfl)⟩) hR hS (fun r_16 w_16 H locs h hR _ hS => ?_)
  refine lv_istore_n (lv' := [(3, .int (r_16)), (2, .ref (y.2 9 ((gv w 14 a1 0).toNatClampNeg))), (0, .ref (y.2 0 0)), (1, .ref (y.2 11 a1))]) hx hb dX1_fallDue_19 rfl hl (by decide) rfl (fun ls hl => ?_)
  refine lv_aload_n hx hb dX1_fallDue_20 rfl (lv_at hl 3 rfl) ?_
  refine lv_dup hx hb dX1_fallDue_21 rfl ?_
  refine g11_11 hx hb hts hown hK hR l1 q1274 dX1_fallDue_22 ?_
  refine lv_iconst (v := (1 : Int32)) hx hb dX1_fallDue_25 (by decide) ?_
  refine lv_iadd hx hb dX1_fallDue_26 ?_
  refine p11_11 hx hb hts hown hK hR hS l1 q1274 dX1_fallDue_27 (fun H locs w_27 ew_27 hR hS => ?_)
  have h := h w_27 ew_27
  refine lv_aload_n hx hb dX1_fallDue_30 rfl (lv_at hl 3 rfl) ?_
  refine g11_13 hx hb hts hown hK hR l1 q1276 dX1_fallDue_31 ?_
  refine lv_iload_n hx hb dX1_fallDue_34 rfl (lv_at hl 0 rfl) ?_
  refine va_mmin hx hb (hml.trans hl.1.symm) hown (hts _ q640) (hts _ q322) (hts _ q95) (hts _ q323) (Nat.le_of_ble_eq_true rfl) (Nat.le_of_ble_eq_true rfl) (Nat.le_of_ble_eq_true rfl) (Nat.le_of_ble_eq_true rfl) dX1_fallDue_35 ?_
  refine lv_topi (fun x_38 ex_38 => ?_)
  have h := h x_38 ex_38
  refine lv_istore (lv' := [(4, .int (x_38)), (3, .int (r_16)), (2, .ref (y.2 9 ((gv w 14 a1 0).toNatClampNeg))), (0, .ref (y.2 0 0)), (1, .ref (y.2 11 a1))]) hx hb dX1_fallDue_38 hl (by decide) rfl (fun ls hl => ?_)
  refine lv_aload_n hx hb dX1_fallDue_40 rfl (lv_at hl 4 rfl) ?_
  refine lv_dup hx hb dX1_fallDue_41 rfl ?_
  refine g11_13 hx hb hts hown hK hR l1 q1276 dX1_fallDue_42 ?_
  refine lv_iload hx hb dX1_fallDue_45 (lv_at hl 0 rfl) ?_
  refine lv_isub hx hb dX1_fallDue_47 ?_
  refine p11_13 hx hb hts hown hK hR hS l1 q1276 dX1_fallDue_48 (fun H locs w_48 ew_48 hR hS => ?_)
  have h := h w_48 ew_48
  refine lv_iload_n hx hb dX1_fallDue_51 rfl (lv_at hl 1 rfl) ?_
  refine lv_iload hx hb dX1_fallDue_52 (lv_at hl 0 rfl) ?_
  refine lv_isub hx hb dX1_fallDue_54 ?_
  refine lv_topi (fun x_55 ex_55 => ?_)
  have h := h x_55 ex_55
  refine lv_istore_n (lv' := [(3, .int (x_55)), (4, .int (x_38)), (2, .ref (y.2 9 ((gv w 14 a1 0).toNatClampNeg))), (0, .ref (y.2 0 0)), (1, .ref (y.2 11 a1))]) hx hb dX1_fallDue_55 rfl hl (by decide) rfl (fun ls hl => ?_)
  refine lv_aload_n hx hb dX1_fallDue_56 rfl (lv_at hl 2 rfl) ?_
  refine g9_7 hx hb hts hown hK hR o_4.2 q1135 dX1_fallDue_57 ?_
  refine lv_iload_n hx hb dX1_fallDue_60 rfl (lv_at hl 0 rfl) ?_
  refine va_mmin hx hb (hml.trans hl.1.symm) hown (hts _ q640) (hts _ q322) (hts _ q95) (hts _ q323) (Nat.le_of_ble_eq_true rfl) (Nat.le_of_ble_eq_true rfl) (Nat.le_of_ble_eq_true rfl) (Nat.le_of_ble_eq_true rfl) dX1_fallDue_61 ?_
  refine lv_topi (fun x_64 ex_64 => ?_)
  have h := h x_64 ex_64
  refine lv_istore (lv' := [(4, .int (x_64)), (3, .int (x_55)), (2, .ref (y.2 9 ((gv w 14 a1 0).toNatClampNeg))), (0, .ref (y.2 0 0)), (1, .ref (y.2 11 a1))]) hx hb dX1_fallDue_64 hl (by decide) rfl (fun ls hl => ?_)
  refine lv_aload_n hx hb dX1_fallDue_66 rfl (lv_at hl 2 rfl) ?_
  refine lv_dup hx hb dX1_fallDue_67 rfl ?_
  refine g9_7 hx hb hts hown hK hR o_4.2 q1135 dX1_fallDue_68 ?_
  refine lv_iload hx hb dX1_fallDue_71 (lv_at hl 0 rfl) ?_
  refine lv_isub hx hb dX1_fallDue_73 ?_
  refine p9_7 hx hb hts hown hK hR hS o_4.2 q1135 dX1_fallDue_74 (fun H locs w_74 ew_74 hR hS => ?_)
  have h := h w_74 ew_74
  refine lv_iload_n hx hb dX1_fallDue_77 rfl (lv_at hl 1 rfl) ?_
  refine lv_iload hx hb dX1_fallDue_78 (lv_at hl 0 rfl) ?_
  refine lv_isub hx hb dX1_fallDue_80 ?_
  refine lv_topi (fun x_81 ex_81 => ?_)
  have h := h x_81 ex_81
  refine lv_istore_n (lv' := [(3, .int (x_81)), (4, .int (x_64)), (2, .ref (y.2 9 ((gv w 14 a1 0).toNatClampNeg))), (0, .ref (y.2 0 0)), (1, .ref (y.2 11 a1))]) hx hb dX1_fallDue_81 rfl hl (by decide) rfl (fun ls hl => ?_)
  refine lv_aload_n hx hb dX1_fallDue_82 rfl (lv_at hl 2 rfl) ?_
  refine g9_1 hx hb hts hown hK hR o_4.2 q1124 dX1_fallDue_83 ?_
  refine lv_aload_n hx hb dX1_fallDue_86 rfl (lv_at hl 3 rfl) ?_
  refine g0_5 hx hb hts hown hK hR l0 q252 dX1_fallDue_87 ?_
  refine lv_iload_n hx hb dX1_fallDue_90 rfl (lv_at hl 0 rfl) ?_
  refine ce_qi (fw := fun u => u) (fy := fun _ => y) (cr_V (n := 2) (As := [.ref (y.2 1 1), .int (x_81)]) (rest := []) ⟨hx, hb, hml, hown, hts⟩ hK hR (m_X2_pay hW (hW.cch o_4.2) hW.tre (by first | omega | assumption) h) q306 q307 q308 q78 q320 rfl rfl hd_X2_pay ⟨Nat.le_of_ble_eq_true rfl, Nat.le_of_ble_eq_true rfl⟩ (rv_ch1 hK hR (hW.cch o_4.2) (by omega)) rfl rfl hl.1 rfl (lv_room (Nat.le_of_ble_eq_true rfl)) dX1_fallDue_91 ⟨(Nat.le_of_ble_eq_true rfl), (Nat.le_of_ble_eq_true rfl)⟩) hR hS (fun r_91 w_91 H locs h hR _ hS => ?_)
  refine lv_istore (lv' := [(5, .int (r_91)), (3, .int (x_81)), (4, .int (x_64)), (2, .ref (y.2 9 ((gv w 14 a1 0).toNatClampNeg))), (0, .ref (y.2 0 0)), (1, .ref (y.2 11 a1))]) hx hb dX1_fallDue_94 hl (by decide) rfl (fun ls hl => ?_)
  refine lv_aload_n hx hb dX1_fallDue_96 rfl (lv_at hl 3 rfl) ?_
  refine lv_dup hx hb dX1_fallDue_97 rfl ?_
  refine g9_10 hx hb hts hown hK hR o_4.2 q1141 dX1_fallDue_98 ?_
  refine lv_iload hx hb dX1_fallDue_101 (lv_at hl 0 rfl) ?_
  refine lv_iadd hx hb dX1_fallDue_103 ?_
  refine p9_10 hx hb hts hown hK hR hS o_4.2 q1141 dX1_fallDue_104 (fun H locs w_104 ew_104 hR hS => ?_)
  have h := h w_104 ew_104
  refine lv_iload hx hb dX1_fallDue_107 (lv_at hl 0 rfl) ?_
  refine lv_iload_n hx hb dX1_fallDue_109 rfl (lv_at hl 1 rfl) ?_
  refine lv_icmp_ne (tgt := 114) hx hb dX1_fallDue_110 (by decide) (fun c_110 => ?_) (fun c_110 => ?_)
  · have h := h.1 c_110
    refine lv_aload_n hx hb dX1_fallDue_114 rfl (lv_at hl 5 rfl) ?_
    refine g11_9 hx hb hts hown hK hR l1 q1271 dX1_fallDue_115 ?_
    refine lv_iconst (v := (4 : Int32)) hx hb dX1_fallDue_118 (by decide) ?_
    refine lv_idiv hx hb dX1_fallDue_119 (by decide) ?_
    refine lv_iload_n hx hb dX1_fallDue_120 rfl (lv_at hl 1 rfl) ?_
    refine lv_iload hx hb dX1_fallDue_121 (lv_at hl 0 rfl) ?_
    refine lv_isub hx hb dX1_fallDue_123 ?_
    refine va_mmin hx hb (hml.trans hl.1.symm) hown (hts _ q640) (hts _ q322) (hts _ q95) (hts _ q323) (Nat.le_of_ble_eq_true rfl) (Nat.le_of_ble_eq_true rfl) (Nat.le_of_ble_eq_true rfl) (Nat.le_of_ble_eq_true rfl) dX1_fallDue_124 ?_
    refine lv_topi (fun x_127 ex_127 => ?_)
    have h := h x_127 ex_127
    refine lv_istore (lv' := [(6, .int (x_127)), (5, .int (r_91)), (3, .int (x_81)), (4, .int (x_64)), (2, .ref (y.2 9 ((gv w 14 a1 0).toNatClampNeg))), (0, .ref (y.2 0 0)), (1, .ref (y.2 11 a1))]) hx hb dX1_fallDue_127 hl (by decide) rfl (fun ls hl => ?_)
    refine lv_aload_n hx hb dX1_fallDue_129 rfl (lv_at hl 4 rfl) ?_
    refine lv_dup hx hb dX1_fallDue_130 rfl ?_
    refine g9_3 hx hb hts hown hK hR o_4.2 q1128 dX1_fallDue_131 ?_
    refine lv_iload hx hb dX1_fallDue_134 (lv_at hl 0 rfl) ?_
    refine lv_isub hx hb dX1_fallDue_136 ?_
    refine p9_3 hx hb hts hown hK hR hS o_4.2 q1128 dX1_fallDue_137 (fun H locs w_137 ew_137 hR hS => ?_)
    have h := h w_137 ew_137
    refine lv_aload_n hx hb dX1_fallDue_140 rfl (lv_at hl 5 rfl) ?_
    refine g0_4 hx hb hts hown hK hR l0 q251 dX1_fallDue_141 ?_
    refine lv_aload_n hx hb dX1_fallDue_144 rfl (lv_at hl 5 rfl) ?_
    refine g0_5 hx hb hts hown hK hR l0 q252 dX1_fallDue_145 ?_
    refine lv_iload hx hb dX1_fallDue_148 (lv_at hl 0 rfl) ?_
    refine ce_qi (fw := fun u => u) (fy := fun _ => y) (cr_O (C := RX3) (owner := "Publicanry$Chest") (Z := yX2_pay) (n := 2) (As := [.ref (y.2 1 1), .int (x_127)]) (rest := []) ⟨hx, hb, hml, hown, hts⟩ hK hR (m_X3_pay hW hW.wor hW.tre h) q306 q309 q307 q310 q311 q79 q312 q320 rfl rfl (by decide +kernel) ⟨Nat.le_of_ble_eq_true rfl, Nat.le_of_ble_eq_true rfl⟩ (rv_ch0 hK hR hW.wor) rfl rfl hl.1 rfl (lv_room (Nat.le_of_ble_eq_true rfl)) dX1_fallDue_150 ⟨(Nat.le_of_ble_eq_true rfl), (Nat.le_of_ble_eq_true rfl)⟩) hR hS (fun r_150 w_150 H locs h hR _ hS => ?_)
    refine lv_pop hx hb dX1_fallDue_153 rfl ?_
    refine lv_aload_n hx hb dX1_fallDue_154 rfl (lv_at hl 5 rfl) ?_
    refine g0_2 hx hb hts hown hK hR l0 q249 dX1_fallDue_155 ?_
    refine jr_iter ⟨hx, hb, hml, hown, hts⟩ hK hR hS ⟨fun _ _ _ _ _ => rfl, fun _ _ _ _ _ => rfl⟩ hW.lsL q325 ⟨Nat.le_of_ble_eq_true rfl, Nat.le_of_ble_eq_true rfl⟩ hl.1 (Nat.le_of_ble_eq_true rfl) dX1_fallDue_158 ⟨(Nat.le_of_ble_eq_true rfl), (Nat.le_of_ble_eq_true rfl)⟩ (fun q_158 H locs hR hS => ?_)
    have hR : Rp κ w_150 y X [(q_158, itC y 44 0 0 (-1))] H := hR
    refine lv_astore (lv' := [(7, .ref (q_158)), (6, .int (x_127)), (5, .int (r_91)), (3, .int (x_81)), (4, .int (x_64)), (2, .ref (y.2 9 ((gv w 14 a1 0).toNatClampNeg))), (0, .ref (y.2 0 0)), (1, .ref (y.2 11 a1))]) hx hb dX1_fallDue_161 hl (by decide) rfl (fun ls hl => ?_)
    refine lp_X1_fallDue_163 (C1 := 1) (S1 := 4) hx hb hr hml hown hts hlocks hK hW o_4.2 (Nat.le_of_ble_eq_true rfl) (Nat.le_of_ble_eq_true rfl) (fun w_163  H locs ls cells9 slots9 h hR hS hl hc9 hs9 => ?_) 9 w_150 0 (-1) _ _ _ _ _ (by omega) h hR hS (lv_sub hl [5, 0] rfl) (by omega) (by omega)
    refine W.widen (k := 1) (n := 4) hc9 hs9 ?_
    refine lv_aload_n hx hb dX1_fallDue_216 rfl (lv_at hl 0 rfl) ?_
    refine lv_iconst (v := (1 : Int32)) hx hb dX1_fallDue_217 (by decide) ?_
    refine p9_11 hx hb hts hown hK hR hS o_4.2 nbo_1 q1143 dX1_fallDue_218 (fun H locs w_218 ew_218 hR hS => ?_)
    have h := h w_218 ew_218
    refine W.widen (k := 1) (n := 4) (Nat.le_of_ble_eq_true rfl) (Nat.le_of_ble_eq_true rfl) ?_
    exact W.vret hx hb hr (fun t ht hW9 => ⟨⟨w_218, rfl, h, rpt ht hR⟩, hS.F ht⟩) hS.2.2 dX1_fallDue_221
  · have h := h.2 c_110
    refine W.widen (k := 1) (n := 4) (Nat.le_of_ble_eq_true rfl) (Nat.le_of_ble_eq_true rfl) ?_
    exact W.vret hx hb hr (fun t ht hW9 => ⟨⟨w_104, rfl, h, rpt ht hR⟩, hS.F ht⟩) hS.2.2 dX1_fallDue_113
abbrev rm_X1_letOn : Room := { frames := 8, cells := 4, slots := 24, locals := 133 }
def sp_X1_letOn (κ : Kx) (y : Ly) (post : Int32 → Wd → Prop) (px : String → Wd → Prop) (w : Wd) (p1 : Int32) (p2 : Int32) (p3 : Int32) : Prop := sp_X1_lotOf κ y (fun i_2 w_2 => sp_X1_villageOf κ y (fun i_9 w_9 => sp_X1_isIn κ y (fun r_18 w_18 => sp_X1_check κ y (fun w_24 => sp_X15_isLeased κ y (fun r_29 w_29 => ((r_29 = 0) → (sp_X1_state κ y (fun w_64 => (vp_in (p2) 8) ∧ (∀ w_74 : Wd, w_74 = sv w_64 13 i_2 (p2).toNatClampNeg (p3) → sp_X15_letOn κ y (fun r_77 w_77 => post (r_77) w_77) w_74 i_2)) px w_29 (0 : Int32))) ∧ ((¬ (r_29 = 0)) → (sp_X1_has κ y (fun r_41 w_41 => ((r_41 = 0) → (sp_X1_state κ y (fun w_64_a => (vp_in (p2) 8) ∧ (∀ w_74_a : Wd, w_74_a = sv w_64_a 13 i_2 (p2).toNatClampNeg (p3) → sp_X15_letOn κ y (fun r_77_a w_77_a => post (r_77_a) w_77_a) w_74_a i_2)) px w_41 (0 : Int32))) ∧ ((¬ (r_41 = 0)) → ((vp_in (p2) 8) ∧ (((¬ gv w_41 13 i_2 (p2).toNatClampNeg = 0) → (sp_X1_state κ y (fun w_64_b => (vp_in (p2) 8) ∧ (∀ w_74_b : Wd, w_74_b = sv w_64_b 13 i_2 (p2).toNatClampNeg (p3) → sp_X15_letOn κ y (fun r_77_b w_77_b => post (r_77_b) w_77_b) w_74_b i_2)) px w_41 (0 : Int32))) ∧ ((gv w_41 13 i_2 (p2).toNatClampNeg = 0) → (sp_X1_state κ y (fun w_64_c => (vp_in (p2) 8) ∧ (∀ w_74_c : Wd, w_74_c = sv w_64_c 13 i_2 (p2).toNatClampNeg (p3) → sp_X15_letOn κ y (fun r_77_c w_77_c => post (r_77_c) w_77_c) w_74_c i_2)) px w_41 (1 : Int32))))))) w_29 (gv w_29 11 i_2 2) p2))) w_24 i_2) px w_18 r_18) w_9 p3 (1 : Int32) (999 : Int32)) px w_2 p2) px w p1
theorem hd_X1_letOn : yX1_letOn.cls = RX1 ∧ yX1_letOn.cls ≠ "java/lang/invoke/MethodHandle" ∧ yX1_letOn.cls ≠ "java/lang/invoke/VarHandle" ∧ (parseMethodDescriptor yX1_letOn.desc).map (fun d => d.parameters.length) = some 3 := by decide +kernel
set_option maxHeartbeats 4000000 in
theorem m_X1_letOn {l : Launch} {κ : Kx} {y : Ly} {X : XR} {post : Int32 → Wd → Prop} {px : String → Wd → Prop} {w : Wd} {p1 : Int32} {p2 : Int32} {p3 : Int32}  (hfl : l.stackTraces = false) (hW : WFc κ y) (l0 : live y 0 0) (h : sp_X1_letOn κ y post px w p1 p2 p3) : vx_Met l yX1_letOn (ws_ yX1_letOn cX1_letOn 5 (Option.some Jvm.ClassFile.FieldType.int)) rm_X1_letOn (va_Pc [.ref (y.2 0 0), .int (p1), .int (p2), .int (p3)] (RC κ w y X)) (va_Qi post (fun w t => Rp κ w y X [] t.heap) (Af κ)) (XCk κ y X px) 4 24 (Af κ) := by
  unfold sp_X1_letOn at h
  refine vx_ofW (cc := cX1_letOn) (maxL := 5) (ret := (Option.some Jvm.ClassFile.FieldType.int)) (by decide) rfl ?_
  intro p e s m args below meth c s₁ B hml ht hv
  obtain ⟨rfl, hR, hK⟩ := hv
  have hx := B.exec
  have hb := B.bytes
  have hr := B.returns
  have hts := atoms_spec (ws := ws_ yX1_letOn cX1_letOn 5 (Option.some Jvm.ClassFile.FieldType.int)) B.pre
  have hts : ∀ w ∈ lw_all, w.before _ s = true := fun w h => hts w (List.mem_cons_of_mem _ h)
  have hown : s.vm.findClass RX1 = some m.cls := findClass_of_methodNamed B.named
  have hlocks := B.notSynchronized
  have hR0 := hR
  have hS : va_S (Af κ) s.heap s.heap [] := va_S.rf
  have hl := lv_entry ([.ref (y.2 0 0), .int (p1), .int (p2), .int (p3)]) (n := 5) (Nat.le_of_ble_eq_true rfl)
  rw [lg_entry_eq]
  generalize (lg_sl ([.ref (y.2 0 0), .int (p1), .int (p2), .int (p3)]) ++ List.replicate (5 - (lg_sl ([.ref (y.2 0 0), .int (p1), .int (p2), .int (p3)])).length) Slot.unset).toArray = ls at hl ⊢
  have hl : lv_has ls 5 [(0, .ref (y.2 0 0)), (1, .int (p1)), (2, .int (p2)), (3, .int (p3))] := hl
  refine lv_aload_n hx hb dX1_letOn_0 rfl (lv_at hl 0 rfl) ?_
  refine lv_iload_n hx hb dX1_letOn_1 rfl (lv_at hl 1 rfl) ?_
  refine cex_qr (fw := fun u : Nat × Wd => u.2) (fy := fun _ => y) (P := (fun (u : Nat × Wd) ra => ra = y.2 11 u.1 ∧ live y 11 u.1)) (crx_V (n := 1) (As := [.int (p1)]) (rest := []) ⟨hx, hb, hml, hown, hts⟩ hK hR (m_X1_lotOf hfl hW l0 h) q1317 q1319 qs24 q74 q1320 rfl rfl hd_X1_lotOf ⟨Nat.le_of_ble_eq_true rfl, Nat.le_of_ble_eq_true rfl⟩ (rv hK hR l0 (ci := 0) rfl rfl) rfl rfl hl.1 rfl (lv_room (Nat.le_of_ble_eq_true rfl)) dX1_letOn_2 ⟨(Nat.le_of_ble_eq_true rfl), (Nat.le_of_ble_eq_true rfl)⟩) hR hS ht hlocks (Nat.le_of_ble_eq_true rfl) (Nat.le_of_ble_eq_true rfl) (fun u9 a_2 H locs h p9 hR _ hS => ?_)
  obtain ⟨i_2, w_2⟩ := u9
  obtain ⟨e9, lv_2⟩ := p9
  dsimp only at e9 lv_2
  subst e9
  refine lv_astore (lv' := [(4, .ref (y.2 11 i_2)), (0, .ref (y.2 0 0)), (1, .int (p1)), (2, .int (p2)), (3, .int (p3))]) hx hb dX1_letOn_5 hl (by decide) rfl (fun ls hl => ?_)
  refine lv_aload_n hx hb dX1_letOn_7 rfl (lv_at hl 1 rfl) ?_
  refine lv_iload_n hx hb dX1_letOn_8 rfl (lv_at hl 3 rfl) ?_
  refine cex_qr (fw := fun u : Nat × Wd => u.2) (fy := fun _ => y) (P := (fun (u : Nat × Wd) ra => ra = y.2 6 u.1 ∧ live y 6 u.1)) (crx_V (n := 1) (As := [.int (p2)]) (rest := []) ⟨hx, hb, hml, hown, hts⟩ hK hR (m_X1_villageOf hfl hW l0 h) q1029 q1031 qs20 q74 q1032 rfl rfl hd_X1_villageOf ⟨Nat.le_of_ble_eq_true rfl, Nat.le_of_ble_eq_true rfl⟩ (rv hK hR l0 (ci := 0) rfl rfl) rfl rfl hl.1 rfl (lv_room (Nat.le_of_ble_eq_true rfl)) dX1_letOn_9 ⟨(Nat.le_of_ble_eq_true rfl), (Nat.le_of_ble_eq_true rfl)⟩) hR hS ht hlocks (Nat.le_of_ble_eq_true rfl) (Nat.le_of_ble_eq_true rfl) (fun u9 a_9 H locs h p9 hR _ hS => ?_)
  obtain ⟨i_9, w_9⟩ := u9
  obtain ⟨e9, lv_9⟩ := p9
  dsimp only at e9 lv_9
  subst e9
  refine lv_pop hx hb dX1_letOn_12 rfl ?_
  refine lv_iload_n hx hb dX1_letOn_13 rfl (lv_at hl 4 rfl) ?_
  refine lv_iconst (v := (1 : Int32)) hx hb dX1_letOn_14 (by decide) ?_
  refine lv_sipush (v := (999 : Int32)) hx hb dX1_letOn_15 (by decide) ?_
  refine ce_qi (fw := fun u => u) (fy := fun _ => y) (cr_S (n := 3) (As := [.int (p3), .int ((1 : Int32)), .int ((999 : Int32))]) (rest := []) ⟨hx, hb, hml, hown, hts⟩ hK hR (m_X1_isIn hW h) q790 q791 q74 q792 rfl rfl hds_X1_isIn ⟨Nat.le_of_ble_eq_true rfl, Nat.le_of_ble_eq_true rfl⟩ rfl rfl hl.1 rfl (lv_room (Nat.le_of_ble_eq_true rfl)) dX1_letOn_18 ⟨(Nat.le_of_ble_eq_true rfl), (Nat.le_of_ble_eq_true rfl)⟩) hR hS (fun r_18 w_18 H locs h hR _ hS => ?_)
  refine jr_ldcwS (own := "Publicanry") (k := 371) (tx := "price") (n := 1371) hx hb hown hK (List.mem_of_getElem? (i := 15) rfl) dX1_letOn_21 ?_
  refine cex_qv (fw := fun u => u) (fy := fun _ => y) (crx_S (n := 2) (As := [.int (r_18), .ref (kA κ 1371)]) (rest := []) ⟨hx, hb, hml, hown, hts⟩ hK hR (m_X1_check hfl hW h) q794 q795 q74 q796 rfl rfl hds_X1_check ⟨Nat.le_of_ble_eq_true rfl, Nat.le_of_ble_eq_true rfl⟩ rfl rfl hl.1 rfl (lv_room (Nat.le_of_ble_eq_true rfl)) dX1_letOn_24 ⟨(Nat.le_of_ble_eq_true rfl), (Nat.le_of_ble_eq_true rfl)⟩) hR hS ht hlocks (Nat.le_of_ble_eq_true rfl) (Nat.le_of_ble_eq_true rfl) (fun w_24 H locs h hR _ hS => ?_)
  refine lv_aload hx hb dX1_letOn_27 (lv_at hl 0 rfl) ?_
  refine ce_qi (fw := fun u => u) (fy := fun _ => y) (cr_V (n := 0) (As := []) (rest := []) ⟨hx, hb, hml, hown, hts⟩ hK hR (m_X15_isLeased hW lv_2 h) q515 q516 q517 q112 q518 rfl rfl hd_X15_isLeased ⟨Nat.le_of_ble_eq_true rfl, Nat.le_of_ble_eq_true rfl⟩ (rv hK hR lv_2 (ci := 9) rfl rfl) rfl rfl hl.1 rfl (lv_room (Nat.le_of_ble_eq_true rfl)) dX1_letOn_29 ⟨(Nat.le_of_ble_eq_true rfl), (Nat.le_of_ble_eq_true rfl)⟩) hR hS (fun r_29 w_29 H locs h hR _ hS => ?_)
  refine lv_if_eq (tgt := 61) hx hb dX1_letOn_32 (by decide) (fun c_32 => ?_) (fun c_32 => ?_)
  · have h := h.1 c_32
    refine lv_iconst (v := (0 : Int32)) hx hb dX1_letOn_61 (by decide) ?_
    refine jr_ldcS (own := "Publicanry") (k := 98) (tx := "village") (n := 1098) hx hb hown hK (List.mem_of_getElem? (i := 0) rfl) dX1_letOn_62 ?_
    refine cex_qv (fw := fun u => u) (fy := fun _ => y) (crx_S (n := 2) (As := [.int ((0 : Int32)), .ref (kA κ 1098)]) (rest := []) ⟨hx, hb, hml, hown, hts⟩ hK hR (m_X1_state hfl hW h) q813 q814 q74 q815 rfl rfl hds_X1_state ⟨Nat.le_of_ble_eq_true rfl, Nat.le_of_ble_eq_true rfl⟩ rfl rfl hl.1 rfl (lv_room (Nat.le_of_ble_eq_true rfl)) dX1_letOn_64 ⟨(Nat.le_of_ble_eq_true rfl), (Nat.le_of_ble_eq_true rfl)⟩) hR hS ht hlocks (Nat.le_of_ble_eq_true rfl) (Nat.le_of_ble_eq_true rfl) (fun w_64 H locs h hR _ hS => ?_)
    refine lv_aload hx hb dX1_letOn_67 (lv_at hl 0 rfl) ?_
    refine g11_6 hx hb hts hown hK hR lv_2 q1265 dX1_letOn_69 ?_
    refine lv_iload_n hx hb dX1_letOn_72 rfl (lv_at hl 3 rfl) ?_
    refine lv_iload_n hx hb dX1_letOn_73 rfl (lv_at hl 4 rfl) ?_
    have o_74 := h.1
    have h := h.2
    refine b13 hx hb hK hR hS (hW.age lv_2) o_74 dX1_letOn_74 (fun H locs w_74 ew_74 hR hS => ?_)
    have h := h w_74 ew_74
    refine lv_aload hx hb dX1_letOn_75 (lv_at hl 0 rfl) ?_
    refine ce_qi (fw := fun u => u) (fy := fun _ => y) (cr_V (n := 0) (As := []) (rest := []) ⟨hx, hb, hml, hown, hts⟩ hK hR (m_X15_letOn hW lv_2 h) q752 q753 q754 q112 q755 rfl rfl hd_X15_letOn ⟨Nat.le_of_ble_eq_true rfl, Nat.le_of_ble_eq_true rfl⟩ (rv hK hR lv_2 (ci := 9) rfl rfl) rfl rfl hl.1 rfl (lv_room (Nat.le_of_ble_eq_true rfl)) dX1_letOn_77 ⟨(Nat.le_of_ble_eq_true rfl), (Nat.le_of_ble_eq_true rfl)⟩) hR hS (fun r_77 w_77 H locs h hR _ hS => ?_)
    refine W.widen (k := 4) (n := 24) (Nat.le_of_ble_eq_true rfl) (Nat.le_of_ble_eq_true rfl) ?_
    refine vx_ret ?_; exact W.iret (v := r_77) hx hb hr (fun t ht hW9 => ⟨⟨r_77, w_77, rfl, h, rpt ht hR⟩, hS.F ht⟩) hS.2.2 dX1_letOn_80
  · have h := h.2 c_32
    refine lv_aload hx hb dX1_letOn_35 (lv_at hl 0 rfl) ?_
    refine g11_2 hx hb hts hown hK hR lv_2 q1257 dX1_letOn_37 ?_
    refine lv_iload_n hx hb dX1_letOn_40 rfl (lv_at hl 3 rfl) ?_
    refine ce_qi (fw := fun u => u) (fy := fun _ => y) (cr_S (n := 2) (As := [.int (gv w_29 11 i_2 2), .int (p2)]) (rest := []) ⟨hx, hb, hml, hown, hts⟩ hK hR (m_X1_has hW h) q614 q615 q74 q616 rfl rfl hds_X1_has ⟨Nat.le_of_ble_eq_true rfl, Nat.le_of_ble_eq_true rfl⟩ rfl rfl hl.1 rfl (lv_room (Nat.le_of_ble_eq_true rfl)) dX1_letOn_41 ⟨(Nat.le_of_ble_eq_true rfl), (Nat.le_of_ble_eq_true rfl)⟩) hR hS (fun r_41 w_41 H locs h hR _ hS => ?_)
    refine lv_if_eq (tgt := 61) hx hb dX1_letOn_44 (by decide) (fun c_44 => ?_) (fun c_44 => ?_)
    · have h := h.1 c_44
      refine lv_iconst (v := (0 : Int32)) hx hb dX1_letOn_61 (by decide) ?_
      refine jr_ldcS (own := "Publicanry") (k := 98) (tx := "village") (n := 1098) hx hb hown hK (List.mem_of_getElem? (i := 0) rfl) dX1_letOn_62 ?_
      refine cex_qv (fw := fun u => u) (fy := fun _ => y) (crx_S (n := 2) (As := [.int ((0 : Int32)), .ref (kA κ 1098)]) (rest := []) ⟨hx, hb, hml, hown, hts⟩ hK hR (m_X1_state hfl hW h) q813 q814 q74 q815 rfl rfl hds_X1_state ⟨Nat.le_of_ble_eq_true rfl, Nat.le_of_ble_eq_true rfl⟩ rfl rfl hl.1 rfl (lv_room (Nat.le_of_ble_eq_true rfl)) dX1_letOn_64 ⟨(Nat.le_of_ble_eq_true rfl), (Nat.le_of_ble_eq_true rfl)⟩) hR hS ht hlocks (Nat.le_of_ble_eq_true rfl) (Nat.le_of_ble_eq_true rfl) (fun w_64_a H locs h hR _ hS => ?_)
      refine lv_aload hx hb dX1_letOn_67 (lv_at hl 0 rfl) ?_
      refine g11_6 hx hb hts hown hK hR lv_2 q1265 dX1_letOn_69 ?_
      refine lv_iload_n hx hb dX1_letOn_72 rfl (lv_at hl 3 rfl) ?_
      refine lv_iload_n hx hb dX1_letOn_73 rfl (lv_at hl 4 rfl) ?_
      have o_74_a := h.1
      have h := h.2
      refine b13 hx hb hK hR hS (hW.age lv_2) o_74_a dX1_letOn_74 (fun H locs w_74_a ew_74_a hR hS => ?_)
      have h := h w_74_a ew_74_a
      refine lv_aload hx hb dX1_letOn_75 (lv_at hl 0 rfl) ?_
      refine ce_qi (fw := fun u => u) (fy := fun _ => y) (cr_V (n := 0) (As := []) (rest := []) ⟨hx, hb, hml, hown, hts⟩ hK hR (m_X15_letOn hW lv_2 h) q752 q753 q754 q112 q755 rfl rfl hd_X15_letOn ⟨Nat.le_of_ble_eq_true rfl, Nat.le_of_ble_eq_true rfl⟩ (rv hK hR lv_2 (ci := 9) rfl rfl) rfl rfl hl.1 rfl (lv_room (Nat.le_of_ble_eq_true rfl)) dX1_letOn_77 ⟨(Nat.le_of_ble_eq_true rfl), (Nat.le_of_ble_eq_true rfl)⟩) hR hS (fun r_77_a w_77_a H locs h hR _ hS => ?_)
      refine W.widen (k := 4) (n := 24) (Nat.le_of_ble_eq_true rfl) (Nat.le_of_ble_eq_true rfl) ?_
      refine vx_ret ?_; exact W.iret (v := r_77_a) hx hb hr (fun t ht hW9 => ⟨⟨r_77_a, w_77_a, rfl, h, rpt ht hR⟩, hS.F ht⟩) hS.2.2 dX1_letOn_80
    · have h := h.2 c_44
      refine lv_aload hx hb dX1_letOn_47 (lv_at hl 0 rfl) ?_
      refine g11_6 hx hb hts hown hK hR lv_2 q1265 dX1_letOn_49 ?_
      refine lv_iload_n hx hb dX1_letOn_52 rfl (lv_at hl 3 rfl) ?_
      have o_53 := h.1
      have h := h.2
      refine a13 hx hb hK hR (hW.age lv_2) o_53 dX1_letOn_53 ?_
      refine lv_if_ne (tgt := 61) hx hb dX1_letOn_54 (by decide) (fun c_54 => ?_) (fun c_54 => ?_)
      · have h := h.1 c_54
        refine lv_iconst (v := (0 : Int32)) hx hb dX1_letOn_61 (by decide) ?_
        refine jr_ldcS (own := "Publicanry") (k := 98) (tx := "village") (n := 1098) hx hb hown hK (List.mem_of_getElem? (i := 0) rfl) dX1_letOn_62 ?_
        refine cex_qv (fw := fun u => u) (fy := fun _ => y) (crx_S (n := 2) (As := [.int ((0 : Int32)), .ref (kA κ 1098)]) (rest := []) ⟨hx, hb, hml, hown, hts⟩ hK hR (m_X1_state hfl hW h) q813 q814 q74 q815 rfl rfl hds_X1_state ⟨Nat.le_of_ble_eq_true rfl, Nat.le_of_ble_eq_true rfl⟩ rfl rfl hl.1 rfl (lv_room (Nat.le_of_ble_eq_true rfl)) dX1_letOn_64 ⟨(Nat.le_of_ble_eq_true rfl), (Nat.le_of_ble_eq_true rfl)⟩) hR hS ht hlocks (Nat.le_of_ble_eq_true rfl) (Nat.le_of_ble_eq_true rfl) (fun w_64_b H locs h hR _ hS => ?_)
        refine lv_aload hx hb dX1_letOn_67 (lv_at hl 0 rfl) ?_
        refine g11_6 hx hb hts hown hK hR lv_2 q1265 dX1_letOn_69 ?_
        refine lv_iload_n hx hb dX1_letOn_72 rfl (lv_at hl 3 rfl) ?_
        refine lv_iload_n hx hb dX1_letOn_73 rfl (lv_at hl 4 rfl) ?_
        have o_74_b := h.1
        have h := h.2
        refine b13 hx hb hK hR hS (hW.age lv_2) o_74_b dX1_letOn_74 (fun H locs w_74_b ew_74_b hR hS => ?_)
        have h := h w_74_b ew_74_b
        refine lv_aload hx hb dX1_letOn_75 (lv_at hl 0 rfl) ?_
        refine ce_qi (fw := fun u => u) (fy := fun _ => y) (cr_V (n := 0) (As := []) (rest := []) ⟨hx, hb, hml, hown, hts⟩ hK hR (m_X15_letOn hW lv_2 h) q752 q753 q754 q112 q755 rfl rfl hd_X15_letOn ⟨Nat.le_of_ble_eq_true rfl, Nat.le_of_ble_eq_true rfl⟩ (rv hK hR lv_2 (ci := 9) rfl rfl) rfl rfl hl.1 rfl (lv_room (Nat.le_of_ble_eq_true rfl)) dX1_letOn_77 ⟨(Nat.le_of_ble_eq_true rfl), (Nat.le_of_ble_eq_true rfl)⟩) hR hS (fun r_77_b w_77_b H locs h hR _ hS => ?_)
        refine W.widen (k := 4) (n := 24) (Nat.le_of_ble_eq_true rfl) (Nat.le_of_ble_eq_true rfl) ?_
        refine vx_ret ?_; exact W.iret (v := r_77_b) hx hb hr (fun t ht hW9 => ⟨⟨r_77_b, w_77_b, rfl, h, rpt ht hR⟩, hS.F ht⟩) hS.2.2 dX1_letOn_80
      · have h := h.2 c_54
        refine lv_iconst (v := (1 : Int32)) hx hb dX1_letOn_57 (by decide) ?_
        refine lv_goto (tgt := 62) hx hb dX1_letOn_58 (by decide) ?_
        refine jr_ldcS (own := "Publicanry") (k := 98) (tx := "village") (n := 1098) hx hb hown hK (List.mem_of_getElem? (i := 0) rfl) dX1_letOn_62 ?_
        refine cex_qv (fw := fun u => u) (fy := fun _ => y) (crx_S (n := 2) (As := [.int ((1 : Int32)), .ref (kA κ 1098)]) (rest := []) ⟨hx, hb, hml, hown, hts⟩ hK hR (m_X1_state hfl hW h) q813 q814 q74 q815 rfl rfl hds_X1_state ⟨Nat.le_of_ble_eq_true rfl, Nat.le_of_ble_eq_true rfl⟩ rfl rfl hl.1 rfl (lv_room (Nat.le_of_ble_eq_true rfl)) dX1_letOn_64 ⟨(Nat.le_of_ble_eq_true rfl), (Nat.le_of_ble_eq_true rfl)⟩) hR hS ht hlocks (Nat.le_of_ble_eq_true rfl) (Nat.le_of_ble_eq_true rfl) (fun w_64_c H locs h hR _ hS => ?_)
        refine lv_aload hx hb dX1_letOn_67 (lv_at hl 0 rfl) ?_
        refine g11_6 hx hb hts hown hK hR lv_2 q1265 dX1_letOn_69 ?_
        refine lv_iload_n hx hb dX1_letOn_72 rfl (lv_at hl 3 rfl) ?_
        refine lv_iload_n hx hb dX1_letOn_73 rfl (lv_at hl 4 rfl) ?_
        have o_74_c := h.1
        have h := h.2
        refine b13 hx hb hK hR hS (hW.age lv_2) o_74_c dX1_letOn_74 (fun H locs w_74_c ew_74_c hR hS => ?_)
        have h := h w_74_c ew_74_c
        refine lv_aload hx hb dX1_letOn_75 (lv_at hl 0 rfl) ?_
        refine ce_qi (fw := fun u => u) (fy := fun _ => y) (cr_V (n := 0) (As := []) (rest := []) ⟨hx, hb, hml, hown, hts⟩ hK hR (m_X15_letOn hW lv_2 h) q752 q753 q754 q112 q755 rfl rfl hd_X15_letOn ⟨Nat.le_of_ble_eq_true rfl, Nat.le_of_ble_eq_true rfl⟩ (rv hK hR lv_2 (ci := 9) rfl rfl) rfl rfl hl.1 rfl (lv_room (Nat.le_of_ble_eq_true rfl)) dX1_letOn_77 ⟨(Nat.le_of_ble_eq_true rfl), (Nat.le_of_ble_eq_true rfl)⟩) hR hS (fun r_77_c w_77_c H locs h hR _ hS => ?_)
        refine W.widen (k := 4) (n := 24) (Nat.le_of_ble_eq_true rfl) (Nat.le_of_ble_eq_true rfl) ?_
        refine vx_ret ?_; exact W.iret (v := r_77_c) hx hb hr (fun t ht hW9 => ⟨⟨r_77_c, w_77_c, rfl, h, rpt ht hR⟩, hS.F ht⟩) hS.2.2 dX1_letOn_80
abbrev rm_X1_deliver : Room := { frames := 8, cells := 3, slots := 18, locals := 133 }
def sp_X1_deliver (κ : Kx) (y : Ly) (post : Int32 → Wd → Prop) (px : String → Wd → Prop) (w : Wd) (p1 : Int32) (p2 : Int32) : Prop := sp_X1_companyOf κ y (fun i_2 w_2 => sp_X1_isIn κ y (fun r_11 w_11 => sp_X1_check κ y (fun w_17 => sp_X2_hasAll κ y (fun r_27 w_27 => sp_X1_state κ y (fun w_32 => sp_X2_pay κ y (fun r_46 w_46 => ∀ w_59 : Wd, w_59 = sv w_46 9 i_2 7 ((gv w_46 9 i_2 7) + ((3 : Int32) * p2)) → post (gv w_59 9 i_2 7) w_59) w_32 (((11 + i_2))) 0 ((2 : Int32) * p2)) px w_27 r_27) w_17 (((11 + i_2))) ((2 : Int32) * p2)) px w_11 r_11) w_2 p2 (1 : Int32) (500 : Int32)) px w p1
theorem hd_X1_deliver : yX1_deliver.cls = RX1 ∧ yX1_deliver.cls ≠ "java/lang/invoke/MethodHandle" ∧ yX1_deliver.cls ≠ "java/lang/invoke/VarHandle" ∧ (parseMethodDescriptor yX1_deliver.desc).map (fun d => d.parameters.length) = some 2 := by decide +kernel
set_option maxHeartbeats 4000000 in
theorem m_X1_deliver {l : Launch} {κ : Kx} {y : Ly} {X : XR} {post : Int32 → Wd → Prop} {px : String → Wd → Prop} {w : Wd} {p1 : Int32} {p2 : Int32}  (hfl : l.stackTraces = false) (hW : WFc κ y) (l0 : live y 0 0) (h : sp_X1_deliver κ y post px w p1 p2) : vx_Met l yX1_deliver (ws_ yX1_deliver cX1_deliver 4 (Option.some Jvm.ClassFile.FieldType.int)) rm_X1_deliver (va_Pc [.ref (y.2 0 0), .int (p1), .int (p2)] (RC κ w y X)) (va_Qi post (fun w t => Rp κ w y X [] t.heap) (Af κ)) (XCk κ y X px) 3 18 (Af κ) := by
  unfold sp_X1_deliver at h
  refine vx_ofW (cc := cX1_deliver) (maxL := 4) (ret := (Option.some Jvm.ClassFile.FieldType.int)) (by decide) rfl ?_
  intro p e s m args below meth c s₁ B hml ht hv
  obtain ⟨rfl, hR, hK⟩ := hv
  have hx := B.exec
  have hb := B.bytes
  have hr := B.returns
  have hts := atoms_spec (ws := ws_ yX1_deliver cX1_deliver 4 (Option.some Jvm.ClassFile.FieldType.int)) B.pre
  have hts : ∀ w ∈ lw_all, w.before _ s = true := fun w h => hts w (List.mem_cons_of_mem _ h)
  have hown : s.vm.findClass RX1 = some m.cls := findClass_of_methodNamed B.named
  have hlocks := B.notSynchronized
  have hR0 := hR
  have hS : va_S (Af κ) s.heap s.heap [] := va_S.rf
  have hl := lv_entry ([.ref (y.2 0 0), .int (p1), .int (p2)]) (n := 4) (Nat.le_of_ble_eq_true rfl)
  rw [lg_entry_eq]
  generalize (lg_sl ([.ref (y.2 0 0), .int (p1), .int (p2)]) ++ List.replicate (4 - (lg_sl ([.ref (y.2 0 0), .int (p1), .int (p2)])).length) Slot.unset).toArray = ls at hl ⊢
  have hl : lv_has ls 4 [(0, .ref (y.2 0 0)), (1, .int (p1)), (2, .int (p2))] := hl
  refine lv_aload_n hx hb dX1_deliver_0 rfl (lv_at hl 0 rfl) ?_
  refine lv_iload_n hx hb dX1_deliver_1 rfl (lv_at hl 1 rfl) ?_
  refine cex_qr (fw := fun u : Nat × Wd => u.2) (fy := fun _ => y) (P := (fun (u : Nat × Wd) ra => ra = y.2 9 u.1 ∧ live y 9 u.1)) (crx_V (n := 1) (As := [.int (p1)]) (rest := []) ⟨hx, hb, hml, hown, hts⟩ hK hR (m_X1_companyOf hfl hW l0 h) q1176 q1178 qs22 q74 q1179 rfl rfl hd_X1_companyOf ⟨Nat.le_of_ble_eq_true rfl, Nat.le_of_ble_eq_true rfl⟩ (rv hK hR l0 (ci := 0) rfl rfl) rfl rfl hl.1 rfl (lv_room (Nat.le_of_ble_eq_true rfl)) dX1_deliver_2 ⟨(Nat.le_of_ble_eq_true rfl), (Nat.le_of_ble_eq_true rfl)⟩) hR hS ht hlocks (Nat.le_of_ble_eq_true rfl) (Nat.le_of_ble_eq_true rfl) (fun u9 a_2 H locs h p9 hR _ hS => ?_)
  obtain ⟨i_2, w_2⟩ := u9
  obtain ⟨e9, lv_2⟩ := p9
  dsimp only at e9 lv_2
  subst e9
  refine lv_astore_n (lv' := [(3, .ref (y.2 9 i_2)), (0, .ref (y.2 0 0)), (1, .int (p1)), (2, .int (p2))]) hx hb dX1_deliver_5 rfl hl (by decide) rfl (fun ls hl => ?_)
  refine lv_iload_n hx hb dX1_deliver_6 rfl (lv_at hl 3 rfl) ?_
  refine lv_iconst (v := (1 : Int32)) hx hb dX1_deliver_7 (by decide) ?_
  refine lv_sipush (v := (500 : Int32)) hx hb dX1_deliver_8 (by decide) ?_
  refine ce_qi (fw := fun u => u) (fy := fun _ => y) (cr_S (n := 3) (As := [.int (p2), .int ((1 : Int32)), .int ((500 : Int32))]) (rest := []) ⟨hx, hb, hml, hown, hts⟩ hK hR (m_X1_isIn hW h) q790 q791 q74 q792 rfl rfl hds_X1_isIn ⟨Nat.le_of_ble_eq_true rfl, Nat.le_of_ble_eq_true rfl⟩ rfl rfl hl.1 rfl (lv_room (Nat.le_of_ble_eq_true rfl)) dX1_deliver_11 ⟨(Nat.le_of_ble_eq_true rfl), (Nat.le_of_ble_eq_true rfl)⟩) hR hS (fun r_11 w_11 H locs h hR _ hS => ?_)
  refine jr_ldcwS (own := "Publicanry") (k := 383) (tx := "grain") (n := 1383) hx hb hown hK (List.mem_of_getElem? (i := 16) rfl) dX1_deliver_14 ?_
  refine cex_qv (fw := fun u => u) (fy := fun _ => y) (crx_S (n := 2) (As := [.int (r_11), .ref (kA κ 1383)]) (rest := []) ⟨hx, hb, hml, hown, hts⟩ hK hR (m_X1_check hfl hW h) q794 q795 q74 q796 rfl rfl hds_X1_check ⟨Nat.le_of_ble_eq_true rfl, Nat.le_of_ble_eq_true rfl⟩ rfl rfl hl.1 rfl (lv_room (Nat.le_of_ble_eq_true rfl)) dX1_deliver_17 ⟨(Nat.le_of_ble_eq_true rfl), (Nat.le_of_ble_eq_true rfl)⟩) hR hS ht hlocks (Nat.le_of_ble_eq_true rfl) (Nat.le_of_ble_eq_true rfl) (fun w_17 H locs h hR _ hS => ?_)
  refine lv_aload_n hx hb dX1_deliver_20 rfl (lv_at hl 0 rfl) ?_
  refine g9_1 hx hb hts hown hK hR lv_2 q1124 dX1_deliver_21 ?_
  refine lv_iconst (v := (2 : Int32)) hx hb dX1_deliver_24 (by decide) ?_
  refine lv_iload_n hx hb dX1_deliver_25 rfl (lv_at hl 3 rfl) ?_
  refine lv_imul hx hb dX1_deliver_26 ?_
  refine ce_qi (fw := fun u => u) (fy := fun _ => y) (cr_V (n := 1) (As := [.int ((2 : Int32) * p2)]) (rest := []) ⟨hx, hb, hml, hown, hts⟩ hK hR (m_X2_hasAll hW (hW.cch lv_2) h) q1208 q1209 q1210 q78 q1215 rfl rfl hd_X2_hasAll ⟨Nat.le_of_ble_eq_true rfl, Nat.le_of_ble_eq_true rfl⟩ (rv_ch1 hK hR (hW.cch lv_2) (by omega)) rfl rfl hl.1 rfl (lv_room (Nat.le_of_ble_eq_true rfl)) dX1_deliver_27 ⟨(Nat.le_of_ble_eq_true rfl), (Nat.le_of_ble_eq_true rfl)⟩) hR hS (fun r_27 w_27 H locs h hR _ hS => ?_)
  refine jr_ldcS (own := "Publicanry") (k := 253) (tx := "chest") (n := 1253) hx hb hown hK (List.mem_of_getElem? (i := 9) rfl) dX1_deliver_30 ?_
  refine cex_qv (fw := fun u => u) (fy := fun _ => y) (crx_S (n := 2) (As := [.int (r_27), .ref (kA κ 1253)]) (rest := []) ⟨hx, hb, hml, hown, hts⟩ hK hR (m_X1_state hfl hW h) q813 q814 q74 q815 rfl rfl hds_X1_state ⟨Nat.le_of_ble_eq_true rfl, Nat.le_of_ble_eq_true rfl⟩ rfl rfl hl.1 rfl (lv_room (Nat.le_of_ble_eq_true rfl)) dX1_deliver_32 ⟨(Nat.le_of_ble_eq_true rfl), (Nat.le_of_ble_eq_true rfl)⟩) hR hS ht hlocks (Nat.le_of_ble_eq_true rfl) (Nat.le_of_ble_eq_true rfl) (fun w_32 H locs h hR _ hS => ?_)
  refine lv_aload_n hx hb dX1_deliver_35 rfl (lv_at hl 0 rfl) ?_
  refine g9_1 hx hb hts hown hK hR lv_2 q1124 dX1_deliver_36 ?_
  refine lv_aload_n hx hb dX1_deliver_39 rfl (lv_at hl 1 rfl) ?_
  refine g0_4 hx hb hts hown hK hR l0 q251 dX1_deliver_40 ?_
  refine lv_iconst (v := (2 : Int32)) hx hb dX1_deliver_43 (by decide) ?_
  refine lv_iload_n hx hb dX1_deliver_44 rfl (lv_at hl 3 rfl) ?_
  refine lv_imul hx hb dX1_deliver_45 ?_
  refine ce_qi (fw := fun u => u) (fy := fun _ => y) (cr_V (n := 2) (As := [.ref (y.2 1 0), .int ((2 : Int32) * p2)]) (rest := []) ⟨hx, hb, hml, hown, hts⟩ hK hR (m_X2_pay hW (hW.cch lv_2) hW.wor (by first | omega | assumption) h) q306 q307 q308 q78 q320 rfl rfl hd_X2_pay ⟨Nat.le_of_ble_eq_true rfl, Nat.le_of_ble_eq_true rfl⟩ (rv_ch1 hK hR (hW.cch lv_2) (by omega)) rfl rfl hl.1 rfl (lv_room (Nat.le_of_ble_eq_true rfl)) dX1_deliver_46 ⟨(Nat.le_of_ble_eq_true rfl), (Nat.le_of_ble_eq_true rfl)⟩) hR hS (fun r_46 w_46 H locs h hR _ hS => ?_)
  refine lv_pop hx hb dX1_deliver_49 rfl ?_
  refine lv_aload_n hx hb dX1_deliver_50 rfl (lv_at hl 0 rfl) ?_
  refine lv_dup hx hb dX1_deliver_51 rfl ?_
  refine g9_7 hx hb hts hown hK hR lv_2 q1135 dX1_deliver_52 ?_
  refine lv_iconst (v := (3 : Int32)) hx hb dX1_deliver_55 (by decide) ?_
  refine lv_iload_n hx hb dX1_deliver_56 rfl (lv_at hl 3 rfl) ?_
  refine lv_imul hx hb dX1_deliver_57 ?_
  refine lv_iadd hx hb dX1_deliver_58 ?_
  refine p9_7 hx hb hts hown hK hR hS lv_2 q1135 dX1_deliver_59 (fun H locs w_59 ew_59 hR hS => ?_)
  have h := h w_59 ew_59
  refine lv_aload_n hx hb dX1_deliver_62 rfl (lv_at hl 0 rfl) ?_
  refine g9_7 hx hb hts hown hK hR lv_2 q1135 dX1_deliver_63 ?_
  refine W.widen (k := 3) (n := 18) (Nat.le_of_ble_eq_true rfl) (Nat.le_of_ble_eq_true rfl) ?_
  refine vx_ret ?_; exact W.iret (v := gv w_59 9 i_2 7) hx hb hr (fun t ht hW9 => ⟨⟨gv w_59 9 i_2 7, w_59, rfl, h, rpt ht hR⟩, hS.F ht⟩) hS.2.2 dX1_deliver_66
abbrev rm_X1_sue : Room := { frames := 8, cells := 4, slots := 21, locals := 133 }
def sp_X1_sue (κ : Kx) (y : Ly) (post : Int32 → Wd → Prop) (px : String → Wd → Prop) (w : Wd) (p1 : Int32) (p2 : Int32) : Prop := sp_X1_villageOf κ y (fun i_2 w_2 => sp_X1_dutyOf κ y (fun i_7 w_7 => (vp_in (p2) (y.1 146 i_2)) ∧ (sp_X1_isSuable κ y (fun r_24 w_24 => sp_X1_state κ y (fun w_30 => (vp_in (p2) (y.1 146 i_2)) ∧ ((y.1 15 (3 * i_2 + ((p2).toNatClampNeg)) = 1) ∧ (∀ w_55 : Wd, w_55 = sv w_30 16 ((3 * i_2 + ((p2).toNatClampNeg))) 5 ((1 : Int32)) → sp_X17_over κ y (fun r_60 w_60 => sp_X1_votes κ y (fun r_72 w_72 => (((4 : Int32) ≤ r_72) → ((vp_in (gv w_72 16 ((3 * i_2 + ((p2).toNatClampNeg))) 4) (nL y)) ∧ ((y.1 14 (((gv w_72 16 ((3 * i_2 + ((p2).toNatClampNeg))) 4).toNatClampNeg)) = 1 ∧ live y 9 (gv w_72 14 (((gv w_72 16 ((3 * i_2 + ((p2).toNatClampNeg))) 4).toNatClampNeg)) 0).toNatClampNeg) ∧ (sp_X4_does κ y (fun r_130 w_130 => ((r_130 = 0) → (∀ w_155 : Wd, w_155 = sv w_130 0 0 12 ((gv w_130 0 0 12) + (1 : Int32)) → sp_X17_over κ y (fun r_172 w_172 => sp_D_worth κ y (fun r_175 w_175 => sp_X2_pay κ y (fun r_179 w_179 => sp_X10_stir κ y (fun w_186 => post ((1 : Int32)) w_186) w_179 i_2 (-2 : Int32)) w_175 (((11 + (((gv w_72 14 (((gv w_72 16 ((3 * i_2 + ((p2).toNatClampNeg))) 4).toNatClampNeg)) 0).toNatClampNeg))))) (((3 + i_2))) ((2 : Int32) * r_175)) w_172 i_7 r_172) w_155 ((3 * i_2 + ((p2).toNatClampNeg))))) ∧ ((¬ (r_130 = 0)) → (∀ w_143 : Wd, w_143 = sv w_130 0 0 14 ((gv w_130 0 0 14) + (1 : Int32)) → post ((2 : Int32)) w_143))) w_72 (((gv w_72 14 (((gv w_72 16 ((3 * i_2 + ((p2).toNatClampNeg))) 4).toNatClampNeg)) 0).toNatClampNeg)) (50 : Int32))))) ∧ ((¬ ((4 : Int32) ≤ r_72)) → (∀ w_86 : Wd, w_86 = sv w_72 0 0 13 ((gv w_72 0 0 13) + (1 : Int32)) → sp_X10_stir κ y (fun w_91 => post ((0 : Int32)) w_91) w_86 i_2 (1 : Int32)))) w_60 r_60 (gv w_60 16 ((3 * i_2 + ((p2).toNatClampNeg))) 3) (gv w_60 0 0 11)) w_55 ((3 * i_2 + ((p2).toNatClampNeg)))))) px w_24 r_24) w_7 (3 * i_2 + ((p2).toNatClampNeg)))) px w_2 p2) px w p1
theorem hd_X1_sue : yX1_sue.cls = RX1 ∧ yX1_sue.cls ≠ "java/lang/invoke/MethodHandle" ∧ yX1_sue.cls ≠ "java/lang/invoke/VarHandle" ∧ (parseMethodDescriptor yX1_sue.desc).map (fun d => d.parameters.length) = some 2 := by decide +kernel
set_option maxHeartbeats 4000000 in
theorem m_X1_sue {l : Launch} {κ : Kx} {y : Ly} {X : XR} {post : Int32 → Wd → Prop} {px : String → Wd → Prop} {w : Wd} {p1 : Int32} {p2 : Int32}  (hfl : l.stackTraces = false) (hW : WFc κ y) (l0 : live y 0 0) (h : sp_X1_sue κ y post px w p1 p2) : vx_Met l yX1_sue (ws_ yX1_sue cX1_sue 7 (Option.some Jvm.ClassFile.FieldType.int)) rm_X1_sue (va_Pc [.ref (y.2 0 0), .int (p1), .int (p2)] (RC κ w y X)) (va_Qi post (fun w t => Rp κ w y X [] t.heap) (Af κ)) (XCk κ y X px) 4 21 (Af κ) := by
  unfold sp_X1_sue at h
  refine vx_ofW (cc := cX1_sue) (maxL := 7) (ret := (Option.some Jvm.ClassFile.FieldType.int)) (by decide) rfl ?_
  intro p e s m args below meth c s₁ B hml ht hv
  obtain ⟨rfl, hR, hK⟩ := hv
  have hx := B.exec
  have hb := B.bytes
  have hr := B.returns
  have hts := atoms_spec (ws := ws_ yX1_sue cX1_sue 7 (Option.some Jvm.ClassFile.FieldType.int)) B.pre
  have hts : ∀ w ∈ lw_all, w.before _ s = true := fun w h => hts w (List.mem_cons_of_mem _ h)
  have hown : s.vm.findClass RX1 = some m.cls := findClass_of_methodNamed B.named
  have hlocks := B.notSynchronized
  have hR0 := hR
  have hS : va_S (Af κ) s.heap s.heap [] := va_S.rf
  have hl := lv_entry ([.ref (y.2 0 0), .int (p1), .int (p2)]) (n := 7) (Nat.le_of_ble_eq_true rfl)
  rw [lg_entry_eq]
  generalize (lg_sl ([.ref (y.2 0 0), .int (p1), .int (p2)]) ++ List.replicate (7 - (lg_sl ([.ref (y.2 0 0), .int (p1), .int (p2)])).length) Slot.unset).toArray = ls at hl ⊢
  have hl : lv_has ls 7 [(0, .ref (y.2 0 0)), (1, .int (p1)), (2, .int (p2))] := hl
  refine lv_aload_n hx hb dX1_sue_0 rfl (lv_at hl 0 rfl) ?_
  refine lv_iload_n hx hb dX1_sue_1 rfl (lv_at hl 1 rfl) ?_
  refine cex_qr (fw := fun u : Nat × Wd => u.2) (fy := fun _ => y) (P := (fun (u : Nat × Wd) ra => ra = y.2 6 u.1 ∧ live y 6 u.1)) (crx_V (n := 1) (As := [.int (p1)]) (rest := []) ⟨hx, hb, hml, hown, hts⟩ hK hR (m_X1_villageOf hfl hW l0 h) q1029 q1031 qs20 q74 q1032 rfl rfl hd_X1_villageOf ⟨Nat.le_of_ble_eq_true rfl, Nat.le_of_ble_eq_true rfl⟩ (rv hK hR l0 (ci := 0) rfl rfl) rfl rfl hl.1 rfl (lv_room (Nat.le_of_ble_eq_true rfl)) dX1_sue_2 ⟨(Nat.le_of_ble_eq_true rfl), (Nat.le_of_ble_eq_true rfl)⟩) hR hS ht hlocks (Nat.le_of_ble_eq_true rfl) (Nat.le_of_ble_eq_true rfl) (fun u9 a_2 H locs h p9 hR _ hS => ?_)
  obtain ⟨i_2, w_2⟩ := u9
  obtain ⟨e9, lv_2⟩ := p9
  dsimp only at e9 lv_2
  subst e9
  refine lv_astore_n (lv' := [(3, .ref (y.2 6 i_2)), (0, .ref (y.2 0 0)), (1, .int (p1)), (2, .int (p2))]) hx hb dX1_sue_5 rfl hl (by decide) rfl (fun ls hl => ?_)
  refine lv_iload_n hx hb dX1_sue_6 rfl (lv_at hl 3 rfl) ?_
  refine cex_qr (fw := fun u : Nat × Wd => u.2) (fy := fun _ => y) (P := (fun (u : Nat × Wd) ra => ra = kA κ (20 + u.1) ∧ u.1 < 3)) (crx_S (n := 1) (As := [.int (p2)]) (rest := []) ⟨hx, hb, hml, hown, hts⟩ hK hR (m_X1_dutyOf hfl hW h) q1075 q1076 q74 q1077 rfl rfl hds_X1_dutyOf ⟨Nat.le_of_ble_eq_true rfl, Nat.le_of_ble_eq_true rfl⟩ rfl rfl hl.1 rfl (lv_room (Nat.le_of_ble_eq_true rfl)) dX1_sue_7 ⟨(Nat.le_of_ble_eq_true rfl), (Nat.le_of_ble_eq_true rfl)⟩) hR hS ht hlocks (Nat.le_of_ble_eq_true rfl) (Nat.le_of_ble_eq_true rfl) (fun u9 a_7 H locs h p9 hR _ hS => ?_)
  obtain ⟨i_7, w_7⟩ := u9
  obtain ⟨e9, lv_7⟩ := p9
  dsimp only at e9 lv_7
  subst e9
  refine lv_astore (lv' := [(4, .ref (kA κ (20 + i_7))), (3, .ref (y.2 6 i_2)), (0, .ref (y.2 0 0)), (1, .int (p1)), (2, .int (p2))]) hx hb dX1_sue_10 hl (by decide) rfl (fun ls hl => ?_)
  refine lv_aload_n hx hb dX1_sue_12 rfl (lv_at hl 2 rfl) ?_
  refine lv_aload_n hx hb dX1_sue_13 rfl (lv_at hl 1 rfl) ?_
  refine g6_5 hx hb hts hown hK hR lv_2 q929 dX1_sue_14 ?_
  refine lv_iload_n hx hb dX1_sue_17 rfl (lv_at hl 4 rfl) ?_
  have o_18 := h.1
  have h := h.2
  refine jr_get (a := if y.1 15 (3 * i_2 + ((p2).toNatClampNeg)) = 1 then y.2 15 (3 * i_2 + ((p2).toNatClampNeg)) else kA κ 0) ⟨hx, hb, hml, hown, hts⟩ hK hR ⟨fun _ _ _ _ _ => rfl, fun _ _ _ _ _ => rfl⟩ (hW.vle lv_2) ⟨hW.vla lv_2, (by rw [show y.1 (46 + 100) i_2 = 3 from hW.vl3 lv_2]; decide)⟩ o_18 (hW.elE lv_2 (show (p2).toNatClampNeg < 3 from by have h9 := (vp_lt o_18); rw [show y.1 146 i_2 = 3 from hW.vl3 lv_2] at h9; exact h9)) q685 ⟨Nat.le_of_ble_eq_true rfl, Nat.le_of_ble_eq_true rfl⟩ hl.1 (Nat.le_of_ble_eq_true rfl) dX1_sue_18 ⟨(Nat.le_of_ble_eq_true rfl), (Nat.le_of_ble_eq_true rfl)⟩ ?_
  refine jr_castS (ci := 18) hx hb hown hK hts (op_at hK hR (3 * i_2 + ((p2).toNatClampNeg))) rfl q699 dX1_sue_21 ?_
  refine ce_qi (fw := fun u => u) (fy := fun _ => y) (cr_V (n := 1) (As := [.ref (if y.1 15 (3 * i_2 + ((p2).toNatClampNeg)) = 1 then y.2 15 (3 * i_2 + ((p2).toNatClampNeg)) else kA κ 0)]) (rest := []) ⟨hx, hb, hml, hown, hts⟩ hK hR (m_X1_isSuable hW l0 h) q1430 q1432 qs28 q74 q1433 rfl rfl hd_X1_isSuable ⟨Nat.le_of_ble_eq_true rfl, Nat.le_of_ble_eq_true rfl⟩ (rv hK hR l0 (ci := 0) rfl rfl) rfl rfl hl.1 rfl (lv_room (Nat.le_of_ble_eq_true rfl)) dX1_sue_24 ⟨(Nat.le_of_ble_eq_true rfl), (Nat.le_of_ble_eq_true rfl)⟩) hR hS (fun r_24 w_24 H locs h hR _ hS => ?_)
  refine jr_ldcwS (own := "Publicanry") (k := 424) (tx := "no levy") (n := 1424) hx hb hown hK (List.mem_of_getElem? (i := 17) rfl) dX1_sue_27 ?_
  refine cex_qv (fw := fun u => u) (fy := fun _ => y) (crx_S (n := 2) (As := [.int (r_24), .ref (kA κ 1424)]) (rest := []) ⟨hx, hb, hml, hown, hts⟩ hK hR (m_X1_state hfl hW h) q813 q814 q74 q815 rfl rfl hds_X1_state ⟨Nat.le_of_ble_eq_true rfl, Nat.le_of_ble_eq_true rfl⟩ rfl rfl hl.1 rfl (lv_room (Nat.le_of_ble_eq_true rfl)) dX1_sue_30 ⟨(Nat.le_of_ble_eq_true rfl), (Nat.le_of_ble_eq_true rfl)⟩) hR hS ht hlocks (Nat.le_of_ble_eq_true rfl) (Nat.le_of_ble_eq_true rfl) (fun w_30 H locs h hR _ hS => ?_)
  refine lv_aload_n hx hb dX1_sue_33 rfl (lv_at hl 1 rfl) ?_
  refine g6_5 hx hb hts hown hK hR lv_2 q929 dX1_sue_34 ?_
  refine lv_iload_n hx hb dX1_sue_37 rfl (lv_at hl 4 rfl) ?_
  have o_38 := h.1
  have h := h.2
  refine jr_get (a := if y.1 15 (3 * i_2 + ((p2).toNatClampNeg)) = 1 then y.2 15 (3 * i_2 + ((p2).toNatClampNeg)) else kA κ 0) ⟨hx, hb, hml, hown, hts⟩ hK hR ⟨fun _ _ _ _ _ => rfl, fun _ _ _ _ _ => rfl⟩ (hW.vle lv_2) ⟨hW.vla lv_2, (by rw [show y.1 (46 + 100) i_2 = 3 from hW.vl3 lv_2]; decide)⟩ o_38 (hW.elE lv_2 (show (p2).toNatClampNeg < 3 from by have h9 := (vp_lt o_38); rw [show y.1 146 i_2 = 3 from hW.vl3 lv_2] at h9; exact h9)) q685 ⟨Nat.le_of_ble_eq_true rfl, Nat.le_of_ble_eq_true rfl⟩ hl.1 (Nat.le_of_ble_eq_true rfl) dX1_sue_38 ⟨(Nat.le_of_ble_eq_true rfl), (Nat.le_of_ble_eq_true rfl)⟩ ?_
  refine jr_castS (ci := 18) hx hb hown hK hts (op_at hK hR (3 * i_2 + ((p2).toNatClampNeg))) rfl q699 dX1_sue_41 ?_
  have o_44 := h.1
  have h := h.2
  refine jr_oget (z := y.2 16 (3 * i_2 + ((p2).toNatClampNeg))) ⟨hx, hb, hml, hown, hts⟩ hK (op_at hK hR (3 * i_2 + ((p2).toNatClampNeg))) (if_pos o_44) q519 ⟨Nat.le_of_ble_eq_true rfl, Nat.le_of_ble_eq_true rfl⟩ hl.1 (Nat.le_of_ble_eq_true rfl) dX1_sue_44 ⟨(Nat.le_of_ble_eq_true rfl), (Nat.le_of_ble_eq_true rfl)⟩ ?_
  refine jr_castS (ci := 10) hx hb hown hK hts (hR.role (hW.lev ⟨o_44, by decide⟩)) rfl q707 dX1_sue_47 ?_
  refine lv_astore (lv' := [(5, .ref (y.2 16 (3 * i_2 + ((p2).toNatClampNeg)))), (4, .ref (kA κ (20 + i_7))), (3, .ref (y.2 6 i_2)), (0, .ref (y.2 0 0)), (1, .int (p1)), (2, .int (p2))]) hx hb dX1_sue_50 hl (by decide) rfl (fun ls hl => ?_)
  refine lv_aload hx hb dX1_sue_52 (lv_at hl 0 rfl) ?_
  refine lv_iconst (v := (1 : Int32)) hx hb dX1_sue_54 (by decide) ?_
  refine p16_5 hx hb hts hown hK hR hS (hW.lev ⟨o_44, by decide⟩) nbo_1 q1552 dX1_sue_55 (fun H locs w_55 ew_55 hR hS => ?_)
  have h := h w_55 ew_55
  refine lv_aload hx hb dX1_sue_58 (lv_at hl 0 rfl) ?_
  refine ce_qi (fw := fun u => u) (fy := fun _ => y) (cr_V (n := 0) (As := []) (rest := []) ⟨hx, hb, hml, hown, hts⟩ hK hR (m_X17_over hW (hW.lev ⟨o_44, by decide⟩) h) q1435 q1436 q1437 q115 q1438 rfl rfl hd_X17_over ⟨Nat.le_of_ble_eq_true rfl, Nat.le_of_ble_eq_true rfl⟩ (rv hK hR (hW.lev ⟨o_44, by decide⟩) (ci := 10) rfl rfl) rfl rfl hl.1 rfl (lv_room (Nat.le_of_ble_eq_true rfl)) dX1_sue_60 ⟨(Nat.le_of_ble_eq_true rfl), (Nat.le_of_ble_eq_true rfl)⟩) hR hS (fun r_60 w_60 H locs h hR _ hS => ?_)
  refine lv_aload hx hb dX1_sue_63 (lv_at hl 0 rfl) ?_
  refine g16_3 hx hb hts hown hK hR (hW.lev ⟨o_44, by decide⟩) q1548 dX1_sue_65 ?_
  refine lv_aload_n hx hb dX1_sue_68 rfl (lv_at hl 3 rfl) ?_
  refine g0_11 hx hb hts hown hK hR l0 q258 dX1_sue_69 ?_
  refine ce_qi (fw := fun u => u) (fy := fun _ => y) (cr_S (n := 3) (As := [.int (r_60), .int (gv w_60 16 ((3 * i_2 + ((p2).toNatClampNeg))) 3), .int (gv w_60 0 0 11)]) (rest := []) ⟨hx, hb, hml, hown, hts⟩ hK hR (m_X1_votes hW h) q1439 q1440 q74 q1441 rfl rfl hds_X1_votes ⟨Nat.le_of_ble_eq_true rfl, Nat.le_of_ble_eq_true rfl⟩ rfl rfl hl.1 rfl (lv_room (Nat.le_of_ble_eq_true rfl)) dX1_sue_72 ⟨(Nat.le_of_ble_eq_true rfl), (Nat.le_of_ble_eq_true rfl)⟩) hR hS (fun r_72 w_72 H locs h hR _ hS => ?_)
  refine lv_iconst (v := (4 : Int32)) hx hb dX1_sue_75 (by decide) ?_
  refine lv_icmp_ge (tgt := 96) hx hb dX1_sue_76 (by decide) (fun c_76 => ?_) (fun c_76 => ?_)
  · have h := h.1 c_76
    refine lv_aload_n hx hb dX1_sue_96 rfl (lv_at hl 3 rfl) ?_
    refine g0_2 hx hb hts hown hK hR l0 q249 dX1_sue_97 ?_
    refine lv_aload hx hb dX1_sue_100 (lv_at hl 0 rfl) ?_
    refine g16_4 hx hb hts hown hK hR (hW.lev ⟨o_44, by decide⟩) q1550 dX1_sue_102 ?_
    have o_105 := h.1
    have h := h.2
    refine jr_get (a := y.2 11 ((gv w_72 16 ((3 * i_2 + ((p2).toNatClampNeg))) 4).toNatClampNeg)) ⟨hx, hb, hml, hown, hts⟩ hK hR ⟨fun _ _ _ _ _ => rfl, fun _ _ _ _ _ => rfl⟩ hW.lsL ⟨hW.arL (Nat.lt_of_le_of_lt (Nat.zero_le _) (vp_lt o_105)), (Nat.le_trans hW.nL8 (by decide))⟩ o_105 (hW.elL (vp_lt o_105)) q685 ⟨Nat.le_of_ble_eq_true rfl, Nat.le_of_ble_eq_true rfl⟩ hl.1 (Nat.le_of_ble_eq_true rfl) dX1_sue_105 ⟨(Nat.le_of_ble_eq_true rfl), (Nat.le_of_ble_eq_true rfl)⟩ ?_
    refine jr_castS (ci := 9) hx hb hown hK hts (hR.role (hW.lot (vp_lt o_105))) rfl q497 dX1_sue_108 ?_
    refine g11_8 hx hb hts hown hK hR (hW.lot (vp_lt o_105)) q1269 dX1_sue_111 ?_
    have o_114 := h.1
    have h := h.2
    refine jr_oget (z := y.2 9 ((gv w_72 14 (((gv w_72 16 ((3 * i_2 + ((p2).toNatClampNeg))) 4).toNatClampNeg)) 0).toNatClampNeg)) ⟨hx, hb, hml, hown, hts⟩ hK (ho_at hK hR (((gv w_72 16 ((3 * i_2 + ((p2).toNatClampNeg))) 4).toNatClampNeg))) (if_pos o_114.1) q519 ⟨Nat.le_of_ble_eq_true rfl, Nat.le_of_ble_eq_true rfl⟩ hl.1 (Nat.le_of_ble_eq_true rfl) dX1_sue_114 ⟨(Nat.le_of_ble_eq_true rfl), (Nat.le_of_ble_eq_true rfl)⟩ ?_
    refine jr_castS (ci := 7) hx hb hown hK hts (hR.role o_114.2) rfl q371 dX1_sue_117 ?_
    refine lv_astore (lv' := [(6, .ref (y.2 9 ((gv w_72 14 (((gv w_72 16 ((3 * i_2 + ((p2).toNatClampNeg))) 4).toNatClampNeg)) 0).toNatClampNeg))), (5, .ref (y.2 16 (3 * i_2 + ((p2).toNatClampNeg)))), (4, .ref (kA κ (20 + i_7))), (3, .ref (y.2 6 i_2)), (0, .ref (y.2 0 0)), (1, .int (p1)), (2, .int (p2))]) hx hb dX1_sue_120 hl (by decide) rfl (fun ls hl => ?_)
    refine lv_aload_n hx hb dX1_sue_122 rfl (lv_at hl 4 rfl) ?_
    refine g0_6 hx hb hts hown hK hR l0 q253 dX1_sue_123 ?_
    refine lv_aload hx hb dX1_sue_126 (lv_at hl 0 rfl) ?_
    refine lv_bipush (v := (50 : Int32)) hx hb dX1_sue_128 (by decide) ?_
    refine ce_qi (fw := fun u => u) (fy := fun _ => y) (cr_V (n := 2) (As := [.ref (y.2 9 ((gv w_72 14 (((gv w_72 16 ((3 * i_2 + ((p2).toNatClampNeg))) 4).toNatClampNeg)) 0).toNatClampNeg)), .int ((50 : Int32))]) (rest := []) ⟨hx, hb, hml, hown, hts⟩ hK hR (m_X4_does hW hW.gov o_114.2 h) q1446 q1447 q1448 q80 q1449 rfl rfl hd_X4_does ⟨Nat.le_of_ble_eq_true rfl, Nat.le_of_ble_eq_true rfl⟩ (rv hK hR hW.gov (ci := 3) rfl rfl) rfl rfl hl.1 rfl (lv_room (Nat.le_of_ble_eq_true rfl)) dX1_sue_130 ⟨(Nat.le_of_ble_eq_true rfl), (Nat.le_of_ble_eq_true rfl)⟩) hR hS (fun r_130 w_130 H locs h hR _ hS => ?_)
    refine lv_if_eq (tgt := 148) hx hb dX1_sue_133 (by decide) (fun c_133 => ?_) (fun c_133 => ?_)
    · have h := h.1 c_133
      refine lv_aload_n hx hb dX1_sue_148 rfl (lv_at hl 4 rfl) ?_
      refine lv_dup hx hb dX1_sue_149 rfl ?_
      refine g0_12 hx hb hts hown hK hR l0 q259 dX1_sue_150 ?_
      refine lv_iconst (v := (1 : Int32)) hx hb dX1_sue_153 (by decide) ?_
      refine lv_iadd hx hb dX1_sue_154 ?_
      refine p0_12 hx hb hts hown hK hR hS l0 q259 dX1_sue_155 (fun H locs w_155 ew_155 hR hS => ?_)
      have h := h w_155 ew_155
      refine lv_aload hx hb dX1_sue_158 (lv_at hl 0 rfl) ?_
      refine g9_1 hx hb hts hown hK hR o_114.2 q1124 dX1_sue_160 ?_
      refine lv_aload_n hx hb dX1_sue_163 rfl (lv_at hl 3 rfl) ?_
      refine g6_2 hx hb hts hown hK hR lv_2 q925 dX1_sue_164 ?_
      refine lv_iconst (v := (2 : Int32)) hx hb dX1_sue_167 (by decide) ?_
      refine lv_aload hx hb dX1_sue_168 (lv_at hl 2 rfl) ?_
      refine lv_aload hx hb dX1_sue_170 (lv_at hl 1 rfl) ?_
      refine ce_qi (fw := fun u => u) (fy := fun _ => y) (cr_V (n := 0) (As := []) (rest := [.ref (kA κ (20 + i_7)), .int ((2 : Int32)), .ref (y.2 1 ((3 + i_2))), .ref (y.2 1 ((11 + (((gv w_72 14 (((gv w_72 16 ((3 * i_2 + ((p2).toNatClampNeg))) 4).toNatClampNeg)) 0).toNatClampNeg)))))]) ⟨hx, hb, hml, hown, hts⟩ hK hR (m_X17_over hW (hW.lev ⟨o_44, by decide⟩) h) q1435 q1436 q1437 q115 q1438 rfl rfl hd_X17_over ⟨Nat.le_of_ble_eq_true rfl, Nat.le_of_ble_eq_true rfl⟩ (rv hK hR (hW.lev ⟨o_44, by decide⟩) (ci := 10) rfl rfl) rfl rfl hl.1 rfl (lv_room (Nat.le_of_ble_eq_true rfl)) dX1_sue_172 ⟨(Nat.le_of_ble_eq_true rfl), (Nat.le_of_ble_eq_true rfl)⟩) hR hS (fun r_172 w_172 H locs h hR _ hS => ?_)
      refine ce_qi (fw := fun u => u) (fy := fun _ => y) (cr_worth (As := [.int (r_172)]) (rest := [.int ((2 : Int32)), .ref (y.2 1 ((3 + i_2))), .ref (y.2 1 ((11 + (((gv w_72 14 (((gv w_72 16 ((3 * i_2 + ((p2).toNatClampNeg))) 4).toNatClampNeg)) 0).toNatClampNeg)))))]) ⟨hx, hb, hml, hown, hts⟩ hK hR lv_7 qi_ret (fun e9 => m_X18_worth hW lv_7 (h.1 e9)) ⟨rfl, rfl⟩ ⟨Nat.le_of_ble_eq_true rfl, Nat.le_of_ble_eq_true rfl⟩ (fun e9 => m_X7_worth hW lv_7 (h.2.1 e9)) ⟨rfl, rfl⟩ ⟨Nat.le_of_ble_eq_true rfl, Nat.le_of_ble_eq_true rfl⟩ (fun e9 => m_X7_worth hW lv_7 (h.2.2 e9)) ⟨rfl, rfl⟩ ⟨Nat.le_of_ble_eq_true rfl, Nat.le_of_ble_eq_true rfl⟩ q663 rfl rfl hl.1 rfl (lv_room (Nat.le_of_ble_eq_true rfl)) dX1_sue_175 ⟨(Nat.le_of_ble_eq_true rfl), (Nat.le_of_ble_eq_true rfl)⟩) hR hS (fun r_175 w_175 H locs h hR _ hS => ?_)
      refine lv_imul hx hb dX1_sue_178 ?_
      refine ce_qi (fw := fun u => u) (fy := fun _ => y) (cr_V (n := 2) (As := [.ref (y.2 1 ((3 + i_2))), .int ((2 : Int32) * r_175)]) (rest := []) ⟨hx, hb, hml, hown, hts⟩ hK hR (m_X2_pay hW (hW.cch o_114.2) (hW.vch lv_2) (by first | omega | assumption) h) q306 q307 q308 q78 q320 rfl rfl hd_X2_pay ⟨Nat.le_of_ble_eq_true rfl, Nat.le_of_ble_eq_true rfl⟩ (rv_ch1 hK hR (hW.cch o_114.2) (by omega)) rfl rfl hl.1 rfl (lv_room (Nat.le_of_ble_eq_true rfl)) dX1_sue_179 ⟨(Nat.le_of_ble_eq_true rfl), (Nat.le_of_ble_eq_true rfl)⟩) hR hS (fun r_179 w_179 H locs h hR _ hS => ?_)
      refine lv_pop hx hb dX1_sue_182 rfl ?_
      refine lv_aload_n hx hb dX1_sue_183 rfl (lv_at hl 3 rfl) ?_
      refine lv_bipush (v := (-2 : Int32)) hx hb dX1_sue_184 (by decide) ?_
      refine ce_qv (fw := fun u => u) (fy := fun _ => y) (cr_V (n := 1) (As := [.int ((-2 : Int32))]) (rest := []) ⟨hx, hb, hml, hown, hts⟩ hK hR (m_X10_stir hW lv_2 h) q1442 q1443 q1444 q92 q1445 rfl rfl hd_X10_stir ⟨Nat.le_of_ble_eq_true rfl, Nat.le_of_ble_eq_true rfl⟩ (rv hK hR lv_2 (ci := 6) rfl rfl) rfl rfl hl.1 rfl (lv_room (Nat.le_of_ble_eq_true rfl)) dX1_sue_186 ⟨(Nat.le_of_ble_eq_true rfl), (Nat.le_of_ble_eq_true rfl)⟩) hR hS (fun w_186 H locs h hR _ hS => ?_)
      refine lv_iconst (v := (1 : Int32)) hx hb dX1_sue_189 (by decide) ?_
      refine W.widen (k := 4) (n := 21) (Nat.le_of_ble_eq_true rfl) (Nat.le_of_ble_eq_true rfl) ?_
      refine vx_ret ?_; exact W.iret (v := (1 : Int32)) hx hb hr (fun t ht hW9 => ⟨⟨(1 : Int32), w_186, rfl, h, rpt ht hR⟩, hS.F ht⟩) hS.2.2 dX1_sue_190
    · have h := h.2 c_133
      refine lv_aload_n hx hb dX1_sue_136 rfl (lv_at hl 4 rfl) ?_
      refine lv_dup hx hb dX1_sue_137 rfl ?_
      refine g0_14 hx hb hts hown hK hR l0 q261 dX1_sue_138 ?_
      refine lv_iconst (v := (1 : Int32)) hx hb dX1_sue_141 (by decide) ?_
      refine lv_iadd hx hb dX1_sue_142 ?_
      refine p0_14 hx hb hts hown hK hR hS l0 q261 dX1_sue_143 (fun H locs w_143 ew_143 hR hS => ?_)
      have h := h w_143 ew_143
      refine lv_iconst (v := (2 : Int32)) hx hb dX1_sue_146 (by decide) ?_
      refine W.widen (k := 4) (n := 21) (Nat.le_of_ble_eq_true rfl) (Nat.le_of_ble_eq_true rfl) ?_
      refine vx_ret ?_; exact W.iret (v := (2 : Int32)) hx hb hr (fun t ht hW9 => ⟨⟨(2 : Int32), w_143, rfl, h, rpt ht hR⟩, hS.F ht⟩) hS.2.2 dX1_sue_147
  · have h := h.2 c_76
    refine lv_aload_n hx hb dX1_sue_79 rfl (lv_at hl 3 rfl) ?_
    refine lv_dup hx hb dX1_sue_80 rfl ?_
    refine g0_13 hx hb hts hown hK hR l0 q260 dX1_sue_81 ?_
    refine lv_iconst (v := (1 : Int32)) hx hb dX1_sue_84 (by decide) ?_
    refine lv_iadd hx hb dX1_sue_85 ?_
    refine p0_13 hx hb hts hown hK hR hS l0 q260 dX1_sue_86 (fun H locs w_86 ew_86 hR hS => ?_)
    have h := h w_86 ew_86
    refine lv_aload_n hx hb dX1_sue_89 rfl (lv_at hl 2 rfl) ?_
    refine lv_iconst (v := (1 : Int32)) hx hb dX1_sue_90 (by decide) ?_
    refine ce_qv (fw := fun u => u) (fy := fun _ => y) (cr_V (n := 1) (As := [.int ((1 : Int32))]) (rest := []) ⟨hx, hb, hml, hown, hts⟩ hK hR (m_X10_stir hW lv_2 h) q1442 q1443 q1444 q92 q1445 rfl rfl hd_X10_stir ⟨Nat.le_of_ble_eq_true rfl, Nat.le_of_ble_eq_true rfl⟩ (rv hK hR lv_2 (ci := 6) rfl rfl) rfl rfl hl.1 rfl (lv_room (Nat.le_of_ble_eq_true rfl)) dX1_sue_91 ⟨(Nat.le_of_ble_eq_true rfl), (Nat.le_of_ble_eq_true rfl)⟩) hR hS (fun w_91 H locs h hR _ hS => ?_)
    refine lv_iconst (v := (0 : Int32)) hx hb dX1_sue_94 (by decide) ?_
    refine W.widen (k := 4) (n := 21) (Nat.le_of_ble_eq_true rfl) (Nat.le_of_ble_eq_true rfl) ?_
    refine vx_ret ?_; exact W.iret (v := (0 : Int32)) hx hb hr (fun t ht hW9 => ⟨⟨(0 : Int32), w_91, rfl, h, rpt ht hR⟩, hS.F ht⟩) hS.2.2 dX1_sue_95
abbrev rm_X1_gift : Room := { frames := 8, cells := 3, slots := 18, locals := 133 }
def sp_X1_gift (κ : Kx) (y : Ly) (post : Int32 → Wd → Prop) (px : String → Wd → Prop) (w : Wd) (p1 : Int32) (p2 : Int32) : Prop := sp_X1_companyOf κ y (fun i_2 w_2 => sp_X1_isIn κ y (fun r_11 w_11 => sp_X1_check κ y (fun w_16 => sp_X2_hasAll κ y (fun r_24 w_24 => sp_X1_state κ y (fun w_29 => sp_X2_pay κ y (fun r_44 w_44 => ∀ w_55 : Wd, w_55 = sv w_44 9 i_2 8 ((gv w_44 9 i_2 8) + p2) → post (gv w_55 9 i_2 8) w_55) w_29 (((11 + i_2))) 2 p2) px w_24 r_24) w_16 (((11 + i_2))) p2) px w_11 r_11) w_2 p2 (1 : Int32) (500 : Int32)) px w p1
theorem hd_X1_gift : yX1_gift.cls = RX1 ∧ yX1_gift.cls ≠ "java/lang/invoke/MethodHandle" ∧ yX1_gift.cls ≠ "java/lang/invoke/VarHandle" ∧ (parseMethodDescriptor yX1_gift.desc).map (fun d => d.parameters.length) = some 2 := by decide +kernel
set_option maxHeartbeats 4000000 in
theorem m_X1_gift {l : Launch} {κ : Kx} {y : Ly} {X : XR} {post : Int32 → Wd → Prop} {px : String → Wd → Prop} {w : Wd} {p1 : Int32} {p2 : Int32}  (hfl : l.stackTraces = false) (hW : WFc κ y) (l0 : live y 0 0) (h : sp_X1_gift κ y post px w p1 p2) : vx_Met l yX1_gift (ws_ yX1_gift cX1_gift 4 (Option.some Jvm.ClassFile.FieldType.int)) rm_X1_gift (va_Pc [.ref (y.2 0 0), .int (p1), .int (p2)] (RC κ w y X)) (va_Qi post (fun w t => Rp κ w y X [] t.heap) (Af κ)) (XCk κ y X px) 3 18 (Af κ) := by
  unfold sp_X1_gift at h
  refine vx_ofW (cc := cX1_gift) (maxL := 4) (ret := (Option.some Jvm.ClassFile.FieldType.int)) (by decide) rfl ?_
  intro p e s m args below meth c s₁ B hml ht hv
  obtain ⟨rfl, hR, hK⟩ := hv
  have hx := B.exec
  have hb := B.bytes
  have hr := B.returns
  have hts := atoms_spec (ws := ws_ yX1_gift cX1_gift 4 (Option.some Jvm.ClassFile.FieldType.int)) B.pre
  have hts : ∀ w ∈ lw_all, w.before _ s = true := fun w h => hts w (List.mem_cons_of_mem _ h)
  have hown : s.vm.findClass RX1 = some m.cls := findClass_of_methodNamed B.named
  have hlocks := B.notSynchronized
  have hR0 := hR
  have hS : va_S (Af κ) s.heap s.heap [] := va_S.rf
  have hl := lv_entry ([.ref (y.2 0 0), .int (p1), .int (p2)]) (n := 4) (Nat.le_of_ble_eq_true rfl)
  rw [lg_entry_eq]
  generalize (lg_sl ([.ref (y.2 0 0), .int (p1), .int (p2)]) ++ List.replicate (4 - (lg_sl ([.ref (y.2 0 0), .int (p1), .int (p2)])).length) Slot.unset).toArray = ls at hl ⊢
  have hl : lv_has ls 4 [(0, .ref (y.2 0 0)), (1, .int (p1)), (2, .int (p2))] := hl
  refine lv_aload_n hx hb dX1_gift_0 rfl (lv_at hl 0 rfl) ?_
  refine lv_iload_n hx hb dX1_gift_1 rfl (lv_at hl 1 rfl) ?_
  refine cex_qr (fw := fun u : Nat × Wd => u.2) (fy := fun _ => y) (P := (fun (u : Nat × Wd) ra => ra = y.2 9 u.1 ∧ live y 9 u.1)) (crx_V (n := 1) (As := [.int (p1)]) (rest := []) ⟨hx, hb, hml, hown, hts⟩ hK hR (m_X1_companyOf hfl hW l0 h) q1176 q1178 qs22 q74 q1179 rfl rfl hd_X1_companyOf ⟨Nat.le_of_ble_eq_true rfl, Nat.le_of_ble_eq_true rfl⟩ (rv hK hR l0 (ci := 0) rfl rfl) rfl rfl hl.1 rfl (lv_room (Nat.le_of_ble_eq_true rfl)) dX1_gift_2 ⟨(Nat.le_of_ble_eq_true rfl), (Nat.le_of_ble_eq_true rfl)⟩) hR hS ht hlocks (Nat.le_of_ble_eq_true rfl) (Nat.le_of_ble_eq_true rfl) (fun u9 a_2 H locs h p9 hR _ hS => ?_)
  obtain ⟨i_2, w_2⟩ := u9
  obtain ⟨e9, lv_2⟩ := p9
  dsimp only at e9 lv_2
  subst e9
  refine lv_astore_n (lv' := [(3, .ref (y.2 9 i_2)), (0, .ref (y.2 0 0)), (1, .int (p1)), (2, .int (p2))]) hx hb dX1_gift_5 rfl hl (by decide) rfl (fun ls hl => ?_)
  refine lv_iload_n hx hb dX1_gift_6 rfl (lv_at hl 3 rfl) ?_
  refine lv_iconst (v := (1 : Int32)) hx hb dX1_gift_7 (by decide) ?_
  refine lv_sipush (v := (500 : Int32)) hx hb dX1_gift_8 (by decide) ?_
  refine ce_qi (fw := fun u => u) (fy := fun _ => y) (cr_S (n := 3) (As := [.int (p2), .int ((1 : Int32)), .int ((500 : Int32))]) (rest := []) ⟨hx, hb, hml, hown, hts⟩ hK hR (m_X1_isIn hW h) q790 q791 q74 q792 rfl rfl hds_X1_isIn ⟨Nat.le_of_ble_eq_true rfl, Nat.le_of_ble_eq_true rfl⟩ rfl rfl hl.1 rfl (lv_room (Nat.le_of_ble_eq_true rfl)) dX1_gift_11 ⟨(Nat.le_of_ble_eq_true rfl), (Nat.le_of_ble_eq_true rfl)⟩) hR hS (fun r_11 w_11 H locs h hR _ hS => ?_)
  refine jr_ldcS (own := "Publicanry") (k := 245) (tx := "amount") (n := 1245) hx hb hown hK (List.mem_of_getElem? (i := 8) rfl) dX1_gift_14 ?_
  refine cex_qv (fw := fun u => u) (fy := fun _ => y) (crx_S (n := 2) (As := [.int (r_11), .ref (kA κ 1245)]) (rest := []) ⟨hx, hb, hml, hown, hts⟩ hK hR (m_X1_check hfl hW h) q794 q795 q74 q796 rfl rfl hds_X1_check ⟨Nat.le_of_ble_eq_true rfl, Nat.le_of_ble_eq_true rfl⟩ rfl rfl hl.1 rfl (lv_room (Nat.le_of_ble_eq_true rfl)) dX1_gift_16 ⟨(Nat.le_of_ble_eq_true rfl), (Nat.le_of_ble_eq_true rfl)⟩) hR hS ht hlocks (Nat.le_of_ble_eq_true rfl) (Nat.le_of_ble_eq_true rfl) (fun w_16 H locs h hR _ hS => ?_)
  refine lv_aload_n hx hb dX1_gift_19 rfl (lv_at hl 0 rfl) ?_
  refine g9_1 hx hb hts hown hK hR lv_2 q1124 dX1_gift_20 ?_
  refine lv_iload_n hx hb dX1_gift_23 rfl (lv_at hl 3 rfl) ?_
  refine ce_qi (fw := fun u => u) (fy := fun _ => y) (cr_V (n := 1) (As := [.int (p2)]) (rest := []) ⟨hx, hb, hml, hown, hts⟩ hK hR (m_X2_hasAll hW (hW.cch lv_2) h) q1208 q1209 q1210 q78 q1215 rfl rfl hd_X2_hasAll ⟨Nat.le_of_ble_eq_true rfl, Nat.le_of_ble_eq_true rfl⟩ (rv_ch1 hK hR (hW.cch lv_2) (by omega)) rfl rfl hl.1 rfl (lv_room (Nat.le_of_ble_eq_true rfl)) dX1_gift_24 ⟨(Nat.le_of_ble_eq_true rfl), (Nat.le_of_ble_eq_true rfl)⟩) hR hS (fun r_24 w_24 H locs h hR _ hS => ?_)
  refine jr_ldcS (own := "Publicanry") (k := 253) (tx := "chest") (n := 1253) hx hb hown hK (List.mem_of_getElem? (i := 9) rfl) dX1_gift_27 ?_
  refine cex_qv (fw := fun u => u) (fy := fun _ => y) (crx_S (n := 2) (As := [.int (r_24), .ref (kA κ 1253)]) (rest := []) ⟨hx, hb, hml, hown, hts⟩ hK hR (m_X1_state hfl hW h) q813 q814 q74 q815 rfl rfl hds_X1_state ⟨Nat.le_of_ble_eq_true rfl, Nat.le_of_ble_eq_true rfl⟩ rfl rfl hl.1 rfl (lv_room (Nat.le_of_ble_eq_true rfl)) dX1_gift_29 ⟨(Nat.le_of_ble_eq_true rfl), (Nat.le_of_ble_eq_true rfl)⟩) hR hS ht hlocks (Nat.le_of_ble_eq_true rfl) (Nat.le_of_ble_eq_true rfl) (fun w_29 H locs h hR _ hS => ?_)
  refine lv_aload_n hx hb dX1_gift_32 rfl (lv_at hl 0 rfl) ?_
  refine g9_1 hx hb hts hown hK hR lv_2 q1124 dX1_gift_33 ?_
  refine lv_aload_n hx hb dX1_gift_36 rfl (lv_at hl 1 rfl) ?_
  refine g0_6 hx hb hts hown hK hR l0 q253 dX1_gift_37 ?_
  refine g2_0 hx hb hts hown hK hR hW.gov q187 dX1_gift_40 ?_
  refine lv_iload_n hx hb dX1_gift_43 rfl (lv_at hl 3 rfl) ?_
  refine ce_qi (fw := fun u => u) (fy := fun _ => y) (cr_V (n := 2) (As := [.ref (y.2 1 2), .int (p2)]) (rest := []) ⟨hx, hb, hml, hown, hts⟩ hK hR (m_X2_pay hW (hW.cch lv_2) hW.goc (by first | omega | assumption) h) q306 q307 q308 q78 q320 rfl rfl hd_X2_pay ⟨Nat.le_of_ble_eq_true rfl, Nat.le_of_ble_eq_true rfl⟩ (rv_ch1 hK hR (hW.cch lv_2) (by omega)) rfl rfl hl.1 rfl (lv_room (Nat.le_of_ble_eq_true rfl)) dX1_gift_44 ⟨(Nat.le_of_ble_eq_true rfl), (Nat.le_of_ble_eq_true rfl)⟩) hR hS (fun r_44 w_44 H locs h hR _ hS => ?_)
  refine lv_pop hx hb dX1_gift_47 rfl ?_
  refine lv_aload_n hx hb dX1_gift_48 rfl (lv_at hl 0 rfl) ?_
  refine lv_dup hx hb dX1_gift_49 rfl ?_
  refine g9_8 hx hb hts hown hK hR lv_2 q1137 dX1_gift_50 ?_
  refine lv_iload_n hx hb dX1_gift_53 rfl (lv_at hl 3 rfl) ?_
  refine lv_iadd hx hb dX1_gift_54 ?_
  refine p9_8 hx hb hts hown hK hR hS lv_2 q1137 dX1_gift_55 (fun H locs w_55 ew_55 hR hS => ?_)
  have h := h w_55 ew_55
  refine lv_aload_n hx hb dX1_gift_58 rfl (lv_at hl 0 rfl) ?_
  refine g9_8 hx hb hts hown hK hR lv_2 q1137 dX1_gift_59 ?_
  refine W.widen (k := 3) (n := 18) (Nat.le_of_ble_eq_true rfl) (Nat.le_of_ble_eq_true rfl) ?_
  refine vx_ret ?_; exact W.iret (v := gv w_55 9 i_2 8) hx hb hr (fun t ht hW9 => ⟨⟨gv w_55 9 i_2 8, w_55, rfl, h, rpt ht hR⟩, hS.F ht⟩) hS.2.2 dX1_gift_62
abbrev rm_X1_quarter : Room := { frames := 8, cells := 1, slots := 6, locals := 133 }
def sp_X1_quarter (κ : Kx) (y : Ly) (post : Int32 → Wd → Prop) (px : String → Wd → Prop) (w : Wd) (p1 : Int32) : Prop := sp_X1_villageOf κ y (fun i_2 w_2 => sp_X2_pay κ y (fun r_21 w_21 => ((gv w_21 6 i_2 6 ≤ r_21) → (post (r_21) w_21)) ∧ ((¬ (gv w_21 6 i_2 6 ≤ r_21)) → (sp_X10_stir κ y (fun w_35 => post (r_21) w_35) w_21 i_2 (3 : Int32)))) w_2 (((3 + i_2))) 2 (gv w_2 6 i_2 6)) px w p1
theorem hd_X1_quarter : yX1_quarter.cls = RX1 ∧ yX1_quarter.cls ≠ "java/lang/invoke/MethodHandle" ∧ yX1_quarter.cls ≠ "java/lang/invoke/VarHandle" ∧ (parseMethodDescriptor yX1_quarter.desc).map (fun d => d.parameters.length) = some 1 := by decide +kernel
set_option maxHeartbeats 4000000 in
theorem m_X1_quarter {l : Launch} {κ : Kx} {y : Ly} {X : XR} {post : Int32 → Wd → Prop} {px : String → Wd → Prop} {w : Wd} {p1 : Int32}  (hfl : l.stackTraces = false) (hW : WFc κ y) (l0 : live y 0 0) (h : sp_X1_quarter κ y post px w p1) : vx_Met l yX1_quarter (ws_ yX1_quarter cX1_quarter 4 (Option.some Jvm.ClassFile.FieldType.int)) rm_X1_quarter (va_Pc [.ref (y.2 0 0), .int (p1)] (RC κ w y X)) (va_Qi post (fun w t => Rp κ w y X [] t.heap) (Af κ)) (XCk κ y X px) 1 6 (Af κ) := by
  unfold sp_X1_quarter at h
  refine vx_ofW (cc := cX1_quarter) (maxL := 4) (ret := (Option.some Jvm.ClassFile.FieldType.int)) (by decide) rfl ?_
  intro p e s m args below meth c s₁ B hml ht hv
  obtain ⟨rfl, hR, hK⟩ := hv
  have hx := B.exec
  have hb := B.bytes
  have hr := B.returns
  have hts := atoms_spec (ws := ws_ yX1_quarter cX1_quarter 4 (Option.some Jvm.ClassFile.FieldType.int)) B.pre
  have hts : ∀ w ∈ lw_all, w.before _ s = true := fun w h => hts w (List.mem_cons_of_mem _ h)
  have hown : s.vm.findClass RX1 = some m.cls := findClass_of_methodNamed B.named
  have hlocks := B.notSynchronized
  have hR0 := hR
  have hS : va_S (Af κ) s.heap s.heap [] := va_S.rf
  have hl := lv_entry ([.ref (y.2 0 0), .int (p1)]) (n := 4) (Nat.le_of_ble_eq_true rfl)
  rw [lg_entry_eq]
  generalize (lg_sl ([.ref (y.2 0 0), .int (p1)]) ++ List.replicate (4 - (lg_sl ([.ref (y.2 0 0), .int (p1)])).length) Slot.unset).toArray = ls at hl ⊢
  have hl : lv_has ls 4 [(0, .ref (y.2 0 0)), (1, .int (p1))] := hl
  refine lv_aload_n hx hb dX1_quarter_0 rfl (lv_at hl 0 rfl) ?_
  refine lv_iload_n hx hb dX1_quarter_1 rfl (lv_at hl 1 rfl) ?_
  refine cex_qr (fw := fun u : Nat × Wd => u.2) (fy := fun _ => y) (P := (fun (u : Nat × Wd) ra => ra = y.2 6 u.1 ∧ live y 6 u.1)) (crx_V (n := 1) (As := [.int (p1)]) (rest := []) ⟨hx, hb, hml, hown, hts⟩ hK hR (m_X1_villageOf hfl hW l0 h) q1029 q1031 qs20 q74 q1032 rfl rfl hd_X1_villageOf ⟨Nat.le_of_ble_eq_true rfl, Nat.le_of_ble_eq_true rfl⟩ (rv hK hR l0 (ci := 0) rfl rfl) rfl rfl hl.1 rfl (lv_room (Nat.le_of_ble_eq_true rfl)) dX1_quarter_2 ⟨(Nat.le_of_ble_eq_true rfl), (Nat.le_of_ble_eq_true rfl)⟩) hR hS ht hlocks (Nat.le_of_ble_eq_true rfl) (Nat.le_of_ble_eq_true rfl) (fun u9 a_2 H locs h p9 hR _ hS => ?_)
  obtain ⟨i_2, w_2⟩ := u9
  obtain ⟨e9, lv_2⟩ := p9
  dsimp only at e9 lv_2
  subst e9
  refine lv_astore_n (lv' := [(2, .ref (y.2 6 i_2)), (0, .ref (y.2 0 0)), (1, .int (p1))]) hx hb dX1_quarter_5 rfl hl (by decide) rfl (fun ls hl => ?_)
  refine lv_aload_n hx hb dX1_quarter_6 rfl (lv_at hl 0 rfl) ?_
  refine g6_2 hx hb hts hown hK hR lv_2 q925 dX1_quarter_7 ?_
  refine lv_aload_n hx hb dX1_quarter_10 rfl (lv_at hl 1 rfl) ?_
  refine g0_6 hx hb hts hown hK hR l0 q253 dX1_quarter_11 ?_
  refine g2_0 hx hb hts hown hK hR hW.gov q187 dX1_quarter_14 ?_
  refine lv_aload_n hx hb dX1_quarter_17 rfl (lv_at hl 0 rfl) ?_
  refine g6_6 hx hb hts hown hK hR lv_2 q932 dX1_quarter_18 ?_
  refine ce_qi (fw := fun u => u) (fy := fun _ => y) (cr_V (n := 2) (As := [.ref (y.2 1 2), .int (gv w_2 6 i_2 6)]) (rest := []) ⟨hx, hb, hml, hown, hts⟩ hK hR (m_X2_pay hW (hW.vch lv_2) hW.goc (by first | omega | assumption) h) q306 q307 q308 q78 q320 rfl rfl hd_X2_pay ⟨Nat.le_of_ble_eq_true rfl, Nat.le_of_ble_eq_true rfl⟩ (rv_ch1 hK hR (hW.vch lv_2) (by omega)) rfl rfl hl.1 rfl (lv_room (Nat.le_of_ble_eq_true rfl)) dX1_quarter_21 ⟨(Nat.le_of_ble_eq_true rfl), (Nat.le_of_ble_eq_true rfl)⟩) hR hS (fun r_21 w_21 H locs h hR _ hS => ?_)
  refine lv_istore_n (lv' := [(3, .int (r_21)), (2, .ref (y.2 6 i_2)), (0, .ref (y.2 0 0)), (1, .int (p1))]) hx hb dX1_quarter_24 rfl hl (by decide) rfl (fun ls hl => ?_)
  refine lv_iload_n hx hb dX1_quarter_25 rfl (lv_at hl 0 rfl) ?_
  refine lv_aload_n hx hb dX1_quarter_26 rfl (lv_at hl 1 rfl) ?_
  refine g6_6 hx hb hts hown hK hR lv_2 q932 dX1_quarter_27 ?_
  refine lv_icmp_ge (tgt := 38) hx hb dX1_quarter_30 (by decide) (fun c_30 => ?_) (fun c_30 => ?_)
  · have h := h.1 c_30
    refine lv_iload_n hx hb dX1_quarter_38 rfl (lv_at hl 0 rfl) ?_
    refine W.widen (k := 1) (n := 6) (Nat.le_of_ble_eq_true rfl) (Nat.le_of_ble_eq_true rfl) ?_
    refine vx_ret ?_; exact W.iret (v := r_21) hx hb hr (fun t ht hW9 => ⟨⟨r_21, w_21, rfl, h, rpt ht hR⟩, hS.F ht⟩) hS.2.2 dX1_quarter_39
  · have h := h.2 c_30
    refine lv_aload_n hx hb dX1_quarter_33 rfl (lv_at hl 1 rfl) ?_
    refine lv_iconst (v := (3 : Int32)) hx hb dX1_quarter_34 (by decide) ?_
    refine ce_qv (fw := fun u => u) (fy := fun _ => y) (cr_V (n := 1) (As := [.int ((3 : Int32))]) (rest := []) ⟨hx, hb, hml, hown, hts⟩ hK hR (m_X10_stir hW lv_2 h) q1442 q1443 q1444 q92 q1445 rfl rfl hd_X10_stir ⟨Nat.le_of_ble_eq_true rfl, Nat.le_of_ble_eq_true rfl⟩ (rv hK hR lv_2 (ci := 6) rfl rfl) rfl rfl hl.1 rfl (lv_room (Nat.le_of_ble_eq_true rfl)) dX1_quarter_35 ⟨(Nat.le_of_ble_eq_true rfl), (Nat.le_of_ble_eq_true rfl)⟩) hR hS (fun w_35 H locs h hR _ hS => ?_)
    refine lv_iload_n hx hb dX1_quarter_38 rfl (lv_at hl 0 rfl) ?_
    refine W.widen (k := 1) (n := 6) (Nat.le_of_ble_eq_true rfl) (Nat.le_of_ble_eq_true rfl) ?_
    refine vx_ret ?_; exact W.iret (v := r_21) hx hb hr (fun t ht hW9 => ⟨⟨r_21, w_35, rfl, h, rpt ht hR⟩, hS.F ht⟩) hS.2.2 dX1_quarter_39
abbrev rm_X1_remit : Room := { frames := 8, cells := 3, slots := 16, locals := 133 }
def st_X1_remit_62 (κ : Kx) (y : Ly) (post : Int32 → Wd → Prop) (px : String → Wd → Prop) (ex : Wd → (Int32) → Prop) (rec : Wd → Int32 → Nat → Int32 → Prop) (i2 : Nat) (w : Wd) (v3 : Int32) (c4 : Nat) (z4 : Int32) : Prop := ((¬ (¬ c4 = nV y)) → (ex w v3)) ∧ (((¬ c4 = nV y)) → (sp_X1_has κ y (fun r_94 w_94 => ∀ j113 : Wd → Int32 → Int32 → Prop, (j113 = fun (w113 : Wd) (s0_113 : Int32) (s1_113 : Int32) => sp_X1_one κ y (fun r_113 w_113 => ∀ x_117 : Int32, x_117 = s1_113 + r_113 → rec w_113 x_117 (c4 + 1) (nI c4)) w113 s0_113) → (((r_94 = 0) → (j113 w_94 (0 : Int32) v3)) ∧ ((¬ (r_94 = 0)) → (sp_X1_isBad κ y (fun r_102 w_102 => ((r_102 = 0) → (j113 w_102 (0 : Int32) v3)) ∧ ((¬ (r_102 = 0)) → (j113 w_102 (1 : Int32) v3))) w_94 c4)))) w (gv w 11 i2 2) (nI c4)))
def sp_X1_remit_62 (κ : Kx) (y : Ly) (post : Int32 → Wd → Prop) (px : String → Wd → Prop) (ex : Wd → (Int32) → Prop) (i2 : Nat) : Nat → Wd → Int32 → Nat → Int32 → Prop
  | 0 => fun _ _ _ _ => False
  | n + 1 => fun w v3 c4 z4 => st_X1_remit_62 κ y post px ex (sp_X1_remit_62 κ y post px ex i2 n) i2 w v3 c4 z4
set_option maxHeartbeats 4000000 in
theorem lp_X1_remit_62 {p : Program} {l : Launch} {e : Env} {s : State} {m : MethodId} {args : Array Value} {below : List Frame} {meth : Method} {c : Code} {κ : Kx} {y : Ly} {X : XR} {post : Int32 → Wd → Prop} {px : String → Wd → Prop} {q4 : Nat} {i2 : Nat} (hx : p.tables.exec = Jvm.exec) (hb : c.code = cX1_remit) (hr : meth.sig.returnType = (Option.some Jvm.ClassFile.FieldType.int)) (hml : c.maxLocals = 6) (hown : s.vm.findClass RX1 = some m.cls) (hts : ∀ w ∈ lw_all, w.before args s = true) (hlocks : meth.locks = false) (hK : KK κ s) (hW : WFc κ y) (hfl : l.stackTraces = false) (ht : ∀ x ∈ c.exceptionTable.toList, False) {w0 : Wd} (hR0 : Rp κ w0 y X [] s.heap) (l0 : live y 0 0) (l2 : live y 11 i2) {C1 S1 : Nat} (hC : C1 ≤ 3) (hSl : S1 ≤ 16) {ex : Wd → (Int32) → Prop}
    (kx : ∀ (w : Wd) (v3 : Int32) (H : Heap) (locs : List Loc) (ls : Array Slot) (cells slots : Nat) , ex w v3 → Rp κ w y X [] H → va_S (Af κ) s.heap H locs → lv_has ls 6 [(0, .ref (y.2 0 0)), (2, .ref (y.2 11 i2)), (3, .int (v3))] → cells ≤ C1 → slots ≤ S1 → W p l e (headSpec (ws_ yX1_remit cX1_remit 6 (Option.some Jvm.ClassFile.FieldType.int)) rm_X1_remit).room s m args below meth c H locs cells slots (vx_MQ below (va_Qi post (fun w t => Rp κ w y X [] t.heap) (Af κ)) (XCk κ y X px) args s 3 16 (Af κ)) (F0 m 121 ls [])) :
    ∀ (f : Nat) (w : Wd) (v3 : Int32) (c4 : Nat) (z4 : Int32) (H : Heap) (locs : List Loc) (ls : Array Slot) (cells slots : Nat)  (hc4 : c4 ≤ nV y), sp_X1_remit_62 κ y post px ex i2 f w v3 c4 z4 → Rp κ w y X [(q4, itC y 40 0 c4 z4)] H → va_S (Af κ) s.heap H locs → lv_has ls 6 [(0, .ref (y.2 0 0)), (2, .ref (y.2 11 i2)), (3, .int (v3)), (4, .ref (q4))] → cells + f * 0 ≤ C1 → slots + f * 0 ≤ S1 → W p l e (headSpec (ws_ yX1_remit cX1_remit 6 (Option.some Jvm.ClassFile.FieldType.int)) rm_X1_remit).room s m args below meth c H locs cells slots (vx_MQ below (va_Qi post (fun w t => Rp κ w y X [] t.heap) (Af κ)) (XCk κ y X px) args s 3 16 (Af κ)) (F0 m 62 ls []) := by
  intro f
  induction f with
  | zero =>
    intro w v3 c4 z4 H locs ls cells slots hc4 h
    exact False.elim h
  | succ f ih =>
    intro w v3 c4 z4 H locs ls cells slots hc4 h hR hS hl hc hs
    have h : st_X1_remit_62 κ y post px ex (sp_X1_remit_62 κ y post px ex i2 f) i2 w v3 c4 z4 := h
    unfold st_X1_remit_62 at h
    refine lv_aload hx hb dX1_remit_62 (lv_at hl 3 rfl) ?_
    refine jr_hasNext (t := 0) ⟨hx, hb, hml, hown, hts⟩ hK hR rfl ⟨fun _ _ _ _ _ => rfl, fun _ _ _ _ _ => rfl⟩ hW.lsV (by omega) (Nat.le_trans hW.nV8 (by decide)) q349 ⟨Nat.le_of_ble_eq_true rfl, Nat.le_of_ble_eq_true rfl⟩ hl.1 (Nat.le_of_ble_eq_true rfl) dX1_remit_64 ⟨(Nat.le_trans (show cells + 0 ≤ C1 from by omega) hC), (Nat.le_trans (show slots + 0 ≤ S1 from by omega) hSl)⟩ ?_
    refine lv_if_eq (tgt := 121) hx hb dX1_remit_69 (by decide) (fun c_69 => ?_) (fun c_69 => ?_)
    · replace c_69 : ¬ (¬ c4 = nV y) := bi_0.mp c_69
      have h := h.1 c_69
      have hR := hR.sub (L' := []) [] rfl rfl
      exact kx w v3 _ _ _ _ _ h hR hS (lv_sub hl [0, 1, 2] rfl) (by omega) (by omega)
    · replace c_69 : (¬ c4 = nV y) := bi_n0.mp c_69
      have h := h.2 c_69
      refine lv_aload hx hb dX1_remit_72 (lv_at hl 3 rfl) ?_
      have hn_74 : c4 < nV y := by omega
      refine jr_next (t := 0) (a := y.2 6 c4) ⟨hx, hb, hml, hown, hts⟩ hK hR hS rfl ⟨fun _ _ _ _ _ => rfl, fun _ _ _ _ _ => rfl⟩ hW.lsV ⟨hW.arV (Nat.lt_of_le_of_lt (Nat.zero_le _) hn_74), (Nat.le_trans hW.nV8 (by decide))⟩ hn_74 (hW.elV hn_74) q359 ⟨Nat.le_of_ble_eq_true rfl, Nat.le_of_ble_eq_true rfl⟩ hl.1 (Nat.le_of_ble_eq_true rfl) dX1_remit_74 ⟨(Nat.le_trans (show cells + 0 ≤ C1 from by omega) hC), (Nat.le_trans (show slots + 0 ≤ S1 from by omega) hSl)⟩ (fun H locs hR hS => ?_)
      have hR : Rp κ w y X [(q4, itC y 40 0 (c4 + 1) (nI c4))] H := hR
      refine jr_castS (ci := 6) hx hb hown hK hts (hR.role (hW.vil hn_74)) rfl q496 dX1_remit_79 ?_
      refine lv_astore (lv' := [(5, .ref (y.2 6 c4)), (0, .ref (y.2 0 0)), (2, .ref (y.2 11 i2)), (3, .int (v3)), (4, .ref (q4))]) hx hb dX1_remit_82 hl (by decide) rfl (fun ls hl => ?_)
      refine lv_iload_n hx hb dX1_remit_84 rfl (lv_at hl 3 rfl) ?_
      refine lv_aload_n hx hb dX1_remit_85 rfl (lv_at hl 2 rfl) ?_
      refine g11_2 hx hb hts hown hK hR l2 q1257 dX1_remit_86 ?_
      refine lv_aload hx hb dX1_remit_89 (lv_at hl 0 rfl) ?_
      refine g6_0 hx hb hts hown hK hR (hW.vil hn_74) q920 dX1_remit_91 ?_
      refine ce_qi (fw := fun u => u) (fy := fun _ => y) (cr_S (n := 2) (As := [.int (gv w 11 i2 2), .int (nI c4)]) (rest := [.int (v3)]) ⟨hx, hb, hml, hown, hts⟩ hK hR (m_X1_has hW h) q614 q615 q74 q616 rfl rfl hds_X1_has ⟨Nat.le_of_ble_eq_true rfl, Nat.le_of_ble_eq_true rfl⟩ rfl rfl hl.1 rfl (lv_room (Nat.le_of_ble_eq_true rfl)) dX1_remit_94 ⟨(Nat.le_trans (show cells + 0 ≤ C1 from by omega) hC), (Nat.le_trans (show slots + 0 ≤ S1 from by omega) hSl)⟩) hR hS (fun r_94 w_94 H locs h hR _ hS => ?_)
      refine jn_elim h (fun j113 ej113 h => ?_)
      have Jj113 : ∀ (w113 : Wd) (s0_113 : Int32) (s1_113 : Int32) (H : Heap) (locs : List Loc) (ls : Array Slot), j113 w113 s0_113 s1_113 → Rp κ w113 y X [(q4, itC y 40 0 (c4 + 1) (nI c4))] H → va_S (Af κ) s.heap H locs → lv_has ls 6 [(0, .ref (y.2 0 0)), (2, .ref (y.2 11 i2)), (4, .ref (q4))] → W p l e (headSpec (ws_ yX1_remit cX1_remit 6 (Option.some Jvm.ClassFile.FieldType.int)) rm_X1_remit).room s m args below meth c H locs (cells + 0) (slots + 0) (vx_MQ below (va_Qi post (fun w t => Rp κ w y X [] t.heap) (Af κ)) (XCk κ y X px) args s 3 16 (Af κ)) (F0 m 113 ls [.int (s0_113), .int (s1_113)]) := by
        clear h
        intro w113 s0_113 s1_113 H locs ls h hR hS hl
        subst ej113
        refine ce_qi (fw := fun u => u) (fy := fun _ => y) (cr_S (n := 1) (As := [.int (s0_113)]) (rest := [.int (s1_113)]) ⟨hx, hb, hml, hown, hts⟩ hK hR (m_X1_one hW h) q548 q549 q74 q550 rfl rfl hds_X1_one ⟨Nat.le_of_ble_eq_true rfl, Nat.le_of_ble_eq_true rfl⟩ rfl rfl hl.1 rfl (lv_room (Nat.le_of_ble_eq_true rfl)) dX1_remit_113 ⟨(Nat.le_trans (show cells + 0 ≤ C1 from by omega) hC), (Nat.le_trans (show slots + 0 ≤ S1 from by omega) hSl)⟩) hR hS (fun r_113 w_113 H locs h hR _ hS => ?_)
        refine lv_iadd hx hb dX1_remit_116 ?_
        refine lv_topi (fun x_117 ex_117 => ?_)
        have h := h x_117 ex_117
        refine lv_istore_n (lv' := [(3, .int (x_117)), (0, .ref (y.2 0 0)), (2, .ref (y.2 11 i2)), (4, .ref (q4))]) hx hb dX1_remit_117 rfl hl (by decide) rfl (fun ls hl => ?_)
        refine lv_goto (tgt := 62) hx hb dX1_remit_118 (by decide) ?_
        exact ih w_113 x_117 (c4 + 1) (nI c4) _ _ _ _ _ (by omega) h hR hS (lv_sub hl [1, 2, 0, 3] rfl) (by omega) (by omega)
      refine lv_if_eq (tgt := 112) hx hb dX1_remit_97 (by decide) (fun c_97 => ?_) (fun c_97 => ?_)
      · have h := h.1 c_97
        refine lv_iconst (v := (0 : Int32)) hx hb dX1_remit_112 (by decide) ?_
        refine W.widen (k := cells + 0) (n := slots + 0) (by omega) (by omega) ?_
        exact Jj113 w_94 (0 : Int32) v3 _ _ _ h hR hS (lv_sub hl [1, 2, 4] rfl)
      · have h := h.2 c_97
        refine lv_aload hx hb dX1_remit_100 (lv_at hl 0 rfl) ?_
        refine ce_qi (fw := fun u => u) (fy := fun _ => y) (cr_S (n := 1) (As := [.ref (y.2 6 c4)]) (rest := [.int (v3)]) ⟨hx, hb, hml, hown, hts⟩ hK hR (m_X1_isBad hW (hW.vil hn_74) h) q1484 q1485 q74 q1486 rfl rfl hds_X1_isBad ⟨Nat.le_of_ble_eq_true rfl, Nat.le_of_ble_eq_true rfl⟩ rfl rfl hl.1 rfl (lv_room (Nat.le_of_ble_eq_true rfl)) dX1_remit_102 ⟨(Nat.le_trans (show cells + 0 ≤ C1 from by omega) hC), (Nat.le_trans (show slots + 0 ≤ S1 from by omega) hSl)⟩) hR hS (fun r_102 w_102 H locs h hR _ hS => ?_)
        refine lv_if_eq (tgt := 112) hx hb dX1_remit_105 (by decide) (fun c_105 => ?_) (fun c_105 => ?_)
        · have h := h.1 c_105
          refine lv_iconst (v := (0 : Int32)) hx hb dX1_remit_112 (by decide) ?_
          refine W.widen (k := cells + 0) (n := slots + 0) (by omega) (by omega) ?_
          exact Jj113 w_102 (0 : Int32) v3 _ _ _ h hR hS (lv_sub hl [1, 2, 4] rfl)
        · have h := h.2 c_105
          refine lv_iconst (v := (1 : Int32)) hx hb dX1_remit_108 (by decide) ?_
          refine lv_goto (tgt := 113) hx hb dX1_remit_109 (by decide) ?_
          refine W.widen (k := cells + 0) (n := slots + 0) (by omega) (by omega) ?_
          exact Jj113 w_102 (1 : Int32) v3 _ _ _ h hR hS (lv_sub hl [1, 2, 4] rfl)
def sp_X1_remit (κ : Kx) (y : Ly) (post : Int32 → Wd → Prop) (px : String → Wd → Prop) (w : Wd) (p1 : Int32) : Prop := sp_X1_lotOf κ y (fun i_2 w_2 => sp_X15_isLeased κ y (fun r_7 w_7 => ∀ j37 : Wd → Int32 → Prop, (j37 = fun (w37 : Wd) (s0_37 : Int32) => sp_X1_state κ y (fun w_40 => sp_X1_year κ y (fun r_45 w_45 => ∀ w_48 : Wd, w_48 = sv w_45 11 i_2 14 (r_45) → sp_X1_remit_62 κ y post px (fun w_62 y3_62 => (¬ gv w_62 11 i_2 3 = 0) ∧ (sp_J20_bitCount κ y (fun r_136 w_136 => (¬ r_136 = 0) ∧ (∀ x_140 : Int32, x_140 = (((gv w_62 11 i_2 9) / (gv w_62 11 i_2 3)) * y3_62) / r_136 → (y.1 14 i_2 = 1 ∧ live y 9 (gv w_136 14 i_2 0).toNatClampNeg) ∧ (sp_X4_does κ y (fun r_158 w_158 => ∀ j173 : Wd → Int32 → Prop, (j173 = fun (w173 : Wd) (v4_173 : Int32) => ∀ w_181 : Wd, w_181 = sv w173 11 i_2 13 ((gv w173 11 i_2 13) + v4_173) → post (v4_173) w_181) → (((r_158 = 0) → (j173 w_158 x_140)) ∧ ((¬ (r_158 = 0)) → (∀ x_171 : Int32, x_171 = x_140 + (x_140 / (2 : Int32)) → j173 w_158 x_171)))) w_136 (((gv w_136 14 i_2 0).toNatClampNeg)) (20 : Int32)))) w_62 (gv w_62 11 i_2 2))) i_2 9 w_48 (0 : Int32) 0 (-1)) w_40 ) px w37 s0_37) → (((r_7 = 0) → (j37 w_7 (0 : Int32))) ∧ ((¬ (r_7 = 0)) → (sp_X1_part κ y (fun r_14 w_14 => ((¬ r_14 = (3 : Int32)) → (j37 w_14 (0 : Int32))) ∧ ((r_14 = (3 : Int32)) → (sp_X1_year κ y (fun r_26 w_26 => ((gv w_14 11 i_2 14 = r_26) → (j37 w_26 (0 : Int32))) ∧ ((¬ (gv w_14 11 i_2 14 = r_26)) → (j37 w_26 (1 : Int32)))) w_14 ))) w_7 )))) w_2 i_2) px w p1
theorem hd_X1_remit : yX1_remit.cls = RX1 ∧ yX1_remit.cls ≠ "java/lang/invoke/MethodHandle" ∧ yX1_remit.cls ≠ "java/lang/invoke/VarHandle" ∧ (parseMethodDescriptor yX1_remit.desc).map (fun d => d.parameters.length) = some 1 := by decide +kernel
set_option maxHeartbeats 4000000 in
theorem m_X1_remit {l : Launch} {κ : Kx} {y : Ly} {X : XR} {post : Int32 → Wd → Prop} {px : String → Wd → Prop} {w : Wd} {p1 : Int32}  (hfl : l.stackTraces = false) (hW : WFc κ y) (l0 : live y 0 0) (h : sp_X1_remit κ y post px w p1) : vx_Met l yX1_remit (ws_ yX1_remit cX1_remit 6 (Option.some Jvm.ClassFile.FieldType.int)) rm_X1_remit (va_Pc [.ref (y.2 0 0), .int (p1)] (RC κ w y X)) (va_Qi post (fun w t => Rp κ w y X [] t.heap) (Af κ)) (XCk κ y X px) 3 16 (Af κ) := by
  unfold sp_X1_remit at h
  refine vx_ofW (cc := cX1_remit) (maxL := 6) (ret := (Option.some Jvm.ClassFile.FieldType.int)) (by decide) rfl ?_
  intro p e s m args below meth c s₁ B hml ht hv
  obtain ⟨rfl, hR, hK⟩ := hv
  have hx := B.exec
  have hb := B.bytes
  have hr := B.returns
  have hts := atoms_spec (ws := ws_ yX1_remit cX1_remit 6 (Option.some Jvm.ClassFile.FieldType.int)) B.pre
  have hts : ∀ w ∈ lw_all, w.before _ s = true := fun w h => hts w (List.mem_cons_of_mem _ h)
  have hown : s.vm.findClass RX1 = some m.cls := findClass_of_methodNamed B.named
  have hlocks := B.notSynchronized
  have hR0 := hR
  have hS : va_S (Af κ) s.heap s.heap [] := va_S.rf
  have hl := lv_entry ([.ref (y.2 0 0), .int (p1)]) (n := 6) (Nat.le_of_ble_eq_true rfl)
  rw [lg_entry_eq]
  generalize (lg_sl ([.ref (y.2 0 0), .int (p1)]) ++ List.replicate (6 - (lg_sl ([.ref (y.2 0 0), .int (p1)])).length) Slot.unset).toArray = ls at hl ⊢
  have hl : lv_has ls 6 [(0, .ref (y.2 0 0)), (1, .int (p1))] := hl
  refine lv_aload_n hx hb dX1_remit_0 rfl (lv_at hl 0 rfl) ?_
  refine lv_iload_n hx hb dX1_remit_1 rfl (lv_at hl 1 rfl) ?_
  refine cex_qr (fw := fun u : Nat × Wd => u.2) (fy := fun _ => y) (P := (fun (u : Nat × Wd) ra => ra = y.2 11 u.1 ∧ live y 11 u.1)) (crx_V (n := 1) (As := [.int (p1)]) (rest := []) ⟨hx, hb, hml, hown, hts⟩ hK hR (m_X1_lotOf hfl hW l0 h) q1317 q1319 qs24 q74 q1320 rfl rfl hd_X1_lotOf ⟨Nat.le_of_ble_eq_true rfl, Nat.le_of_ble_eq_true rfl⟩ (rv hK hR l0 (ci := 0) rfl rfl) rfl rfl hl.1 rfl (lv_room (Nat.le_of_ble_eq_true rfl)) dX1_remit_2 ⟨(Nat.le_of_ble_eq_true rfl), (Nat.le_of_ble_eq_true rfl)⟩) hR hS ht hlocks (Nat.le_of_ble_eq_true rfl) (Nat.le_of_ble_eq_true rfl) (fun u9 a_2 H locs h p9 hR _ hS => ?_)
  obtain ⟨i_2, w_2⟩ := u9
  obtain ⟨e9, lv_2⟩ := p9
  dsimp only at e9 lv_2
  subst e9
  refine lv_astore_n (lv' := [(2, .ref (y.2 11 i_2)), (0, .ref (y.2 0 0)), (1, .int (p1))]) hx hb dX1_remit_5 rfl hl (by decide) rfl (fun ls hl => ?_)
  refine lv_aload_n hx hb dX1_remit_6 rfl (lv_at hl 0 rfl) ?_
  refine ce_qi (fw := fun u => u) (fy := fun _ => y) (cr_V (n := 0) (As := []) (rest := []) ⟨hx, hb, hml, hown, hts⟩ hK hR (m_X15_isLeased hW lv_2 h) q515 q516 q517 q112 q518 rfl rfl hd_X15_isLeased ⟨Nat.le_of_ble_eq_true rfl, Nat.le_of_ble_eq_true rfl⟩ (rv hK hR lv_2 (ci := 9) rfl rfl) rfl rfl hl.1 rfl (lv_room (Nat.le_of_ble_eq_true rfl)) dX1_remit_7 ⟨(Nat.le_of_ble_eq_true rfl), (Nat.le_of_ble_eq_true rfl)⟩) hR hS (fun r_7 w_7 H locs h hR _ hS => ?_)
  refine jn_elim h (fun j37 ej37 h => ?_)
  have Jj37 : ∀ (w37 : Wd) (s0_37 : Int32) (H : Heap) (locs : List Loc) (ls : Array Slot), j37 w37 s0_37 → Rp κ w37 y X [] H → va_S (Af κ) s.heap H locs → lv_has ls 6 [(2, .ref (y.2 11 i_2)), (0, .ref (y.2 0 0))] → W p l e (headSpec (ws_ yX1_remit cX1_remit 6 (Option.some Jvm.ClassFile.FieldType.int)) rm_X1_remit).room s m ([.ref (y.2 0 0), .int (p1)] : List Value).toArray below meth c H locs (1) (6) (vx_MQ below (va_Qi post (fun w t => Rp κ w y X [] t.heap) (Af κ)) (XCk κ y X px) ([.ref (y.2 0 0), .int (p1)] : List Value).toArray s 3 16 (Af κ)) (F0 m 37 ls [.int (s0_37)]) := by
    clear h
    intro w37 s0_37 H locs ls h hR hS hl
    subst ej37
    refine jr_ldcwS (own := "Publicanry") (k := 478) (tx := "remission") (n := 1478) hx hb hown hK (List.mem_of_getElem? (i := 19) rfl) dX1_remit_37 ?_
    refine cex_qv (fw := fun u => u) (fy := fun _ => y) (crx_S (n := 2) (As := [.int (s0_37), .ref (kA κ 1478)]) (rest := []) ⟨hx, hb, hml, hown, hts⟩ hK hR (m_X1_state hfl hW h) q813 q814 q74 q815 rfl rfl hds_X1_state ⟨Nat.le_of_ble_eq_true rfl, Nat.le_of_ble_eq_true rfl⟩ rfl rfl hl.1 rfl (lv_room (Nat.le_of_ble_eq_true rfl)) dX1_remit_40 ⟨(Nat.le_of_ble_eq_true rfl), (Nat.le_of_ble_eq_true rfl)⟩) hR hS ht hlocks (Nat.le_of_ble_eq_true rfl) (Nat.le_of_ble_eq_true rfl) (fun w_40 H locs h hR _ hS => ?_)
    refine lv_aload_n hx hb dX1_remit_43 rfl (lv_at hl 0 rfl) ?_
    refine lv_aload_n hx hb dX1_remit_44 rfl (lv_at hl 1 rfl) ?_
    refine ce_qi (fw := fun u => u) (fy := fun _ => y) (cr_V (n := 0) (As := []) (rest := [.ref (y.2 11 i_2)]) ⟨hx, hb, hml, hown, hts⟩ hK hR (m_X1_year hW l0 h) q532 q534 qs4 q74 q535 rfl rfl hd_X1_year ⟨Nat.le_of_ble_eq_true rfl, Nat.le_of_ble_eq_true rfl⟩ (rv hK hR l0 (ci := 0) rfl rfl) rfl rfl hl.1 rfl (lv_room (Nat.le_of_ble_eq_true rfl)) dX1_remit_45 ⟨(Nat.le_of_ble_eq_true rfl), (Nat.le_of_ble_eq_true rfl)⟩) hR hS (fun r_45 w_45 H locs h hR _ hS => ?_)
    refine p11_14 hx hb hts hown hK hR hS lv_2 q1278 dX1_remit_48 (fun H locs w_48 ew_48 hR hS => ?_)
    have h := h w_48 ew_48
    refine lv_iconst (v := (0 : Int32)) hx hb dX1_remit_51 (by decide) ?_
    refine lv_istore_n (lv' := [(3, .int ((0 : Int32))), (2, .ref (y.2 11 i_2)), (0, .ref (y.2 0 0))]) hx hb dX1_remit_52 rfl hl (by decide) rfl (fun ls hl => ?_)
    refine lv_aload_n hx hb dX1_remit_53 rfl (lv_at hl 2 rfl) ?_
    refine g0_0 hx hb hts hown hK hR l0 q247 dX1_remit_54 ?_
    refine jr_iter ⟨hx, hb, hml, hown, hts⟩ hK hR hS ⟨fun _ _ _ _ _ => rfl, fun _ _ _ _ _ => rfl⟩ hW.lsV q325 ⟨Nat.le_of_ble_eq_true rfl, Nat.le_of_ble_eq_true rfl⟩ hl.1 (Nat.le_of_ble_eq_true rfl) dX1_remit_57 ⟨(Nat.le_of_ble_eq_true rfl), (Nat.le_of_ble_eq_true rfl)⟩ (fun q_57 H locs hR hS => ?_)
    have hR : Rp κ w_48 y X [(q_57, itC y 40 0 0 (-1))] H := hR
    refine lv_astore (lv' := [(4, .ref (q_57)), (3, .int ((0 : Int32))), (2, .ref (y.2 11 i_2)), (0, .ref (y.2 0 0))]) hx hb dX1_remit_60 hl (by decide) rfl (fun ls hl => ?_)
    refine lp_X1_remit_62 (C1 := 3) (S1 := 16) hx hb hr hml hown hts hlocks hK hW hfl ht hR0 l0 lv_2 (Nat.le_of_ble_eq_true rfl) (Nat.le_of_ble_eq_true rfl) (fun w_62 y3_62 H locs ls cells9 slots9 h hR hS hl hc9 hs9 => ?_) 9 w_48 (0 : Int32) 0 (-1) _ _ _ _ _ (by omega) h hR hS (lv_sub hl [3, 2, 1, 0] rfl) (by omega) (by omega)
    refine W.widen (k := 3) (n := 16) hc9 hs9 ?_
    refine lv_aload_n hx hb dX1_remit_121 rfl (lv_at hl 1 rfl) ?_
    refine g11_9 hx hb hts hown hK hR lv_2 q1271 dX1_remit_122 ?_
    refine lv_aload_n hx hb dX1_remit_125 rfl (lv_at hl 1 rfl) ?_
    refine g11_3 hx hb hts hown hK hR lv_2 q1259 dX1_remit_126 ?_
    have o_129 := h.1
    have h := h.2
    refine lv_idiv hx hb dX1_remit_129 o_129 ?_
    refine lv_iload_n hx hb dX1_remit_130 rfl (lv_at hl 2 rfl) ?_
    refine lv_imul hx hb dX1_remit_131 ?_
    refine lv_aload_n hx hb dX1_remit_132 rfl (lv_at hl 1 rfl) ?_
    refine g11_2 hx hb hts hown hK hR lv_2 q1257 dX1_remit_133 ?_
    refine ce_qi (fw := fun u => u) (fy := fun _ => y) (cr_S (n := 1) (As := [.int (gv w_62 11 i_2 2)]) (rest := [.int (((gv w_62 11 i_2 9) / (gv w_62 11 i_2 3)) * y3_62)]) ⟨hx, hb, hml, hown, hts⟩ hK hR (m_J20_bitCount hW h) q1487 q1488 q110 q1489 rfl rfl hds_J20_bitCount ⟨Nat.le_of_ble_eq_true rfl, Nat.le_of_ble_eq_true rfl⟩ rfl rfl hl.1 rfl (lv_room (Nat.le_of_ble_eq_true rfl)) dX1_remit_136 ⟨(Nat.le_of_ble_eq_true rfl), (Nat.le_of_ble_eq_true rfl)⟩) hR hS (fun r_136 w_136 H locs h hR _ hS => ?_)
    have o_139 := h.1
    have h := h.2
    refine lv_idiv hx hb dX1_remit_139 o_139 ?_
    refine lv_topi (fun x_140 ex_140 => ?_)
    have h := h x_140 ex_140
    refine lv_istore (lv' := [(4, .int (x_140)), (0, .ref (y.2 0 0)), (2, .ref (y.2 11 i_2)), (3, .int (y3_62))]) hx hb dX1_remit_140 hl (by decide) rfl (fun ls hl => ?_)
    refine lv_aload_n hx hb dX1_remit_142 rfl (lv_at hl 1 rfl) ?_
    refine g0_6 hx hb hts hown hK hR l0 q253 dX1_remit_143 ?_
    refine lv_aload_n hx hb dX1_remit_146 rfl (lv_at hl 2 rfl) ?_
    refine g11_8 hx hb hts hown hK hR lv_2 q1269 dX1_remit_147 ?_
    have o_150 := h.1
    have h := h.2
    refine jr_oget (z := y.2 9 ((gv w_136 14 i_2 0).toNatClampNeg)) ⟨hx, hb, hml, hown, hts⟩ hK (ho_at hK hR i_2) (if_pos o_150.1) q519 ⟨Nat.le_of_ble_eq_true rfl, Nat.le_of_ble_eq_true rfl⟩ hl.1 (Nat.le_of_ble_eq_true rfl) dX1_remit_150 ⟨(Nat.le_of_ble_eq_true rfl), (Nat.le_of_ble_eq_true rfl)⟩ ?_
    refine jr_castS (ci := 7) hx hb hown hK hts (hR.role o_150.2) rfl q371 dX1_remit_153 ?_
    refine lv_bipush (v := (20 : Int32)) hx hb dX1_remit_156 (by decide) ?_
    refine ce_qi (fw := fun u => u) (fy := fun _ => y) (cr_V (n := 2) (As := [.ref (y.2 9 ((gv w_136 14 i_2 0).toNatClampNeg)), .int ((20 : Int32))]) (rest := []) ⟨hx, hb, hml, hown, hts⟩ hK hR (m_X4_does hW hW.gov o_150.2 h) q1446 q1447 q1448 q80 q1449 rfl rfl hd_X4_does ⟨Nat.le_of_ble_eq_true rfl, Nat.le_of_ble_eq_true rfl⟩ (rv hK hR hW.gov (ci := 3) rfl rfl) rfl rfl hl.1 rfl (lv_room (Nat.le_of_ble_eq_true rfl)) dX1_remit_158 ⟨(Nat.le_of_ble_eq_true rfl), (Nat.le_of_ble_eq_true rfl)⟩) hR hS (fun r_158 w_158 H locs h hR _ hS => ?_)
    refine jn_elim h (fun j173 ej173 h => ?_)
    have Jj173 : ∀ (w173 : Wd) (v4_173 : Int32) (H : Heap) (locs : List Loc) (ls : Array Slot), j173 w173 v4_173 → Rp κ w173 y X [] H → va_S (Af κ) s.heap H locs → lv_has ls 6 [(4, .int (v4_173)), (2, .ref (y.2 11 i_2))] → W p l e (headSpec (ws_ yX1_remit cX1_remit 6 (Option.some Jvm.ClassFile.FieldType.int)) rm_X1_remit).room s m ([.ref (y.2 0 0), .int (p1)] : List Value).toArray below meth c H locs (3) (16) (vx_MQ below (va_Qi post (fun w t => Rp κ w y X [] t.heap) (Af κ)) (XCk κ y X px) ([.ref (y.2 0 0), .int (p1)] : List Value).toArray s 3 16 (Af κ)) (F0 m 173 ls []) := by
      clear h
      intro w173 v4_173 H locs ls h hR hS hl
      subst ej173
      refine lv_aload_n hx hb dX1_remit_173 rfl (lv_at hl 1 rfl) ?_
      refine lv_dup hx hb dX1_remit_174 rfl ?_
      refine g11_13 hx hb hts hown hK hR lv_2 q1276 dX1_remit_175 ?_
      refine lv_iload hx hb dX1_remit_178 (lv_at hl 0 rfl) ?_
      refine lv_iadd hx hb dX1_remit_180 ?_
      refine p11_13 hx hb hts hown hK hR hS lv_2 q1276 dX1_remit_181 (fun H locs w_181 ew_181 hR hS => ?_)
      have h := h w_181 ew_181
      refine lv_iload hx hb dX1_remit_184 (lv_at hl 0 rfl) ?_
      refine W.widen (k := 3) (n := 16) (Nat.le_of_ble_eq_true rfl) (Nat.le_of_ble_eq_true rfl) ?_
      refine vx_ret ?_; exact W.iret (v := v4_173) hx hb hr (fun t ht hW9 => ⟨⟨v4_173, w_181, rfl, h, rpt ht hR⟩, hS.F ht⟩) hS.2.2 dX1_remit_186
    refine lv_if_eq (tgt := 173) hx hb dX1_remit_161 (by decide) (fun c_161 => ?_) (fun c_161 => ?_)
    · have h := h.1 c_161
      refine W.widen (k := 3) (n := 16) (Nat.le_of_ble_eq_true rfl) (Nat.le_of_ble_eq_true rfl) ?_
      exact Jj173 w_158 x_140 _ _ _ h hR hS (lv_sub hl [0, 2] rfl)
    · have h := h.2 c_161
      refine lv_iload hx hb dX1_remit_164 (lv_at hl 0 rfl) ?_
      refine lv_iload hx hb dX1_remit_166 (lv_at hl 0 rfl) ?_
      refine lv_iconst (v := (2 : Int32)) hx hb dX1_remit_168 (by decide) ?_
      refine lv_idiv hx hb dX1_remit_169 (by decide) ?_
      refine lv_iadd hx hb dX1_remit_170 ?_
      refine lv_topi (fun x_171 ex_171 => ?_)
      have h := h x_171 ex_171
      refine lv_istore (lv' := [(4, .int (x_171)), (0, .ref (y.2 0 0)), (2, .ref (y.2 11 i_2)), (3, .int (y3_62))]) hx hb dX1_remit_171 hl (by decide) rfl (fun ls hl => ?_)
      refine W.widen (k := 3) (n := 16) (Nat.le_of_ble_eq_true rfl) (Nat.le_of_ble_eq_true rfl) ?_
      exact Jj173 w_158 x_171 _ _ _ h hR hS (lv_sub hl [0, 2] rfl)
  refine lv_if_eq (tgt := 36) hx hb dX1_remit_10 (by decide) (fun c_10 => ?_) (fun c_10 => ?_)
  · have h := h.1 c_10
    refine lv_iconst (v := (0 : Int32)) hx hb dX1_remit_36 (by decide) ?_
    refine W.widen (k := 1) (n := 6) (Nat.le_of_ble_eq_true rfl) (Nat.le_of_ble_eq_true rfl) ?_
    exact Jj37 w_7 (0 : Int32) _ _ _ h hR hS (lv_sub hl [0, 1] rfl)
  · have h := h.2 c_10
    refine lv_aload_n hx hb dX1_remit_13 rfl (lv_at hl 1 rfl) ?_
    refine ce_qi (fw := fun u => u) (fy := fun _ => y) (cr_V (n := 0) (As := []) (rest := []) ⟨hx, hb, hml, hown, hts⟩ hK hR (m_X1_part hW l0 h) q1479 q1481 qs29 q74 q1482 rfl rfl hd_X1_part ⟨Nat.le_of_ble_eq_true rfl, Nat.le_of_ble_eq_true rfl⟩ (rv hK hR l0 (ci := 0) rfl rfl) rfl rfl hl.1 rfl (lv_room (Nat.le_of_ble_eq_true rfl)) dX1_remit_14 ⟨(Nat.le_of_ble_eq_true rfl), (Nat.le_of_ble_eq_true rfl)⟩) hR hS (fun r_14 w_14 H locs h hR _ hS => ?_)
    refine lv_iconst (v := (3 : Int32)) hx hb dX1_remit_17 (by decide) ?_
    refine lv_icmp_ne (tgt := 36) hx hb dX1_remit_18 (by decide) (fun c_18 => ?_) (fun c_18 => ?_)
    · have h := h.1 c_18
      refine lv_iconst (v := (0 : Int32)) hx hb dX1_remit_36 (by decide) ?_
      refine W.widen (k := 1) (n := 6) (Nat.le_of_ble_eq_true rfl) (Nat.le_of_ble_eq_true rfl) ?_
      exact Jj37 w_14 (0 : Int32) _ _ _ h hR hS (lv_sub hl [0, 1] rfl)
    · have h := h.2 c_18
      refine lv_aload_n hx hb dX1_remit_21 rfl (lv_at hl 0 rfl) ?_
      refine g11_14 hx hb hts hown hK hR lv_2 q1278 dX1_remit_22 ?_
      refine lv_aload_n hx hb dX1_remit_25 rfl (lv_at hl 1 rfl) ?_
      refine ce_qi (fw := fun u => u) (fy := fun _ => y) (cr_V (n := 0) (As := []) (rest := [.int (gv w_14 11 i_2 14)]) ⟨hx, hb, hml, hown, hts⟩ hK hR (m_X1_year hW l0 h) q532 q534 qs4 q74 q535 rfl rfl hd_X1_year ⟨Nat.le_of_ble_eq_true rfl, Nat.le_of_ble_eq_true rfl⟩ (rv hK hR l0 (ci := 0) rfl rfl) rfl rfl hl.1 rfl (lv_room (Nat.le_of_ble_eq_true rfl)) dX1_remit_26 ⟨(Nat.le_of_ble_eq_true rfl), (Nat.le_of_ble_eq_true rfl)⟩) hR hS (fun r_26 w_26 H locs h hR _ hS => ?_)
      refine lv_icmp_eq (tgt := 36) hx hb dX1_remit_29 (by decide) (fun c_29 => ?_) (fun c_29 => ?_)
      · have h := h.1 c_29
        refine lv_iconst (v := (0 : Int32)) hx hb dX1_remit_36 (by decide) ?_
        refine W.widen (k := 1) (n := 6) (Nat.le_of_ble_eq_true rfl) (Nat.le_of_ble_eq_true rfl) ?_
        exact Jj37 w_26 (0 : Int32) _ _ _ h hR hS (lv_sub hl [0, 1] rfl)
      · have h := h.2 c_29
        refine lv_iconst (v := (1 : Int32)) hx hb dX1_remit_32 (by decide) ?_
        refine lv_goto (tgt := 37) hx hb dX1_remit_33 (by decide) ?_
        refine W.widen (k := 1) (n := 6) (Nat.le_of_ble_eq_true rfl) (Nat.le_of_ble_eq_true rfl) ?_
        exact Jj37 w_26 (1 : Int32) _ _ _ h hR hS (lv_sub hl [0, 1] rfl)
abbrev rm_X1_spring : Room := { frames := 4, cells := 11, slots := 44, locals := 96 }
def st_X1_spring_13 (κ : Kx) (y : Ly) (post : Wd → Prop) (ex : Wd → (Int32) → Prop) (rec : Wd → Int32 → Int32 → Prop) (v3 : Int32) (w : Wd) (v1 : Int32) (v4 : Int32) : Prop := ((v3 ≤ v4) → (ex w v1)) ∧ ((¬ (v3 ≤ v4)) → ((vp_in (v4) 3) ∧ (sp_X6_become κ y (fun r_28 w_28 => ∀ x_32 : Int32, x_32 = v1 ||| r_28 → ∀ x_33 : Int32, x_33 = v4 + (1 : Int32) → rec w_28 x_32 x_33) w (((v4).toNatClampNeg)))))
def sp_X1_spring_13 (κ : Kx) (y : Ly) (post : Wd → Prop) (ex : Wd → (Int32) → Prop) (v3 : Int32) : Nat → Wd → Int32 → Int32 → Prop
  | 0 => fun _ _ _ => False
  | n + 1 => fun w v1 v4 => st_X1_spring_13 κ y post ex (sp_X1_spring_13 κ y post ex v3 n) v3 w v1 v4
set_option maxHeartbeats 4000000 in
theorem lp_X1_spring_13 {p : Program} {l : Launch} {e : Env} {s : State} {m : MethodId} {args : Array Value} {below : List Frame} {meth : Method} {c : Code} {κ : Kx} {y : Ly} {X : XR} {post : Wd → Prop} {v3 : Int32} (hx : p.tables.exec = Jvm.exec) (hb : c.code = cX1_spring) (hr : meth.sig.returnType = (Option.none : Option Jvm.ClassFile.FieldType)) (hml : c.maxLocals = 6) (hown : s.vm.findClass RX1 = some m.cls) (hts : ∀ w ∈ lw_all, w.before args s = true) (hlocks : meth.locks = false) (hK : KK κ s) (hW : WFc κ y) (l0 : live y 0 0) (l2 : live y 5 0) {C1 S1 : Nat} (hC : C1 ≤ 11) (hSl : S1 ≤ 44) {ex : Wd → (Int32) → Prop}
    (kx : ∀ (w : Wd) (v1 : Int32) (H : Heap) (locs : List Loc) (ls : Array Slot) (cells slots : Nat) , ex w v1 → Rp κ w y X [] H → va_S (Af κ) s.heap H locs → lv_has ls 6 [(0, .ref (y.2 0 0)), (1, .int (v1))] → cells ≤ C1 → slots ≤ S1 → W p l e (headSpec (ws_ yX1_spring cX1_spring 6 (Option.none : Option Jvm.ClassFile.FieldType)) rm_X1_spring).room s m args below meth c H locs cells slots (MQ below (va_Qv post (fun w t => Rp κ w y X [] t.heap) (Af κ)) args s 11 44 (Af κ)) (F0 m 39 ls [])) :
    ∀ (f : Nat) (w : Wd) (v1 : Int32) (v4 : Int32) (H : Heap) (locs : List Loc) (ls : Array Slot) (cells slots : Nat)  , sp_X1_spring_13 κ y post ex v3 f w v1 v4 → Rp κ w y X [] H → va_S (Af κ) s.heap H locs → lv_has ls 6 [(0, .ref (y.2 0 0)), (1, .int (v1)), (2, .ref (y.2 5 0)), (3, .int (v3)), (4, .int (v4))] → cells + f * 0 ≤ C1 → slots + f * 0 ≤ S1 → W p l e (headSpec (ws_ yX1_spring cX1_spring 6 (Option.none : Option Jvm.ClassFile.FieldType)) rm_X1_spring).room s m args below meth c H locs cells slots (MQ below (va_Qv post (fun w t => Rp κ w y X [] t.heap) (Af κ)) args s 11 44 (Af κ)) (F0 m 13 ls []) := by
  intro f
  induction f with
  | zero =>
    intro w v1 v4 H locs ls cells slots  h
    exact False.elim h
  | succ f ih =>
    intro w v1 v4 H locs ls cells slots  h hR hS hl hc hs
    have h : st_X1_spring_13 κ y post ex (sp_X1_spring_13 κ y post ex v3 f) v3 w v1 v4 := h
    unfold st_X1_spring_13 at h
    refine lv_iload hx hb dX1_spring_13 (lv_at hl 4 rfl) ?_
    refine lv_iload_n hx hb dX1_spring_15 rfl (lv_at hl 3 rfl) ?_
    refine lv_icmp_ge (tgt := 39) hx hb dX1_spring_16 (by decide) (fun c_16 => ?_) (fun c_16 => ?_)
    · have h := h.1 c_16
      exact kx w v1 _ _ _ _ _ h hR hS (lv_sub hl [0, 1] rfl) (by omega) (by omega)
    · have h := h.2 c_16
      refine lv_aload_n hx hb dX1_spring_19 rfl (lv_at hl 2 rfl) ?_
      refine lv_iload hx hb dX1_spring_20 (lv_at hl 4 rfl) ?_
      have o_22 := h.1
      have h := h.2
      refine a5 hx hb hK hR l2 o_22 dX1_spring_22 ?_
      refine lv_astore (lv' := [(5, .ref (y.2 4 ((v4).toNatClampNeg))), (0, .ref (y.2 0 0)), (1, .int (v1)), (2, .ref (y.2 5 0)), (3, .int (v3)), (4, .int (v4))]) hx hb dX1_spring_23 hl (by decide) rfl (fun ls hl => ?_)
      refine lv_iload_n hx hb dX1_spring_25 rfl (lv_at hl 2 rfl) ?_
      refine lv_aload hx hb dX1_spring_26 (lv_at hl 0 rfl) ?_
      refine ce_qi (fw := fun u => u) (fy := fun _ => y) (cr_V (n := 0) (As := []) (rest := [.int (v1)]) ⟨hx, hb, hml, hown, hts⟩ hK hR (m_X6_become hW (hW.rul (vp_lt o_22)) h) q1517 q1518 q1519 q82 q1520 rfl rfl hd_X6_become ⟨Nat.le_of_ble_eq_true rfl, Nat.le_of_ble_eq_true rfl⟩ (rv hK hR (hW.rul (vp_lt o_22)) (ci := 5) rfl rfl) rfl rfl hl.1 rfl (lv_room (Nat.le_of_ble_eq_true rfl)) dX1_spring_28 ⟨(Nat.le_trans (show cells + 0 ≤ C1 from by omega) hC), (Nat.le_trans (show slots + 0 ≤ S1 from by omega) hSl)⟩) hR hS (fun r_28 w_28 H locs h hR _ hS => ?_)
      refine lv_ior hx hb dX1_spring_31 ?_
      refine lv_topi (fun x_32 ex_32 => ?_)
      have h := h x_32 ex_32
      refine lv_istore_n (lv' := [(1, .int (x_32)), (5, .ref (y.2 4 ((v4).toNatClampNeg))), (0, .ref (y.2 0 0)), (2, .ref (y.2 5 0)), (3, .int (v3)), (4, .int (v4))]) hx hb dX1_spring_32 rfl hl (by decide) rfl (fun ls hl => ?_)
      obtain ⟨x_33, ex_33⟩ : ∃ z : Int32, z = v4 + (1 : Int32) := ⟨_, rfl⟩
      have h := h x_33 ex_33
      refine lv_iinc (v := x_33) (lv' := [(4, .int (x_33)), (1, .int (x_32)), (5, .ref (y.2 4 ((v4).toNatClampNeg))), (0, .ref (y.2 0 0)), (2, .ref (y.2 5 0)), (3, .int (v3))]) hx hb dX1_spring_33 hl (k := 5) rfl (by rw [ex_33]; rfl) (by decide) rfl (fun ls hl => ?_)
      refine lv_goto (tgt := 13) hx hb dX1_spring_36 (by decide) ?_
      exact ih w_28 x_32 x_33 _ _ _ _ _  h hR hS (lv_sub hl [3, 1, 4, 5, 0] rfl) (by omega) (by omega)
def st_X1_spring_76 (κ : Kx) (y : Ly) (post : Wd → Prop) (ex : Wd → Prop) (rec : Wd → Nat → Int32 → Prop)  (w : Wd) (c2 : Nat) (z2 : Int32) : Prop := ((¬ (¬ c2 = nV y)) → (ex w )) ∧ (((¬ c2 = nV y)) → (∀ w_110 : Wd, w_110 = sv w 6 c2 10 ((gv w 6 c2 10) + (((gv w 6 c2 10) * (3 : Int32)) / (20 : Int32))) → ∀ w_115 : Wd, w_115 = sv w_110 6 c2 13 ((0 : Int32)) → ∀ w_120 : Wd, w_120 = sv w_115 6 c2 17 ((0 : Int32)) → rec w_120 (c2 + 1) (nI c2)))
def sp_X1_spring_76 (κ : Kx) (y : Ly) (post : Wd → Prop) (ex : Wd → Prop)  : Nat → Wd → Nat → Int32 → Prop
  | 0 => fun _ _ _ => False
  | n + 1 => fun w c2 z2 => st_X1_spring_76 κ y post ex (sp_X1_spring_76 κ y post ex  n)  w c2 z2
set_option maxHeartbeats 4000000 in
theorem lp_X1_spring_76 {p : Program} {l : Launch} {e : Env} {s : State} {m : MethodId} {args : Array Value} {below : List Frame} {meth : Method} {c : Code} {κ : Kx} {y : Ly} {X : XR} {post : Wd → Prop} {q2 : Nat} (hx : p.tables.exec = Jvm.exec) (hb : c.code = cX1_spring) (hr : meth.sig.returnType = (Option.none : Option Jvm.ClassFile.FieldType)) (hml : c.maxLocals = 6) (hown : s.vm.findClass RX1 = some m.cls) (hts : ∀ w ∈ lw_all, w.before args s = true) (hlocks : meth.locks = false) (hK : KK κ s) (hW : WFc κ y) (l0 : live y 0 0) {C1 S1 : Nat} (hC : C1 ≤ 11) (hSl : S1 ≤ 44) {ex : Wd → Prop}
    (kx : ∀ (w : Wd)  (H : Heap) (locs : List Loc) (ls : Array Slot) (cells slots : Nat) , ex w  → Rp κ w y X [] H → va_S (Af κ) s.heap H locs → lv_has ls 6 [(0, .ref (y.2 0 0))] → cells ≤ C1 → slots ≤ S1 → W p l e (headSpec (ws_ yX1_spring cX1_spring 6 (Option.none : Option Jvm.ClassFile.FieldType)) rm_X1_spring).room s m args below meth c H locs cells slots (MQ below (va_Qv post (fun w t => Rp κ w y X [] t.heap) (Af κ)) args s 11 44 (Af κ)) (F0 m 126 ls [])) :
    ∀ (f : Nat) (w : Wd) (c2 : Nat) (z2 : Int32) (H : Heap) (locs : List Loc) (ls : Array Slot) (cells slots : Nat)  (hc2 : c2 ≤ nV y), sp_X1_spring_76 κ y post ex  f w c2 z2 → Rp κ w y X [(q2, itC y 40 0 c2 z2)] H → va_S (Af κ) s.heap H locs → lv_has ls 6 [(0, .ref (y.2 0 0)), (2, .ref (q2))] → cells + f * 0 ≤ C1 → slots + f * 0 ≤ S1 → W p l e (headSpec (ws_ yX1_spring cX1_spring 6 (Option.none : Option Jvm.ClassFile.FieldType)) rm_X1_spring).room s m args below meth c H locs cells slots (MQ below (va_Qv post (fun w t => Rp κ w y X [] t.heap) (Af κ)) args s 11 44 (Af κ)) (F0 m 76 ls []) := by
  intro f
  induction f with
  | zero =>
    intro w c2 z2 H locs ls cells slots hc2 h
    exact False.elim h
  | succ f ih =>
    intro w c2 z2 H locs ls cells slots hc2 h hR hS hl hc hs
    have h : st_X1_spring_76 κ y post ex (sp_X1_spring_76 κ y post ex  f)  w c2 z2 := h
    unfold st_X1_spring_76 at h
    refine lv_aload_n hx hb dX1_spring_76 rfl (lv_at hl 1 rfl) ?_
    refine jr_hasNext (t := 0) ⟨hx, hb, hml, hown, hts⟩ hK hR rfl ⟨fun _ _ _ _ _ => rfl, fun _ _ _ _ _ => rfl⟩ hW.lsV (by omega) (Nat.le_trans hW.nV8 (by decide)) q349 ⟨Nat.le_of_ble_eq_true rfl, Nat.le_of_ble_eq_true rfl⟩ hl.1 (Nat.le_of_ble_eq_true rfl) dX1_spring_77 ⟨(Nat.le_trans (show cells + 0 ≤ C1 from by omega) hC), (Nat.le_trans (show slots + 0 ≤ S1 from by omega) hSl)⟩ ?_
    refine lv_if_eq (tgt := 126) hx hb dX1_spring_82 (by decide) (fun c_82 => ?_) (fun c_82 => ?_)
    · replace c_82 : ¬ (¬ c2 = nV y) := bi_0.mp c_82
      have h := h.1 c_82
      have hR := hR.sub (L' := []) [] rfl rfl
      exact kx w  _ _ _ _ _ h hR hS (lv_sub hl [0] rfl) (by omega) (by omega)
    · replace c_82 : (¬ c2 = nV y) := bi_n0.mp c_82
      have h := h.2 c_82
      refine lv_aload_n hx hb dX1_spring_85 rfl (lv_at hl 1 rfl) ?_
      have hn_86 : c2 < nV y := by omega
      refine jr_next (t := 0) (a := y.2 6 c2) ⟨hx, hb, hml, hown, hts⟩ hK hR hS rfl ⟨fun _ _ _ _ _ => rfl, fun _ _ _ _ _ => rfl⟩ hW.lsV ⟨hW.arV (Nat.lt_of_le_of_lt (Nat.zero_le _) hn_86), (Nat.le_trans hW.nV8 (by decide))⟩ hn_86 (hW.elV hn_86) q359 ⟨Nat.le_of_ble_eq_true rfl, Nat.le_of_ble_eq_true rfl⟩ hl.1 (Nat.le_of_ble_eq_true rfl) dX1_spring_86 ⟨(Nat.le_trans (show cells + 0 ≤ C1 from by omega) hC), (Nat.le_trans (show slots + 0 ≤ S1 from by omega) hSl)⟩ (fun H locs hR hS => ?_)
      have hR : Rp κ w y X [(q2, itC y 40 0 (c2 + 1) (nI c2))] H := hR
      refine jr_castS (ci := 6) hx hb hown hK hts (hR.role (hW.vil hn_86)) rfl q496 dX1_spring_91 ?_
      refine lv_astore_n (lv' := [(3, .ref (y.2 6 c2)), (0, .ref (y.2 0 0)), (2, .ref (q2))]) hx hb dX1_spring_94 rfl hl (by decide) rfl (fun ls hl => ?_)
      refine lv_aload_n hx hb dX1_spring_95 rfl (lv_at hl 0 rfl) ?_
      refine lv_dup hx hb dX1_spring_96 rfl ?_
      refine g6_10 hx hb hts hown hK hR (hW.vil hn_86) q942 dX1_spring_97 ?_
      refine lv_aload_n hx hb dX1_spring_100 rfl (lv_at hl 0 rfl) ?_
      refine g6_10 hx hb hts hown hK hR (hW.vil hn_86) q942 dX1_spring_101 ?_
      refine lv_iconst (v := (3 : Int32)) hx hb dX1_spring_104 (by decide) ?_
      refine lv_imul hx hb dX1_spring_105 ?_
      refine lv_bipush (v := (20 : Int32)) hx hb dX1_spring_106 (by decide) ?_
      refine lv_idiv hx hb dX1_spring_108 (by decide) ?_
      refine lv_iadd hx hb dX1_spring_109 ?_
      refine p6_10 hx hb hts hown hK hR hS (hW.vil hn_86) q942 dX1_spring_110 (fun H locs w_110 ew_110 hR hS => ?_)
      have h := h w_110 ew_110
      refine lv_aload_n hx hb dX1_spring_113 rfl (lv_at hl 0 rfl) ?_
      refine lv_iconst (v := (0 : Int32)) hx hb dX1_spring_114 (by decide) ?_
      refine p6_13 hx hb hts hown hK hR hS (hW.vil hn_86) q949 dX1_spring_115 (fun H locs w_115 ew_115 hR hS => ?_)
      have h := h w_115 ew_115
      refine lv_aload_n hx hb dX1_spring_118 rfl (lv_at hl 0 rfl) ?_
      refine lv_iconst (v := (0 : Int32)) hx hb dX1_spring_119 (by decide) ?_
      refine p6_17 hx hb hts hown hK hR hS (hW.vil hn_86) nbo_0 q957 dX1_spring_120 (fun H locs w_120 ew_120 hR hS => ?_)
      have h := h w_120 ew_120
      refine lv_goto (tgt := 76) hx hb dX1_spring_123 (by decide) ?_
      exact ih w_120 (c2 + 1) (nI c2) _ _ _ _ _ (by omega) h hR hS (lv_sub hl [1, 2] rfl) (by omega) (by omega)
def st_X1_spring_134 (κ : Kx) (y : Ly) (post : Wd → Prop) (ex : Wd → Prop) (rec : Wd → Nat → Int32 → Prop)  (w : Wd) (c2 : Nat) (z2 : Int32) : Prop := ((¬ (¬ c2 = nL y)) → (ex w )) ∧ (((¬ c2 = nL y)) → (sp_X15_isLeased κ y (fun r_154 w_154 => ((r_154 = 0) → (rec w_154 (c2 + 1) (nI c2))) ∧ ((¬ (r_154 = 0)) → (((gv w_154 11 c2 3 ≤ gv w_154 11 c2 11) → (rec w_154 (c2 + 1) (nI c2))) ∧ ((¬ (gv w_154 11 c2 3 ≤ gv w_154 11 c2 11)) → (sp_X1_year κ y (fun r_172 w_172 => ((r_172 ≤ gv w_172 11 c2 12) → (rec w_172 (c2 + 1) (nI c2))) ∧ ((¬ (r_172 ≤ gv w_172 11 c2 12)) → (sp_X1_fallDue κ y (fun w_184 => rec w_184 (c2 + 1) (nI c2)) w_172 c2))) w_154 ))))) w c2))
def sp_X1_spring_134 (κ : Kx) (y : Ly) (post : Wd → Prop) (ex : Wd → Prop)  : Nat → Wd → Nat → Int32 → Prop
  | 0 => fun _ _ _ => False
  | n + 1 => fun w c2 z2 => st_X1_spring_134 κ y post ex (sp_X1_spring_134 κ y post ex  n)  w c2 z2
set_option maxHeartbeats 4000000 in
theorem lp_X1_spring_134 {p : Program} {l : Launch} {e : Env} {s : State} {m : MethodId} {args : Array Value} {below : List Frame} {meth : Method} {c : Code} {κ : Kx} {y : Ly} {X : XR} {post : Wd → Prop} {q2 : Nat} (hx : p.tables.exec = Jvm.exec) (hb : c.code = cX1_spring) (hr : meth.sig.returnType = (Option.none : Option Jvm.ClassFile.FieldType)) (hml : c.maxLocals = 6) (hown : s.vm.findClass RX1 = some m.cls) (hts : ∀ w ∈ lw_all, w.before args s = true) (hlocks : meth.locks = false) (hK : KK κ s) (hW : WFc κ y) (l0 : live y 0 0) {C1 S1 : Nat} (hC : C1 ≤ 11) (hSl : S1 ≤ 44) {ex : Wd → Prop}
    (kx : ∀ (w : Wd)  (H : Heap) (locs : List Loc) (ls : Array Slot) (cells slots : Nat) , ex w  → Rp κ w y X [] H → va_S (Af κ) s.heap H locs → lv_has ls 6 [] → cells ≤ C1 → slots ≤ S1 → W p l e (headSpec (ws_ yX1_spring cX1_spring 6 (Option.none : Option Jvm.ClassFile.FieldType)) rm_X1_spring).room s m args below meth c H locs cells slots (MQ below (va_Qv post (fun w t => Rp κ w y X [] t.heap) (Af κ)) args s 11 44 (Af κ)) (F0 m 190 ls [])) :
    ∀ (f : Nat) (w : Wd) (c2 : Nat) (z2 : Int32) (H : Heap) (locs : List Loc) (ls : Array Slot) (cells slots : Nat)  (hc2 : c2 ≤ nL y), sp_X1_spring_134 κ y post ex  f w c2 z2 → Rp κ w y X [(q2, itC y 44 0 c2 z2)] H → va_S (Af κ) s.heap H locs → lv_has ls 6 [(0, .ref (y.2 0 0)), (2, .ref (q2))] → cells + f * 1 ≤ C1 → slots + f * 4 ≤ S1 → W p l e (headSpec (ws_ yX1_spring cX1_spring 6 (Option.none : Option Jvm.ClassFile.FieldType)) rm_X1_spring).room s m args below meth c H locs cells slots (MQ below (va_Qv post (fun w t => Rp κ w y X [] t.heap) (Af κ)) args s 11 44 (Af κ)) (F0 m 134 ls []) := by
  intro f
  induction f with
  | zero =>
    intro w c2 z2 H locs ls cells slots hc2 h
    exact False.elim h
  | succ f ih =>
    intro w c2 z2 H locs ls cells slots hc2 h hR hS hl hc hs
    have h : st_X1_spring_134 κ y post ex (sp_X1_spring_134 κ y post ex  f)  w c2 z2 := h
    unfold st_X1_spring_134 at h
    refine lv_aload_n hx hb dX1_spring_134 rfl (lv_at hl 1 rfl) ?_
    refine jr_hasNext (t := 0) ⟨hx, hb, hml, hown, hts⟩ hK hR rfl ⟨fun _ _ _ _ _ => rfl, fun _ _ _ _ _ => rfl⟩ hW.lsL (by omega) (Nat.le_trans hW.nL8 (by decide)) q349 ⟨Nat.le_of_ble_eq_true rfl, Nat.le_of_ble_eq_true rfl⟩ hl.1 (Nat.le_of_ble_eq_true rfl) dX1_spring_135 ⟨(Nat.le_trans (show cells + 0 ≤ C1 from by omega) hC), (Nat.le_trans (show slots + 0 ≤ S1 from by omega) hSl)⟩ ?_
    refine lv_if_eq (tgt := 190) hx hb dX1_spring_140 (by decide) (fun c_140 => ?_) (fun c_140 => ?_)
    · replace c_140 : ¬ (¬ c2 = nL y) := bi_0.mp c_140
      have h := h.1 c_140
      have hR := hR.sub (L' := []) [] rfl rfl
      exact kx w  _ _ _ _ _ h hR hS (lv_sub hl [] rfl) (by omega) (by omega)
    · replace c_140 : (¬ c2 = nL y) := bi_n0.mp c_140
      have h := h.2 c_140
      refine lv_aload_n hx hb dX1_spring_143 rfl (lv_at hl 1 rfl) ?_
      have hn_144 : c2 < nL y := by omega
      refine jr_next (t := 0) (a := y.2 11 c2) ⟨hx, hb, hml, hown, hts⟩ hK hR hS rfl ⟨fun _ _ _ _ _ => rfl, fun _ _ _ _ _ => rfl⟩ hW.lsL ⟨hW.arL (Nat.lt_of_le_of_lt (Nat.zero_le _) hn_144), (Nat.le_trans hW.nL8 (by decide))⟩ hn_144 (hW.elL hn_144) q359 ⟨Nat.le_of_ble_eq_true rfl, Nat.le_of_ble_eq_true rfl⟩ hl.1 (Nat.le_of_ble_eq_true rfl) dX1_spring_144 ⟨(Nat.le_trans (show cells + 0 ≤ C1 from by omega) hC), (Nat.le_trans (show slots + 0 ≤ S1 from by omega) hSl)⟩ (fun H locs hR hS => ?_)
      have hR : Rp κ w y X [(q2, itC y 44 0 (c2 + 1) (nI c2))] H := hR
      refine jr_castS (ci := 9) hx hb hown hK hts (hR.role (hW.lot hn_144)) rfl q497 dX1_spring_149 ?_
      refine lv_astore_n (lv' := [(3, .ref (y.2 11 c2)), (0, .ref (y.2 0 0)), (2, .ref (q2))]) hx hb dX1_spring_152 rfl hl (by decide) rfl (fun ls hl => ?_)
      refine lv_aload_n hx hb dX1_spring_153 rfl (lv_at hl 0 rfl) ?_
      refine ce_qi (fw := fun u => u) (fy := fun _ => y) (cr_V (n := 0) (As := []) (rest := []) ⟨hx, hb, hml, hown, hts⟩ hK hR (m_X15_isLeased hW (hW.lot hn_144) h) q515 q516 q517 q112 q518 rfl rfl hd_X15_isLeased ⟨Nat.le_of_ble_eq_true rfl, Nat.le_of_ble_eq_true rfl⟩ (rv hK hR (hW.lot hn_144) (ci := 9) rfl rfl) rfl rfl hl.1 rfl (lv_room (Nat.le_of_ble_eq_true rfl)) dX1_spring_154 ⟨(Nat.le_trans (show cells + 0 ≤ C1 from by omega) hC), (Nat.le_trans (show slots + 0 ≤ S1 from by omega) hSl)⟩) hR hS (fun r_154 w_154 H locs h hR _ hS => ?_)
      refine lv_if_eq (tgt := 187) hx hb dX1_spring_157 (by decide) (fun c_157 => ?_) (fun c_157 => ?_)
      · have h := h.1 c_157
        refine lv_goto (tgt := 134) hx hb dX1_spring_187 (by decide) ?_
        exact ih w_154 (c2 + 1) (nI c2) _ _ _ _ _ (by omega) h hR hS (lv_sub hl [1, 2] rfl) (by omega) (by omega)
      · have h := h.2 c_157
        refine lv_aload_n hx hb dX1_spring_160 rfl (lv_at hl 0 rfl) ?_
        refine g11_11 hx hb hts hown hK hR (hW.lot hn_144) q1274 dX1_spring_161 ?_
        refine lv_aload_n hx hb dX1_spring_164 rfl (lv_at hl 0 rfl) ?_
        refine g11_3 hx hb hts hown hK hR (hW.lot hn_144) q1259 dX1_spring_165 ?_
        refine lv_icmp_ge (tgt := 187) hx hb dX1_spring_168 (by decide) (fun c_168 => ?_) (fun c_168 => ?_)
        · have h := h.1 c_168
          refine lv_goto (tgt := 134) hx hb dX1_spring_187 (by decide) ?_
          exact ih w_154 (c2 + 1) (nI c2) _ _ _ _ _ (by omega) h hR hS (lv_sub hl [1, 2] rfl) (by omega) (by omega)
        · have h := h.2 c_168
          refine lv_aload_n hx hb dX1_spring_171 rfl (lv_at hl 1 rfl) ?_
          refine ce_qi (fw := fun u => u) (fy := fun _ => y) (cr_V (n := 0) (As := []) (rest := []) ⟨hx, hb, hml, hown, hts⟩ hK hR (m_X1_year hW l0 h) q532 q534 qs4 q74 q535 rfl rfl hd_X1_year ⟨Nat.le_of_ble_eq_true rfl, Nat.le_of_ble_eq_true rfl⟩ (rv hK hR l0 (ci := 0) rfl rfl) rfl rfl hl.1 rfl (lv_room (Nat.le_of_ble_eq_true rfl)) dX1_spring_172 ⟨(Nat.le_trans (show cells + 0 ≤ C1 from by omega) hC), (Nat.le_trans (show slots + 0 ≤ S1 from by omega) hSl)⟩) hR hS (fun r_172 w_172 H locs h hR _ hS => ?_)
          refine lv_aload_n hx hb dX1_spring_175 rfl (lv_at hl 0 rfl) ?_
          refine g11_12 hx hb hts hown hK hR (hW.lot hn_144) q1275 dX1_spring_176 ?_
          refine lv_icmp_le (tgt := 187) hx hb dX1_spring_179 (by decide) (fun c_179 => ?_) (fun c_179 => ?_)
          · have h := h.1 c_179
            refine lv_goto (tgt := 134) hx hb dX1_spring_187 (by decide) ?_
            exact ih w_172 (c2 + 1) (nI c2) _ _ _ _ _ (by omega) h hR hS (lv_sub hl [1, 2] rfl) (by omega) (by omega)
          · have h := h.2 c_179
            refine lv_aload_n hx hb dX1_spring_182 rfl (lv_at hl 1 rfl) ?_
            refine lv_aload_n hx hb dX1_spring_183 rfl (lv_at hl 0 rfl) ?_
            refine ce_qv (fw := fun u => u) (fy := fun _ => y) (cr_V (n := 1) (As := [.ref (y.2 11 c2)]) (rest := []) ⟨hx, hb, hml, hown, hts⟩ hK hR (m_X1_fallDue hW l0 (hW.lot hn_144) h) q1383 q1385 qs27 q74 q1386 rfl rfl hd_X1_fallDue ⟨Nat.le_of_ble_eq_true rfl, Nat.le_of_ble_eq_true rfl⟩ (rv hK hR l0 (ci := 0) rfl rfl) rfl rfl hl.1 rfl (lv_room (Nat.le_of_ble_eq_true rfl)) dX1_spring_184 ⟨(Nat.le_trans (show cells + 1 ≤ C1 from by omega) hC), (Nat.le_trans (show slots + 4 ≤ S1 from by omega) hSl)⟩) hR hS (fun w_184 H locs h hR _ hS => ?_)
            refine lv_goto (tgt := 134) hx hb dX1_spring_187 (by decide) ?_
            exact ih w_184 (c2 + 1) (nI c2) _ _ _ _ _ (by omega) h hR hS (lv_sub hl [1, 2] rfl) (by omega) (by omega)
def sp_X1_spring (κ : Kx) (y : Ly) (post : Wd → Prop) (w : Wd)  : Prop := ∀ x_9 : Int32, x_9 = nI 3 → sp_X1_spring_13 κ y post (fun w_13 y1_13 => sp_X1_one κ y (fun r_45 w_45 => ∀ w_49 : Wd, w_49 = sv w_45 0 0 10 ((gv w_13 0 0 10) + r_45) → ∀ w_65 : Wd, w_65 = sv w_49 0 0 9 ((((7 : Int32) * (gv w_49 0 0 9)) + (4 : Int32)) - (((7 : Int32) * (gv w_49 0 0 9)) + (4 : Int32)) / (11 : Int32) * (11 : Int32)) → sp_X1_spring_76 κ y post (fun w_76  => sp_X1_spring_134 κ y post (fun w_134  => post w_134)  9 w_76 0 (-1))  9 w_65 0 (-1)) w_13 y1_13) x_9 4 w (0 : Int32) (0 : Int32)
theorem hd_X1_spring : yX1_spring.cls = RX1 ∧ yX1_spring.cls ≠ "java/lang/invoke/MethodHandle" ∧ yX1_spring.cls ≠ "java/lang/invoke/VarHandle" ∧ (parseMethodDescriptor yX1_spring.desc).map (fun d => d.parameters.length) = some 0 := by decide +kernel
set_option maxHeartbeats 4000000 in
theorem m_X1_spring {l : Launch} {κ : Kx} {y : Ly} {X : XR} {post : Wd → Prop} {w : Wd}   (hW : WFc κ y) (l0 : live y 0 0) (h : sp_X1_spring κ y post w ) : Met l yX1_spring (ws_ yX1_spring cX1_spring 6 (Option.none : Option Jvm.ClassFile.FieldType)) rm_X1_spring (va_Pc [.ref (y.2 0 0)] (RC κ w y X)) (va_Qv post (fun w t => Rp κ w y X [] t.heap) (Af κ)) 11 44 (Af κ) := by
  unfold sp_X1_spring at h
  refine Met.ofW (cc := cX1_spring) (maxL := 6) (ret := (Option.none : Option Jvm.ClassFile.FieldType)) (by decide) rfl ?_
  intro p e s m args below meth c s₁ B hml hv
  obtain ⟨rfl, hR, hK⟩ := hv
  have hx := B.exec
  have hb := B.bytes
  have hr := B.returns
  have hts := atoms_spec (ws := ws_ yX1_spring cX1_spring 6 (Option.none : Option Jvm.ClassFile.FieldType)) B.pre
  have hts : ∀ w ∈ lw_all, w.before _ s = true := fun w h => hts w (List.mem_cons_of_mem _ h)
  have hown : s.vm.findClass RX1 = some m.cls := findClass_of_methodNamed B.named
  have hlocks := B.notSynchronized
  have hS : va_S (Af κ) s.heap s.heap [] := va_S.rf
  have hl := lv_entry ([.ref (y.2 0 0)]) (n := 6) (Nat.le_of_ble_eq_true rfl)
  rw [lg_entry_eq]
  generalize (lg_sl ([.ref (y.2 0 0)]) ++ List.replicate (6 - (lg_sl ([.ref (y.2 0 0)])).length) Slot.unset).toArray = ls at hl ⊢
  have hl : lv_has ls 6 [(0, .ref (y.2 0 0))] := hl
  refine lv_iconst (v := (0 : Int32)) hx hb dX1_spring_0 (by decide) ?_
  refine lv_istore_n (lv' := [(1, .int ((0 : Int32))), (0, .ref (y.2 0 0))]) hx hb dX1_spring_1 rfl hl (by decide) rfl (fun ls hl => ?_)
  refine lv_aload_n hx hb dX1_spring_2 rfl (lv_at hl 1 rfl) ?_
  refine g0_3 hx hb hts hown hK hR l0 q250 dX1_spring_3 ?_
  refine lv_astore_n (lv' := [(2, .ref (y.2 5 0)), (1, .int ((0 : Int32))), (0, .ref (y.2 0 0))]) hx hb dX1_spring_6 rfl hl (by decide) rfl (fun ls hl => ?_)
  refine lv_aload_n hx hb dX1_spring_7 rfl (lv_at hl 0 rfl) ?_
  refine xa_alen hx hb hK.1 (hR.role hW.rla) 5 rfl dX1_spring_8 ?_
  refine lv_topi (fun x_9 ex_9 => ?_)
  have h := h x_9 ex_9
  refine lv_istore_n (lv' := [(3, .int (x_9)), (2, .ref (y.2 5 0)), (1, .int ((0 : Int32))), (0, .ref (y.2 0 0))]) hx hb dX1_spring_9 rfl hl (by decide) rfl (fun ls hl => ?_)
  refine lv_iconst (v := (0 : Int32)) hx hb dX1_spring_10 (by decide) ?_
  refine lv_istore (lv' := [(4, .int ((0 : Int32))), (3, .int (x_9)), (2, .ref (y.2 5 0)), (1, .int ((0 : Int32))), (0, .ref (y.2 0 0))]) hx hb dX1_spring_11 hl (by decide) rfl (fun ls hl => ?_)
  refine lp_X1_spring_13 (C1 := 0) (S1 := 0) hx hb hr hml hown hts hlocks hK hW l0 hW.rla (Nat.le_of_ble_eq_true rfl) (Nat.le_of_ble_eq_true rfl) (fun w_13 y1_13 H locs ls cells9 slots9 h hR hS hl hc9 hs9 => ?_) 4 w (0 : Int32) (0 : Int32) _ _ _ _ _  h hR hS (lv_sub hl [4, 3, 2, 1, 0] rfl) (by omega) (by omega)
  refine W.widen (k := 0) (n := 0) hc9 hs9 ?_
  refine lv_aload_n hx hb dX1_spring_39 rfl (lv_at hl 0 rfl) ?_
  refine lv_dup hx hb dX1_spring_40 rfl ?_
  refine g0_10 hx hb hts hown hK hR l0 q257 dX1_spring_41 ?_
  refine lv_iload_n hx hb dX1_spring_44 rfl (lv_at hl 1 rfl) ?_
  refine ce_qi (fw := fun u => u) (fy := fun _ => y) (cr_S (n := 1) (As := [.int (y1_13)]) (rest := [.int (gv w_13 0 0 10), .ref (y.2 0 0)]) ⟨hx, hb, hml, hown, hts⟩ hK hR (m_X1_one hW h) q548 q549 q74 q550 rfl rfl hds_X1_one ⟨Nat.le_of_ble_eq_true rfl, Nat.le_of_ble_eq_true rfl⟩ rfl rfl hl.1 rfl (lv_room (Nat.le_of_ble_eq_true rfl)) dX1_spring_45 ⟨(Nat.le_of_ble_eq_true rfl), (Nat.le_of_ble_eq_true rfl)⟩) hR hS (fun r_45 w_45 H locs h hR _ hS => ?_)
  refine lv_iadd hx hb dX1_spring_48 ?_
  refine p0_10 hx hb hts hown hK hR hS l0 q257 dX1_spring_49 (fun H locs w_49 ew_49 hR hS => ?_)
  have h := h w_49 ew_49
  refine lv_aload_n hx hb dX1_spring_52 rfl (lv_at hl 0 rfl) ?_
  refine lv_bipush (v := (7 : Int32)) hx hb dX1_spring_53 (by decide) ?_
  refine lv_aload_n hx hb dX1_spring_55 rfl (lv_at hl 0 rfl) ?_
  refine g0_9 hx hb hts hown hK hR l0 q256 dX1_spring_56 ?_
  refine lv_imul hx hb dX1_spring_59 ?_
  refine lv_iconst (v := (4 : Int32)) hx hb dX1_spring_60 (by decide) ?_
  refine lv_iadd hx hb dX1_spring_61 ?_
  refine lv_bipush (v := (11 : Int32)) hx hb dX1_spring_62 (by decide) ?_
  refine lv_irem hx hb dX1_spring_64 (by decide) ?_
  refine p0_9 hx hb hts hown hK hR hS l0 q256 dX1_spring_65 (fun H locs w_65 ew_65 hR hS => ?_)
  have h := h w_65 ew_65
  refine lv_aload_n hx hb dX1_spring_68 rfl (lv_at hl 0 rfl) ?_
  refine g0_0 hx hb hts hown hK hR l0 q247 dX1_spring_69 ?_
  refine jr_iter ⟨hx, hb, hml, hown, hts⟩ hK hR hS ⟨fun _ _ _ _ _ => rfl, fun _ _ _ _ _ => rfl⟩ hW.lsV q325 ⟨Nat.le_of_ble_eq_true rfl, Nat.le_of_ble_eq_true rfl⟩ hl.1 (Nat.le_of_ble_eq_true rfl) dX1_spring_72 ⟨(Nat.le_of_ble_eq_true rfl), (Nat.le_of_ble_eq_true rfl)⟩ (fun q_72 H locs hR hS => ?_)
  have hR : Rp κ w_65 y X [(q_72, itC y 40 0 0 (-1))] H := hR
  refine lv_astore_n (lv' := [(2, .ref (q_72)), (0, .ref (y.2 0 0)), (1, .int (y1_13))]) hx hb dX1_spring_75 rfl hl (by decide) rfl (fun ls hl => ?_)
  refine lp_X1_spring_76 (C1 := 1) (S1 := 4) hx hb hr hml hown hts hlocks hK hW l0 (Nat.le_of_ble_eq_true rfl) (Nat.le_of_ble_eq_true rfl) (fun w_76  H locs ls cells9 slots9 h hR hS hl hc9 hs9 => ?_) 9 w_65 0 (-1) _ _ _ _ _ (by omega) h hR hS (lv_sub hl [1, 0] rfl) (by omega) (by omega)
  refine W.widen (k := 1) (n := 4) hc9 hs9 ?_
  refine lv_aload_n hx hb dX1_spring_126 rfl (lv_at hl 0 rfl) ?_
  refine g0_2 hx hb hts hown hK hR l0 q249 dX1_spring_127 ?_
  refine jr_iter ⟨hx, hb, hml, hown, hts⟩ hK hR hS ⟨fun _ _ _ _ _ => rfl, fun _ _ _ _ _ => rfl⟩ hW.lsL q325 ⟨Nat.le_of_ble_eq_true rfl, Nat.le_of_ble_eq_true rfl⟩ hl.1 (Nat.le_of_ble_eq_true rfl) dX1_spring_130 ⟨(Nat.le_of_ble_eq_true rfl), (Nat.le_of_ble_eq_true rfl)⟩ (fun q_130 H locs hR hS => ?_)
  have hR : Rp κ w_76 y X [(q_130, itC y 44 0 0 (-1))] H := hR
  refine lv_astore_n (lv' := [(2, .ref (q_130)), (0, .ref (y.2 0 0))]) hx hb dX1_spring_133 rfl hl (by decide) rfl (fun ls hl => ?_)
  refine lp_X1_spring_134 (C1 := 11) (S1 := 44) hx hb hr hml hown hts hlocks hK hW l0 (Nat.le_of_ble_eq_true rfl) (Nat.le_of_ble_eq_true rfl) (fun w_134  H locs ls cells9 slots9 h hR hS hl hc9 hs9 => ?_) 9 w_76 0 (-1) _ _ _ _ _ (by omega) h hR hS (lv_sub hl [1, 0] rfl) (by omega) (by omega)
  refine W.widen (k := 11) (n := 44) hc9 hs9 ?_
  refine W.widen (k := 11) (n := 44) (Nat.le_of_ble_eq_true rfl) (Nat.le_of_ble_eq_true rfl) ?_
  exact W.vret hx hb hr (fun t ht hW9 => ⟨⟨w_134, rfl, h, rpt ht hR⟩, hS.F ht⟩) hS.2.2 dX1_spring_190
