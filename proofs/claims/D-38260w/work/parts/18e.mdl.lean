/-! printed by wip gen: X8_quarter, X8_remit, X8_clerks, X8_summer, X8_dueNow, X8_byClerks, X8_ofVillage, X8_due_2, X8_levy, X8_law, X8_ofCompany, X8_partner -/
set_option maxRecDepth 100000
abbrev rm_X8_quarter : Room := { frames := 3, cells := 0, slots := 0, locals := 93 }
def sp_X8_quarter (κ : Kx) (y : Ly) (post : Int32 → Wd → Prop) (w : Wd) (p1 : Int32) : Prop := sp_X8_isNoVillage κ y (fun r_3 w_3 => sp_X8_start κ y (fun r_7 w_7 => ((r_7 = 0) → ((vp_in (p1) (mV y)) ∧ (∀ x_38 : Int32, x_38 = jmin (gv w_7 21 (((p1).toNatClampNeg)) 5) (gv w_7 21 (((p1).toNatClampNeg)) 0) → ∀ w_46 : Wd, w_46 = sv w_7 21 (((p1).toNatClampNeg)) 5 ((gv w_7 21 (((p1).toNatClampNeg)) 5) - x_38) → ∀ w_56 : Wd, w_56 = sv w_46 20 0 14 ((gv w_46 20 0 14) + x_38) → ((gv w_56 21 (((p1).toNatClampNeg)) 0 ≤ x_38) → (post (x_38) w_56)) ∧ ((¬ (gv w_56 21 (((p1).toNatClampNeg)) 0 ≤ x_38)) → (sp_X11_anger κ y (fun w_69 => post (x_38) w_69) w_56 (((p1).toNatClampNeg)) (3 : Int32)))))) ∧ ((¬ (r_7 = 0)) → (post ((0 : Int32)) w_7))) w_3 r_3 (1 : Int32)) w p1
theorem hd_X8_quarter : yX8_quarter.cls = RX8 ∧ yX8_quarter.cls ≠ "java/lang/invoke/MethodHandle" ∧ yX8_quarter.cls ≠ "java/lang/invoke/VarHandle" ∧ (parseMethodDescriptor yX8_quarter.desc).map (fun d => d.parameters.length) = some 1 := by decide +kernel
set_option maxHeartbeats 4000000 in
theorem m_X8_quarter {l : Launch} {κ : Kx} {y : Ly} {X : XR} {post : Int32 → Wd → Prop} {w : Wd} {p1 : Int32}  (hM : WFm κ y) (l0 : live y 20 0) (h : sp_X8_quarter κ y post w p1) : Met l yX8_quarter (ws_ yX8_quarter cX8_quarter 4 (Option.some Jvm.ClassFile.FieldType.int)) rm_X8_quarter (va_Pc [.ref (y.2 20 0), .int (p1)] (RC κ w y X)) (va_Qi post (fun w t => Rp κ w y X [] t.heap) (Af κ)) 0 0 (Af κ) := by
  unfold sp_X8_quarter at h
  refine Met.ofW (cc := cX8_quarter) (maxL := 4) (ret := (Option.some Jvm.ClassFile.FieldType.int)) (by decide) rfl ?_
  intro p e s m args below meth c s₁ B hml hv
  obtain ⟨rfl, hR, hK⟩ := hv
  have hx := B.exec
  have hb := B.bytes
  have hr := B.returns
  have hts := atoms_spec (ws := ws_ yX8_quarter cX8_quarter 4 (Option.some Jvm.ClassFile.FieldType.int)) B.pre
  have hts : ∀ w ∈ lw_all, w.before _ s = true := fun w h => hts w (List.mem_cons_of_mem _ h)
  have hown : s.vm.findClass RX8 = some m.cls := findClass_of_methodNamed B.named
  have hlocks := B.notSynchronized
  have hS : va_S (Af κ) s.heap s.heap [] := va_S.rf
  have hl := lv_entry ([.ref (y.2 20 0), .int (p1)]) (n := 4) (Nat.le_of_ble_eq_true rfl)
  rw [lg_entry_eq]
  generalize (lg_sl ([.ref (y.2 20 0), .int (p1)]) ++ List.replicate (4 - (lg_sl ([.ref (y.2 20 0), .int (p1)])).length) Slot.unset).toArray = ls at hl ⊢
  have hl : lv_has ls 4 [(0, .ref (y.2 20 0)), (1, .int (p1))] := hl
  refine lv_aload_n hx hb dX8_quarter_0 rfl (lv_at hl 0 rfl) ?_
  refine lv_aload_n hx hb dX8_quarter_1 rfl (lv_at hl 0 rfl) ?_
  refine lv_iload_n hx hb dX8_quarter_2 rfl (lv_at hl 1 rfl) ?_
  refine ce_qi (fw := fun u => u) (fy := fun _ => y) (cr_V (n := 1) (As := [.int (p1)]) (rest := [.ref (y.2 20 0)]) ⟨hx, hb, hml, hown, hts⟩ hK hR (m_X8_isNoVillage hM l0 h) q2109 q2111 qs40 q85 q2112 rfl rfl hd_X8_isNoVillage ⟨Nat.le_of_ble_eq_true rfl, Nat.le_of_ble_eq_true rfl⟩ (rv hK hR l0 (ci := 11) rfl rfl) rfl rfl hl.1 rfl (lv_room (Nat.le_of_ble_eq_true rfl)) dX8_quarter_3 ⟨(Nat.le_of_ble_eq_true rfl), (Nat.le_of_ble_eq_true rfl)⟩) hR hS (fun r_3 w_3 H locs h hR _ hS => ?_)
  refine lv_iconst (v := (1 : Int32)) hx hb dX8_quarter_6 (by decide) ?_
  refine ce_qi (fw := fun u => u) (fy := fun _ => y) (cr_V (n := 2) (As := [.int (r_3), .int ((1 : Int32))]) (rest := []) ⟨hx, hb, hml, hown, hts⟩ hK hR (m_X8_start hM l0 h) q2023 q2025 qs37 q85 q2026 rfl rfl hd_X8_start ⟨Nat.le_of_ble_eq_true rfl, Nat.le_of_ble_eq_true rfl⟩ (rv hK hR l0 (ci := 11) rfl rfl) rfl rfl hl.1 rfl (lv_room (Nat.le_of_ble_eq_true rfl)) dX8_quarter_7 ⟨(Nat.le_of_ble_eq_true rfl), (Nat.le_of_ble_eq_true rfl)⟩) hR hS (fun r_7 w_7 H locs h hR _ hS => ?_)
  refine lv_if_eq (tgt := 15) hx hb dX8_quarter_10 (by decide) (fun c_10 => ?_) (fun c_10 => ?_)
  · have h := h.1 c_10
    refine lv_aload_n hx hb dX8_quarter_15 rfl (lv_at hl 0 rfl) ?_
    refine g20_3 hx hb hts hown hK hR l0 q1948 dX8_quarter_16 ?_
    refine lv_iload_n hx hb dX8_quarter_19 rfl (lv_at hl 1 rfl) ?_
    have o_20 := h.1
    have h := h.2
    refine jr_get (a := y.2 21 ((p1).toNatClampNeg)) ⟨hx, hb, hml, hown, hts⟩ hK hR ⟨fun _ _ _ _ _ => rfl, fun _ _ _ _ _ => rfl⟩ hM.lsV ⟨hM.arV (Nat.lt_of_le_of_lt (Nat.zero_le _) (vp_lt o_20)), (Nat.le_trans hM.mV8 (by decide))⟩ o_20 (hM.elV (vp_lt o_20)) q2101 ⟨Nat.le_of_ble_eq_true rfl, Nat.le_of_ble_eq_true rfl⟩ hl.1 (Nat.le_of_ble_eq_true rfl) dX8_quarter_20 ⟨(Nat.le_of_ble_eq_true rfl), (Nat.le_of_ble_eq_true rfl)⟩ ?_
    refine jr_castS (ci := 12) hx hb hown hK hts (hR.role (hM.vil (vp_lt o_20))) rfl q2032 dX8_quarter_23 ?_
    refine lv_astore_n (lv' := [(2, .ref (y.2 21 ((p1).toNatClampNeg))), (0, .ref (y.2 20 0)), (1, .int (p1))]) hx hb dX8_quarter_26 rfl hl (by decide) rfl (fun ls hl => ?_)
    refine lv_aload_n hx hb dX8_quarter_27 rfl (lv_at hl 0 rfl) ?_
    refine g21_5 hx hb hts hown hK hR (hM.vil (vp_lt o_20)) q2045 dX8_quarter_28 ?_
    refine lv_aload_n hx hb dX8_quarter_31 rfl (lv_at hl 0 rfl) ?_
    refine g21_0 hx hb hts hown hK hR (hM.vil (vp_lt o_20)) q2040 dX8_quarter_32 ?_
    refine va_mmin hx hb (hml.trans hl.1.symm) hown (hts _ q2113) (hts _ q322) (hts _ q95) (hts _ q323) (Nat.le_of_ble_eq_true rfl) (Nat.le_of_ble_eq_true rfl) (Nat.le_of_ble_eq_true rfl) (Nat.le_of_ble_eq_true rfl) dX8_quarter_35 ?_
    refine lv_topi (fun x_38 ex_38 => ?_)
    have h := h x_38 ex_38
    refine lv_istore_n (lv' := [(3, .int (x_38)), (2, .ref (y.2 21 ((p1).toNatClampNeg))), (0, .ref (y.2 20 0)), (1, .int (p1))]) hx hb dX8_quarter_38 rfl hl (by decide) rfl (fun ls hl => ?_)
    refine lv_aload_n hx hb dX8_quarter_39 rfl (lv_at hl 1 rfl) ?_
    refine lv_dup hx hb dX8_quarter_40 rfl ?_
    refine g21_5 hx hb hts hown hK hR (hM.vil (vp_lt o_20)) q2045 dX8_quarter_41 ?_
    refine lv_iload_n hx hb dX8_quarter_44 rfl (lv_at hl 0 rfl) ?_
    refine lv_isub hx hb dX8_quarter_45 ?_
    refine p21_5 hx hb hts hown hK hR hS (hM.vil (vp_lt o_20)) q2045 dX8_quarter_46 (fun H locs w_46 ew_46 hR hS => ?_)
    have h := h w_46 ew_46
    refine lv_aload_n hx hb dX8_quarter_49 rfl (lv_at hl 2 rfl) ?_
    refine lv_dup hx hb dX8_quarter_50 rfl ?_
    refine g20_14 hx hb hts hown hK hR l0 q1959 dX8_quarter_51 ?_
    refine lv_iload_n hx hb dX8_quarter_54 rfl (lv_at hl 0 rfl) ?_
    refine lv_iadd hx hb dX8_quarter_55 ?_
    refine p20_14 hx hb hts hown hK hR hS l0 q1959 dX8_quarter_56 (fun H locs w_56 ew_56 hR hS => ?_)
    have h := h w_56 ew_56
    refine lv_iload_n hx hb dX8_quarter_59 rfl (lv_at hl 0 rfl) ?_
    refine lv_aload_n hx hb dX8_quarter_60 rfl (lv_at hl 1 rfl) ?_
    refine g21_0 hx hb hts hown hK hR (hM.vil (vp_lt o_20)) q2040 dX8_quarter_61 ?_
    refine lv_icmp_ge (tgt := 72) hx hb dX8_quarter_64 (by decide) (fun c_64 => ?_) (fun c_64 => ?_)
    · have h := h.1 c_64
      refine lv_iload_n hx hb dX8_quarter_72 rfl (lv_at hl 0 rfl) ?_
      refine W.widen (k := 0) (n := 0) (Nat.le_of_ble_eq_true rfl) (Nat.le_of_ble_eq_true rfl) ?_
      exact W.iret (v := x_38) hx hb hr (fun t ht hW9 => ⟨⟨x_38, w_56, rfl, h, rpt ht hR⟩, hS.F ht⟩) hS.2.2 dX8_quarter_73
    · have h := h.2 c_64
      refine lv_aload_n hx hb dX8_quarter_67 rfl (lv_at hl 1 rfl) ?_
      refine lv_iconst (v := (3 : Int32)) hx hb dX8_quarter_68 (by decide) ?_
      refine ce_qv (fw := fun u => u) (fy := fun _ => y) (cr_V (n := 1) (As := [.int ((3 : Int32))]) (rest := []) ⟨hx, hb, hml, hown, hts⟩ hK hR (m_X11_anger hM (hM.vil (vp_lt o_20)) h) q2367 q2368 q2369 q99 q2370 rfl rfl hd_X11_anger ⟨Nat.le_of_ble_eq_true rfl, Nat.le_of_ble_eq_true rfl⟩ (rv hK hR (hM.vil (vp_lt o_20)) (ci := 12) rfl rfl) rfl rfl hl.1 rfl (lv_room (Nat.le_of_ble_eq_true rfl)) dX8_quarter_69 ⟨(Nat.le_of_ble_eq_true rfl), (Nat.le_of_ble_eq_true rfl)⟩) hR hS (fun w_69 H locs h hR _ hS => ?_)
      refine lv_iload_n hx hb dX8_quarter_72 rfl (lv_at hl 0 rfl) ?_
      refine W.widen (k := 0) (n := 0) (Nat.le_of_ble_eq_true rfl) (Nat.le_of_ble_eq_true rfl) ?_
      exact W.iret (v := x_38) hx hb hr (fun t ht hW9 => ⟨⟨x_38, w_69, rfl, h, rpt ht hR⟩, hS.F ht⟩) hS.2.2 dX8_quarter_73
  · have h := h.2 c_10
    refine lv_iconst (v := (0 : Int32)) hx hb dX8_quarter_13 (by decide) ?_
    refine W.widen (k := 0) (n := 0) (Nat.le_of_ble_eq_true rfl) (Nat.le_of_ble_eq_true rfl) ?_
    exact W.iret (v := (0 : Int32)) hx hb hr (fun t ht hW9 => ⟨⟨(0 : Int32), w_7, rfl, h, rpt ht hR⟩, hS.F ht⟩) hS.2.2 dX8_quarter_14
abbrev rm_X8_remit : Room := { frames := 3, cells := 0, slots := 0, locals := 93 }
def st_X8_remit_87 (κ : Kx) (y : Ly) (post : Int32 → Wd → Prop) (ex : Wd → (Int32) → (Int32) → Prop) (rec : Wd → Int32 → Int32 → Int32 → Prop) (i2 : Nat) (w : Wd) (v3 : Int32) (v4 : Int32) (v5 : Int32) : Prop := ((nI (mV y) ≤ v5) → (ex w v3 v4)) ∧ ((¬ (nI (mV y) ≤ v5)) → (sp_X8_has κ y (fun r_105 w_105 => ∀ j164 : Wd → Int32 → Int32 → Prop, (j164 = fun (w164 : Wd) (v3_164 : Int32) (v4_164 : Int32) => ∀ x_164 : Int32, x_164 = v5 + (1 : Int32) → rec w164 v3_164 v4_164 x_164) → (((¬ r_105 = 0) → ((vp_in (v5) (mV y)) ∧ (∀ x_128 : Int32, x_128 = v4 + (1 : Int32) → ∀ j162 : Wd → Int32 → Int32 → Prop, (j162 = fun (w162 : Wd) (s0_162 : Int32) (s1_162 : Int32) => ∀ x_163 : Int32, x_163 = s1_162 + s0_162 → j164 w162 x_163 x_128) → ((((((gv w_105 21 (((v5).toNatClampNeg)) 8) * (gv w_105 21 (((v5).toNatClampNeg)) 3)) * (7 : Int32)) / (120 : Int32) ≤ gv w_105 21 (((v5).toNatClampNeg)) 9) → (j162 w_105 (0 : Int32) v3)) ∧ ((¬ ((((gv w_105 21 (((v5).toNatClampNeg)) 8) * (gv w_105 21 (((v5).toNatClampNeg)) 3)) * (7 : Int32)) / (120 : Int32) ≤ gv w_105 21 (((v5).toNatClampNeg)) 9)) → (j162 w_105 (1 : Int32) v3)))))) ∧ ((r_105 = 0) → (j164 w_105 v3 v4)))) w (gv w 27 i2 1) v5))
def sp_X8_remit_87 (κ : Kx) (y : Ly) (post : Int32 → Wd → Prop) (ex : Wd → (Int32) → (Int32) → Prop) (i2 : Nat) : Nat → Wd → Int32 → Int32 → Int32 → Prop
  | 0 => fun _ _ _ _ => False
  | n + 1 => fun w v3 v4 v5 => st_X8_remit_87 κ y post ex (sp_X8_remit_87 κ y post ex i2 n) i2 w v3 v4 v5
set_option maxHeartbeats 4000000 in
theorem lp_X8_remit_87 {p : Program} {l : Launch} {e : Env} {s : State} {m : MethodId} {args : Array Value} {below : List Frame} {meth : Method} {c : Code} {κ : Kx} {y : Ly} {X : XR} {post : Int32 → Wd → Prop} {i2 : Nat} (hx : p.tables.exec = Jvm.exec) (hb : c.code = cX8_remit) (hr : meth.sig.returnType = (Option.some Jvm.ClassFile.FieldType.int)) (hml : c.maxLocals = 7) (hown : s.vm.findClass RX8 = some m.cls) (hts : ∀ w ∈ lw_all, w.before args s = true) (hlocks : meth.locks = false) (hK : KK κ s) (hM : WFm κ y) (l0 : live y 20 0) (l2 : live y 27 i2) {C1 S1 : Nat} (hC : C1 ≤ 0) (hSl : S1 ≤ 0) {ex : Wd → (Int32) → (Int32) → Prop}
    (kx : ∀ (w : Wd) (v3 : Int32) (v4 : Int32) (H : Heap) (locs : List Loc) (ls : Array Slot) (cells slots : Nat) , ex w v3 v4 → Rp κ w y X [] H → va_S (Af κ) s.heap H locs → lv_has ls 7 [(0, .ref (y.2 20 0)), (2, .ref (y.2 27 i2)), (3, .int (v3)), (4, .int (v4))] → cells ≤ C1 → slots ≤ S1 → W p l e (headSpec (ws_ yX8_remit cX8_remit 7 (Option.some Jvm.ClassFile.FieldType.int)) rm_X8_remit).room s m args below meth c H locs cells slots (MQ below (va_Qi post (fun w t => Rp κ w y X [] t.heap) (Af κ)) args s 0 0 (Af κ)) (F0 m 170 ls [])) :
    ∀ (f : Nat) (w : Wd) (v3 : Int32) (v4 : Int32) (v5 : Int32) (H : Heap) (locs : List Loc) (ls : Array Slot) (cells slots : Nat)  , sp_X8_remit_87 κ y post ex i2 f w v3 v4 v5 → Rp κ w y X [] H → va_S (Af κ) s.heap H locs → lv_has ls 7 [(0, .ref (y.2 20 0)), (2, .ref (y.2 27 i2)), (3, .int (v3)), (4, .int (v4)), (5, .int (v5))] → cells + f * 0 ≤ C1 → slots + f * 0 ≤ S1 → W p l e (headSpec (ws_ yX8_remit cX8_remit 7 (Option.some Jvm.ClassFile.FieldType.int)) rm_X8_remit).room s m args below meth c H locs cells slots (MQ below (va_Qi post (fun w t => Rp κ w y X [] t.heap) (Af κ)) args s 0 0 (Af κ)) (F0 m 87 ls []) := by
  intro f
  induction f with
  | zero =>
    intro w v3 v4 v5 H locs ls cells slots  h
    exact False.elim h
  | succ f ih =>
    intro w v3 v4 v5 H locs ls cells slots  h hR hS hl hc hs
    have h : st_X8_remit_87 κ y post ex (sp_X8_remit_87 κ y post ex i2 f) i2 w v3 v4 v5 := h
    unfold st_X8_remit_87 at h
    refine lv_iload hx hb dX8_remit_87 (lv_at hl 4 rfl) ?_
    refine lv_aload_n hx hb dX8_remit_89 rfl (lv_at hl 0 rfl) ?_
    refine g20_3 hx hb hts hown hK hR l0 q1948 dX8_remit_90 ?_
    refine jr_size ⟨hx, hb, hml, hown, hts⟩ hK hR ⟨fun _ _ _ _ _ => rfl, fun _ _ _ _ _ => rfl⟩ hM.lsV q2031 ⟨Nat.le_of_ble_eq_true rfl, Nat.le_of_ble_eq_true rfl⟩ hl.1 (Nat.le_of_ble_eq_true rfl) dX8_remit_93 ⟨(Nat.le_trans (show cells + 0 ≤ C1 from by omega) hC), (Nat.le_trans (show slots + 0 ≤ S1 from by omega) hSl)⟩ ?_
    refine lv_icmp_ge (tgt := 170) hx hb dX8_remit_96 (by decide) (fun c_96 => ?_) (fun c_96 => ?_)
    · have h := h.1 c_96
      exact kx w v3 v4 _ _ _ _ _ h hR hS (lv_sub hl [0, 1, 2, 3] rfl) (by omega) (by omega)
    · have h := h.2 c_96
      refine lv_aload_n hx hb dX8_remit_99 rfl (lv_at hl 1 rfl) ?_
      refine g27_1 hx hb hts hown hK hR l2 q2260 dX8_remit_100 ?_
      refine lv_iload hx hb dX8_remit_103 (lv_at hl 4 rfl) ?_
      refine ce_qi (fw := fun u => u) (fy := fun _ => y) (cr_S (n := 2) (As := [.int (gv w 27 i2 1), .int (v5)]) (rest := []) ⟨hx, hb, hml, hown, hts⟩ hK hR (m_X8_has hM h) q2102 q2103 q85 q2104 rfl rfl hds_X8_has ⟨Nat.le_of_ble_eq_true rfl, Nat.le_of_ble_eq_true rfl⟩ rfl rfl hl.1 rfl (lv_room (Nat.le_of_ble_eq_true rfl)) dX8_remit_105 ⟨(Nat.le_trans (show cells + 0 ≤ C1 from by omega) hC), (Nat.le_trans (show slots + 0 ≤ S1 from by omega) hSl)⟩) hR hS (fun r_105 w_105 H locs h hR _ hS => ?_)
      refine jn_elim h (fun j164 ej164 h => ?_)
      have Jj164 : ∀ (w164 : Wd) (v3_164 : Int32) (v4_164 : Int32) (H : Heap) (locs : List Loc) (ls : Array Slot), j164 w164 v3_164 v4_164 → Rp κ w164 y X [] H → va_S (Af κ) s.heap H locs → lv_has ls 7 [(3, .int (v3_164)), (4, .int (v4_164)), (0, .ref (y.2 20 0)), (2, .ref (y.2 27 i2)), (5, .int (v5))] → W p l e (headSpec (ws_ yX8_remit cX8_remit 7 (Option.some Jvm.ClassFile.FieldType.int)) rm_X8_remit).room s m args below meth c H locs (cells + 0) (slots + 0) (MQ below (va_Qi post (fun w t => Rp κ w y X [] t.heap) (Af κ)) args s 0 0 (Af κ)) (F0 m 164 ls []) := by
        clear h
        intro w164 v3_164 v4_164 H locs ls h hR hS hl
        subst ej164
        obtain ⟨x_164, ex_164⟩ : ∃ z : Int32, z = v5 + (1 : Int32) := ⟨_, rfl⟩
        have h := h x_164 ex_164
        refine lv_iinc (v := x_164) (lv' := [(5, .int (x_164)), (3, .int (v3_164)), (4, .int (v4_164)), (0, .ref (y.2 20 0)), (2, .ref (y.2 27 i2))]) hx hb dX8_remit_164 hl (k := 4) rfl (by rw [ex_164]; rfl) (by decide) rfl (fun ls hl => ?_)
        refine lv_goto (tgt := 87) hx hb dX8_remit_167 (by decide) ?_
        exact ih w164 v3_164 v4_164 x_164 _ _ _ _ _  h hR hS (lv_sub hl [3, 4, 1, 2, 0] rfl) (by omega) (by omega)
      refine lv_if_ne (tgt := 114) hx hb dX8_remit_108 (by decide) (fun c_108 => ?_) (fun c_108 => ?_)
      · have h := h.1 c_108
        refine lv_aload_n hx hb dX8_remit_114 rfl (lv_at hl 0 rfl) ?_
        refine g20_3 hx hb hts hown hK hR l0 q1948 dX8_remit_115 ?_
        refine lv_iload hx hb dX8_remit_118 (lv_at hl 4 rfl) ?_
        have o_120 := h.1
        have h := h.2
        refine jr_get (a := y.2 21 ((v5).toNatClampNeg)) ⟨hx, hb, hml, hown, hts⟩ hK hR ⟨fun _ _ _ _ _ => rfl, fun _ _ _ _ _ => rfl⟩ hM.lsV ⟨hM.arV (Nat.lt_of_le_of_lt (Nat.zero_le _) (vp_lt o_120)), (Nat.le_trans hM.mV8 (by decide))⟩ o_120 (hM.elV (vp_lt o_120)) q2101 ⟨Nat.le_of_ble_eq_true rfl, Nat.le_of_ble_eq_true rfl⟩ hl.1 (Nat.le_of_ble_eq_true rfl) dX8_remit_120 ⟨(Nat.le_trans (show cells + 0 ≤ C1 from by omega) hC), (Nat.le_trans (show slots + 0 ≤ S1 from by omega) hSl)⟩ ?_
        refine jr_castS (ci := 12) hx hb hown hK hts (hR.role (hM.vil (vp_lt o_120))) rfl q2032 dX8_remit_123 ?_
        refine lv_astore (lv' := [(6, .ref (y.2 21 ((v5).toNatClampNeg))), (0, .ref (y.2 20 0)), (2, .ref (y.2 27 i2)), (3, .int (v3)), (4, .int (v4)), (5, .int (v5))]) hx hb dX8_remit_126 hl (by decide) rfl (fun ls hl => ?_)
        obtain ⟨x_128, ex_128⟩ : ∃ z : Int32, z = v4 + (1 : Int32) := ⟨_, rfl⟩
        have h := h x_128 ex_128
        refine lv_iinc (v := x_128) (lv' := [(4, .int (x_128)), (6, .ref (y.2 21 ((v5).toNatClampNeg))), (0, .ref (y.2 20 0)), (2, .ref (y.2 27 i2)), (3, .int (v3)), (5, .int (v5))]) hx hb dX8_remit_128 hl (k := 4) rfl (by rw [ex_128]; rfl) (by decide) rfl (fun ls hl => ?_)
        refine lv_iload_n hx hb dX8_remit_131 rfl (lv_at hl 4 rfl) ?_
        refine lv_aload hx hb dX8_remit_132 (lv_at hl 1 rfl) ?_
        refine g21_9 hx hb hts hown hK hR (hM.vil (vp_lt o_120)) q2050 dX8_remit_134 ?_
        refine lv_aload hx hb dX8_remit_137 (lv_at hl 1 rfl) ?_
        refine g21_8 hx hb hts hown hK hR (hM.vil (vp_lt o_120)) q2049 dX8_remit_139 ?_
        refine lv_aload hx hb dX8_remit_142 (lv_at hl 1 rfl) ?_
        refine g21_3 hx hb hts hown hK hR (hM.vil (vp_lt o_120)) q2043 dX8_remit_144 ?_
        refine lv_imul hx hb dX8_remit_147 ?_
        refine lv_bipush (v := (7 : Int32)) hx hb dX8_remit_148 (by decide) ?_
        refine lv_imul hx hb dX8_remit_150 ?_
        refine lv_bipush (v := (120 : Int32)) hx hb dX8_remit_151 (by decide) ?_
        refine lv_idiv hx hb dX8_remit_153 (by decide) ?_
        refine jn_elim h (fun j162 ej162 h => ?_)
        have Jj162 : ∀ (w162 : Wd) (s0_162 : Int32) (s1_162 : Int32) (H : Heap) (locs : List Loc) (ls : Array Slot), j162 w162 s0_162 s1_162 → Rp κ w162 y X [] H → va_S (Af κ) s.heap H locs → lv_has ls 7 [(4, .int (x_128)), (0, .ref (y.2 20 0)), (2, .ref (y.2 27 i2)), (5, .int (v5))] → W p l e (headSpec (ws_ yX8_remit cX8_remit 7 (Option.some Jvm.ClassFile.FieldType.int)) rm_X8_remit).room s m args below meth c H locs (cells + 0) (slots + 0) (MQ below (va_Qi post (fun w t => Rp κ w y X [] t.heap) (Af κ)) args s 0 0 (Af κ)) (F0 m 162 ls [.int (s0_162), .int (s1_162)]) := by
          clear h
          intro w162 s0_162 s1_162 H locs ls h hR hS hl
          subst ej162
          refine lv_iadd hx hb dX8_remit_162 ?_
          refine lv_topi (fun x_163 ex_163 => ?_)
          have h := h x_163 ex_163
          refine lv_istore_n (lv' := [(3, .int (x_163)), (4, .int (x_128)), (0, .ref (y.2 20 0)), (2, .ref (y.2 27 i2)), (5, .int (v5))]) hx hb dX8_remit_163 rfl hl (by decide) rfl (fun ls hl => ?_)
          refine W.widen (k := cells + 0) (n := slots + 0) (by omega) (by omega) ?_
          exact Jj164 w162 x_163 x_128 _ _ _ h hR hS (lv_sub hl [0, 1, 2, 3, 4] rfl)
        refine lv_icmp_ge (tgt := 161) hx hb dX8_remit_154 (by decide) (fun c_154 => ?_) (fun c_154 => ?_)
        · have h := h.1 c_154
          refine lv_iconst (v := (0 : Int32)) hx hb dX8_remit_161 (by decide) ?_
          refine W.widen (k := cells + 0) (n := slots + 0) (by omega) (by omega) ?_
          exact Jj162 w_105 (0 : Int32) v3 _ _ _ h hR hS (lv_sub hl [0, 2, 3, 5] rfl)
        · have h := h.2 c_154
          refine lv_iconst (v := (1 : Int32)) hx hb dX8_remit_157 (by decide) ?_
          refine lv_goto (tgt := 162) hx hb dX8_remit_158 (by decide) ?_
          refine W.widen (k := cells + 0) (n := slots + 0) (by omega) (by omega) ?_
          exact Jj162 w_105 (1 : Int32) v3 _ _ _ h hR hS (lv_sub hl [0, 2, 3, 5] rfl)
      · have h := h.2 c_108
        refine lv_goto (tgt := 164) hx hb dX8_remit_111 (by decide) ?_
        refine W.widen (k := cells + 0) (n := slots + 0) (by omega) (by omega) ?_
        exact Jj164 w_105 v3 v4 _ _ _ h hR hS (lv_sub hl [2, 3, 0, 1, 4] rfl)
def sp_X8_remit (κ : Kx) (y : Ly) (post : Int32 → Wd → Prop) (w : Wd) (p1 : Int32) : Prop := sp_X8_isNoLot κ y (fun r_3 w_3 => sp_X8_start κ y (fun r_7 w_7 => ((r_7 = 0) → ((vp_in (p1) (mL y)) ∧ (∀ j62 : Wd → Int32 → Prop, (j62 = fun (w62 : Wd) (s0_62 : Int32) => sp_X8_refuse κ y (fun r_63 w_63 => ((r_63 = 0) → (sp_X8_year κ y (fun r_73 w_73 => ∀ w_76 : Wd, w_76 = sv w_73 27 (((p1).toNatClampNeg)) 10 (r_73) → sp_X8_remit_87 κ y post (fun w_87 y3_87 y4_87 => (¬ gv w_87 27 (((p1).toNatClampNeg)) 2 = 0) ∧ ((¬ y4_87 = 0) ∧ (∀ x_184 : Int32, x_184 = (((gv w_87 27 (((p1).toNatClampNeg)) 6) / (gv w_87 27 (((p1).toNatClampNeg)) 2)) * y3_87) / y4_87 → (vp_in (gv w_87 27 (((p1).toNatClampNeg)) 5) (mC y)) ∧ (∀ j243 : Wd → Int32 → Prop, (j243 = fun (w243 : Wd) (v5_243 : Int32) => ∀ w_251 : Wd, w_251 = sv w243 27 (((p1).toNatClampNeg)) 9 ((gv w243 27 (((p1).toNatClampNeg)) 9) + v5_243) → post (v5_243) w_251) → (((gv w_87 26 (((gv w_87 27 (((p1).toNatClampNeg)) 5).toNatClampNeg)) 6 < (20 : Int32)) → (j243 w_87 x_184)) ∧ ((¬ (gv w_87 26 (((gv w_87 27 (((p1).toNatClampNeg)) 5).toNatClampNeg)) 6 < (20 : Int32))) → (∀ w_221 : Wd, w_221 = sv w_87 26 (((gv w_87 27 (((p1).toNatClampNeg)) 5).toNatClampNeg)) 6 ((gv w_87 26 (((gv w_87 27 (((p1).toNatClampNeg)) 5).toNatClampNeg)) 6) - (20 : Int32)) → ∀ w_231 : Wd, w_231 = sv w_221 20 0 16 ((gv w_221 20 0 16) + (1 : Int32)) → ∀ x_241 : Int32, x_241 = x_184 + (x_184 / (2 : Int32)) → j243 w_231 x_241))))))) (((p1).toNatClampNeg)) 9 w_76 (0 : Int32) (0 : Int32) (0 : Int32)) w_63 )) ∧ ((¬ (r_63 = 0)) → (post ((0 : Int32)) w_63))) w62 s0_62 (2 : Int32)) → (((¬ gv w_7 27 (((p1).toNatClampNeg)) 4 = (1 : Int32)) → (j62 w_7 (1 : Int32))) ∧ ((gv w_7 27 (((p1).toNatClampNeg)) 4 = (1 : Int32)) → (((¬ (gv w_7 20 0 1) - (gv w_7 20 0 1) / (4 : Int32) * (4 : Int32) = (3 : Int32)) → (j62 w_7 (1 : Int32))) ∧ (((gv w_7 20 0 1) - (gv w_7 20 0 1) / (4 : Int32) * (4 : Int32) = (3 : Int32)) → (sp_X8_year κ y (fun r_51 w_51 => ((¬ gv w_7 27 (((p1).toNatClampNeg)) 10 = r_51) → (j62 w_51 (0 : Int32))) ∧ ((gv w_7 27 (((p1).toNatClampNeg)) 10 = r_51) → (j62 w_51 (1 : Int32)))) w_7 )))))))) ∧ ((¬ (r_7 = 0)) → (post ((0 : Int32)) w_7))) w_3 r_3 (1 : Int32)) w p1
theorem hd_X8_remit : yX8_remit.cls = RX8 ∧ yX8_remit.cls ≠ "java/lang/invoke/MethodHandle" ∧ yX8_remit.cls ≠ "java/lang/invoke/VarHandle" ∧ (parseMethodDescriptor yX8_remit.desc).map (fun d => d.parameters.length) = some 1 := by decide +kernel
set_option maxHeartbeats 4000000 in
theorem m_X8_remit {l : Launch} {κ : Kx} {y : Ly} {X : XR} {post : Int32 → Wd → Prop} {w : Wd} {p1 : Int32}  (hM : WFm κ y) (l0 : live y 20 0) (h : sp_X8_remit κ y post w p1) : Met l yX8_remit (ws_ yX8_remit cX8_remit 7 (Option.some Jvm.ClassFile.FieldType.int)) rm_X8_remit (va_Pc [.ref (y.2 20 0), .int (p1)] (RC κ w y X)) (va_Qi post (fun w t => Rp κ w y X [] t.heap) (Af κ)) 0 0 (Af κ) := by
  unfold sp_X8_remit at h
  refine Met.ofW (cc := cX8_remit) (maxL := 7) (ret := (Option.some Jvm.ClassFile.FieldType.int)) (by decide) rfl ?_
  intro p e s m args below meth c s₁ B hml hv
  obtain ⟨rfl, hR, hK⟩ := hv
  have hx := B.exec
  have hb := B.bytes
  have hr := B.returns
  have hts := atoms_spec (ws := ws_ yX8_remit cX8_remit 7 (Option.some Jvm.ClassFile.FieldType.int)) B.pre
  have hts : ∀ w ∈ lw_all, w.before _ s = true := fun w h => hts w (List.mem_cons_of_mem _ h)
  have hown : s.vm.findClass RX8 = some m.cls := findClass_of_methodNamed B.named
  have hlocks := B.notSynchronized
  have hS : va_S (Af κ) s.heap s.heap [] := va_S.rf
  have hl := lv_entry ([.ref (y.2 20 0), .int (p1)]) (n := 7) (Nat.le_of_ble_eq_true rfl)
  rw [lg_entry_eq]
  generalize (lg_sl ([.ref (y.2 20 0), .int (p1)]) ++ List.replicate (7 - (lg_sl ([.ref (y.2 20 0), .int (p1)])).length) Slot.unset).toArray = ls at hl ⊢
  have hl : lv_has ls 7 [(0, .ref (y.2 20 0)), (1, .int (p1))] := hl
  refine lv_aload_n hx hb dX8_remit_0 rfl (lv_at hl 0 rfl) ?_
  refine lv_aload_n hx hb dX8_remit_1 rfl (lv_at hl 0 rfl) ?_
  refine lv_iload_n hx hb dX8_remit_2 rfl (lv_at hl 1 rfl) ?_
  refine ce_qi (fw := fun u => u) (fy := fun _ => y) (cr_V (n := 1) (As := [.int (p1)]) (rest := [.ref (y.2 20 0)]) ⟨hx, hb, hml, hown, hts⟩ hK hR (m_X8_isNoLot hM l0 h) q2308 q2310 qs44 q85 q2311 rfl rfl hd_X8_isNoLot ⟨Nat.le_of_ble_eq_true rfl, Nat.le_of_ble_eq_true rfl⟩ (rv hK hR l0 (ci := 11) rfl rfl) rfl rfl hl.1 rfl (lv_room (Nat.le_of_ble_eq_true rfl)) dX8_remit_3 ⟨(Nat.le_of_ble_eq_true rfl), (Nat.le_of_ble_eq_true rfl)⟩) hR hS (fun r_3 w_3 H locs h hR _ hS => ?_)
  refine lv_iconst (v := (1 : Int32)) hx hb dX8_remit_6 (by decide) ?_
  refine ce_qi (fw := fun u => u) (fy := fun _ => y) (cr_V (n := 2) (As := [.int (r_3), .int ((1 : Int32))]) (rest := []) ⟨hx, hb, hml, hown, hts⟩ hK hR (m_X8_start hM l0 h) q2023 q2025 qs37 q85 q2026 rfl rfl hd_X8_start ⟨Nat.le_of_ble_eq_true rfl, Nat.le_of_ble_eq_true rfl⟩ (rv hK hR l0 (ci := 11) rfl rfl) rfl rfl hl.1 rfl (lv_room (Nat.le_of_ble_eq_true rfl)) dX8_remit_7 ⟨(Nat.le_of_ble_eq_true rfl), (Nat.le_of_ble_eq_true rfl)⟩) hR hS (fun r_7 w_7 H locs h hR _ hS => ?_)
  refine lv_if_eq (tgt := 15) hx hb dX8_remit_10 (by decide) (fun c_10 => ?_) (fun c_10 => ?_)
  · have h := h.1 c_10
    refine lv_aload_n hx hb dX8_remit_15 rfl (lv_at hl 0 rfl) ?_
    refine g20_5 hx hb hts hown hK hR l0 q1950 dX8_remit_16 ?_
    refine lv_iload_n hx hb dX8_remit_19 rfl (lv_at hl 1 rfl) ?_
    have o_20 := h.1
    have h := h.2
    refine jr_get (a := y.2 27 ((p1).toNatClampNeg)) ⟨hx, hb, hml, hown, hts⟩ hK hR ⟨fun _ _ _ _ _ => rfl, fun _ _ _ _ _ => rfl⟩ hM.lsL ⟨hM.arL (Nat.lt_of_le_of_lt (Nat.zero_le _) (vp_lt o_20)), (Nat.le_trans hM.mL8 (by decide))⟩ o_20 (hM.elL (vp_lt o_20)) q2101 ⟨Nat.le_of_ble_eq_true rfl, Nat.le_of_ble_eq_true rfl⟩ hl.1 (Nat.le_of_ble_eq_true rfl) dX8_remit_20 ⟨(Nat.le_of_ble_eq_true rfl), (Nat.le_of_ble_eq_true rfl)⟩ ?_
    refine jr_castS (ci := 14) hx hb hown hK hts (hR.role (hM.lot (vp_lt o_20))) rfl q2253 dX8_remit_23 ?_
    refine lv_astore_n (lv' := [(2, .ref (y.2 27 ((p1).toNatClampNeg))), (0, .ref (y.2 20 0)), (1, .int (p1))]) hx hb dX8_remit_26 rfl hl (by decide) rfl (fun ls hl => ?_)
    refine lv_aload_n hx hb dX8_remit_27 rfl (lv_at hl 1 rfl) ?_
    refine lv_aload_n hx hb dX8_remit_28 rfl (lv_at hl 0 rfl) ?_
    refine g27_4 hx hb hts hown hK hR (hM.lot (vp_lt o_20)) q2264 dX8_remit_29 ?_
    refine lv_iconst (v := (1 : Int32)) hx hb dX8_remit_32 (by decide) ?_
    refine jn_elim h (fun j62 ej62 h => ?_)
    have Jj62 : ∀ (w62 : Wd) (s0_62 : Int32) (H : Heap) (locs : List Loc) (ls : Array Slot), j62 w62 s0_62 → Rp κ w62 y X [] H → va_S (Af κ) s.heap H locs → lv_has ls 7 [(2, .ref (y.2 27 ((p1).toNatClampNeg))), (0, .ref (y.2 20 0))] → W p l e (headSpec (ws_ yX8_remit cX8_remit 7 (Option.some Jvm.ClassFile.FieldType.int)) rm_X8_remit).room s m ([.ref (y.2 20 0), .int (p1)] : List Value).toArray below meth c H locs (0) (0) (MQ below (va_Qi post (fun w t => Rp κ w y X [] t.heap) (Af κ)) ([.ref (y.2 20 0), .int (p1)] : List Value).toArray s 0 0 (Af κ)) (F0 m 62 ls [.int (s0_62), .ref (y.2 20 0)]) := by
      clear h
      intro w62 s0_62 H locs ls h hR hS hl
      subst ej62
      refine lv_iconst (v := (2 : Int32)) hx hb dX8_remit_62 (by decide) ?_
      refine ce_qi (fw := fun u => u) (fy := fun _ => y) (cr_V (n := 2) (As := [.int (s0_62), .int ((2 : Int32))]) (rest := []) ⟨hx, hb, hml, hown, hts⟩ hK hR (m_X8_refuse hM l0 h) q2027 q2029 qs38 q85 q2030 rfl rfl hd_X8_refuse ⟨Nat.le_of_ble_eq_true rfl, Nat.le_of_ble_eq_true rfl⟩ (rv hK hR l0 (ci := 11) rfl rfl) rfl rfl hl.1 rfl (lv_room (Nat.le_of_ble_eq_true rfl)) dX8_remit_63 ⟨(Nat.le_of_ble_eq_true rfl), (Nat.le_of_ble_eq_true rfl)⟩) hR hS (fun r_63 w_63 H locs h hR _ hS => ?_)
      refine lv_if_eq (tgt := 71) hx hb dX8_remit_66 (by decide) (fun c_66 => ?_) (fun c_66 => ?_)
      · have h := h.1 c_66
        refine lv_aload_n hx hb dX8_remit_71 rfl (lv_at hl 0 rfl) ?_
        refine lv_aload_n hx hb dX8_remit_72 rfl (lv_at hl 1 rfl) ?_
        refine ce_qi (fw := fun u => u) (fy := fun _ => y) (cr_V (n := 0) (As := []) (rest := [.ref (y.2 27 ((p1).toNatClampNeg))]) ⟨hx, hb, hml, hown, hts⟩ hK hR (m_X8_year hM l0 h) q2359 q2361 qs50 q85 q2362 rfl rfl hd_X8_year ⟨Nat.le_of_ble_eq_true rfl, Nat.le_of_ble_eq_true rfl⟩ (rv hK hR l0 (ci := 11) rfl rfl) rfl rfl hl.1 rfl (lv_room (Nat.le_of_ble_eq_true rfl)) dX8_remit_73 ⟨(Nat.le_of_ble_eq_true rfl), (Nat.le_of_ble_eq_true rfl)⟩) hR hS (fun r_73 w_73 H locs h hR _ hS => ?_)
        refine p27_10 hx hb hts hown hK hR hS (hM.lot (vp_lt o_20)) q2272 dX8_remit_76 (fun H locs w_76 ew_76 hR hS => ?_)
        have h := h w_76 ew_76
        refine lv_iconst (v := (0 : Int32)) hx hb dX8_remit_79 (by decide) ?_
        refine lv_istore_n (lv' := [(3, .int ((0 : Int32))), (2, .ref (y.2 27 ((p1).toNatClampNeg))), (0, .ref (y.2 20 0))]) hx hb dX8_remit_80 rfl hl (by decide) rfl (fun ls hl => ?_)
        refine lv_iconst (v := (0 : Int32)) hx hb dX8_remit_81 (by decide) ?_
        refine lv_istore (lv' := [(4, .int ((0 : Int32))), (3, .int ((0 : Int32))), (2, .ref (y.2 27 ((p1).toNatClampNeg))), (0, .ref (y.2 20 0))]) hx hb dX8_remit_82 hl (by decide) rfl (fun ls hl => ?_)
        refine lv_iconst (v := (0 : Int32)) hx hb dX8_remit_84 (by decide) ?_
        refine lv_istore (lv' := [(5, .int ((0 : Int32))), (4, .int ((0 : Int32))), (3, .int ((0 : Int32))), (2, .ref (y.2 27 ((p1).toNatClampNeg))), (0, .ref (y.2 20 0))]) hx hb dX8_remit_85 hl (by decide) rfl (fun ls hl => ?_)
        refine lp_X8_remit_87 (C1 := 0) (S1 := 0) hx hb hr hml hown hts hlocks hK hM l0 (hM.lot (vp_lt o_20)) (Nat.le_of_ble_eq_true rfl) (Nat.le_of_ble_eq_true rfl) (fun w_87 y3_87 y4_87 H locs ls cells9 slots9 h hR hS hl hc9 hs9 => ?_) 9 w_76 (0 : Int32) (0 : Int32) (0 : Int32) _ _ _ _ _  h hR hS (lv_sub hl [4, 3, 2, 1, 0] rfl) (by omega) (by omega)
        refine W.widen (k := 0) (n := 0) hc9 hs9 ?_
        refine lv_aload_n hx hb dX8_remit_170 rfl (lv_at hl 1 rfl) ?_
        refine g27_6 hx hb hts hown hK hR (hM.lot (vp_lt o_20)) q2267 dX8_remit_171 ?_
        refine lv_aload_n hx hb dX8_remit_174 rfl (lv_at hl 1 rfl) ?_
        refine g27_2 hx hb hts hown hK hR (hM.lot (vp_lt o_20)) q2261 dX8_remit_175 ?_
        have o_178 := h.1
        have h := h.2
        refine lv_idiv hx hb dX8_remit_178 o_178 ?_
        refine lv_iload_n hx hb dX8_remit_179 rfl (lv_at hl 2 rfl) ?_
        refine lv_imul hx hb dX8_remit_180 ?_
        refine lv_iload hx hb dX8_remit_181 (lv_at hl 3 rfl) ?_
        have o_183 := h.1
        have h := h.2
        refine lv_idiv hx hb dX8_remit_183 o_183 ?_
        refine lv_topi (fun x_184 ex_184 => ?_)
        have h := h x_184 ex_184
        refine lv_istore (lv' := [(5, .int (x_184)), (0, .ref (y.2 20 0)), (2, .ref (y.2 27 ((p1).toNatClampNeg))), (3, .int (y3_87)), (4, .int (y4_87))]) hx hb dX8_remit_184 hl (by decide) rfl (fun ls hl => ?_)
        refine lv_aload_n hx hb dX8_remit_186 rfl (lv_at hl 1 rfl) ?_
        refine g20_4 hx hb hts hown hK hR l0 q1949 dX8_remit_187 ?_
        refine lv_aload_n hx hb dX8_remit_190 rfl (lv_at hl 2 rfl) ?_
        refine g27_5 hx hb hts hown hK hR (hM.lot (vp_lt o_20)) q2266 dX8_remit_191 ?_
        have o_194 := h.1
        have h := h.2
        refine jr_get (a := y.2 26 ((gv w_87 27 (((p1).toNatClampNeg)) 5).toNatClampNeg)) ⟨hx, hb, hml, hown, hts⟩ hK hR ⟨fun _ _ _ _ _ => rfl, fun _ _ _ _ _ => rfl⟩ hM.lsC ⟨hM.arC (Nat.lt_of_le_of_lt (Nat.zero_le _) (vp_lt o_194)), (Nat.le_trans hM.mC4 (by decide))⟩ o_194 (hM.elC (vp_lt o_194)) q2101 ⟨Nat.le_of_ble_eq_true rfl, Nat.le_of_ble_eq_true rfl⟩ hl.1 (Nat.le_of_ble_eq_true rfl) dX8_remit_194 ⟨(Nat.le_of_ble_eq_true rfl), (Nat.le_of_ble_eq_true rfl)⟩ ?_
        refine jr_castS (ci := 13) hx hb hown hK hts (hR.role (hM.com (vp_lt o_194))) rfl q2141 dX8_remit_197 ?_
        refine lv_astore (lv' := [(6, .ref (y.2 26 ((gv w_87 27 (((p1).toNatClampNeg)) 5).toNatClampNeg))), (5, .int (x_184)), (0, .ref (y.2 20 0)), (2, .ref (y.2 27 ((p1).toNatClampNeg))), (3, .int (y3_87)), (4, .int (y4_87))]) hx hb dX8_remit_200 hl (by decide) rfl (fun ls hl => ?_)
        refine lv_aload hx hb dX8_remit_202 (lv_at hl 0 rfl) ?_
        refine g26_6 hx hb hts hown hK hR (hM.com (vp_lt o_194)) q2155 dX8_remit_204 ?_
        refine lv_bipush (v := (20 : Int32)) hx hb dX8_remit_207 (by decide) ?_
        refine jn_elim h (fun j243 ej243 h => ?_)
        have Jj243 : ∀ (w243 : Wd) (v5_243 : Int32) (H : Heap) (locs : List Loc) (ls : Array Slot), j243 w243 v5_243 → Rp κ w243 y X [] H → va_S (Af κ) s.heap H locs → lv_has ls 7 [(5, .int (v5_243)), (2, .ref (y.2 27 ((p1).toNatClampNeg)))] → W p l e (headSpec (ws_ yX8_remit cX8_remit 7 (Option.some Jvm.ClassFile.FieldType.int)) rm_X8_remit).room s m ([.ref (y.2 20 0), .int (p1)] : List Value).toArray below meth c H locs (0) (0) (MQ below (va_Qi post (fun w t => Rp κ w y X [] t.heap) (Af κ)) ([.ref (y.2 20 0), .int (p1)] : List Value).toArray s 0 0 (Af κ)) (F0 m 243 ls []) := by
          clear h
          intro w243 v5_243 H locs ls h hR hS hl
          subst ej243
          refine lv_aload_n hx hb dX8_remit_243 rfl (lv_at hl 1 rfl) ?_
          refine lv_dup hx hb dX8_remit_244 rfl ?_
          refine g27_9 hx hb hts hown hK hR (hM.lot (vp_lt o_20)) q2270 dX8_remit_245 ?_
          refine lv_iload hx hb dX8_remit_248 (lv_at hl 0 rfl) ?_
          refine lv_iadd hx hb dX8_remit_250 ?_
          refine p27_9 hx hb hts hown hK hR hS (hM.lot (vp_lt o_20)) q2270 dX8_remit_251 (fun H locs w_251 ew_251 hR hS => ?_)
          have h := h w_251 ew_251
          refine lv_iload hx hb dX8_remit_254 (lv_at hl 0 rfl) ?_
          refine W.widen (k := 0) (n := 0) (Nat.le_of_ble_eq_true rfl) (Nat.le_of_ble_eq_true rfl) ?_
          exact W.iret (v := v5_243) hx hb hr (fun t ht hW9 => ⟨⟨v5_243, w_251, rfl, h, rpt ht hR⟩, hS.F ht⟩) hS.2.2 dX8_remit_256
        refine lv_icmp_lt (tgt := 243) hx hb dX8_remit_209 (by decide) (fun c_209 => ?_) (fun c_209 => ?_)
        · have h := h.1 c_209
          refine W.widen (k := 0) (n := 0) (Nat.le_of_ble_eq_true rfl) (Nat.le_of_ble_eq_true rfl) ?_
          exact Jj243 w_87 x_184 _ _ _ h hR hS (lv_sub hl [1, 3] rfl)
        · have h := h.2 c_209
          refine lv_aload hx hb dX8_remit_212 (lv_at hl 0 rfl) ?_
          refine lv_dup hx hb dX8_remit_214 rfl ?_
          refine g26_6 hx hb hts hown hK hR (hM.com (vp_lt o_194)) q2155 dX8_remit_215 ?_
          refine lv_bipush (v := (20 : Int32)) hx hb dX8_remit_218 (by decide) ?_
          refine lv_isub hx hb dX8_remit_220 ?_
          refine p26_6 hx hb hts hown hK hR hS (hM.com (vp_lt o_194)) q2155 dX8_remit_221 (fun H locs w_221 ew_221 hR hS => ?_)
          have h := h w_221 ew_221
          refine lv_aload_n hx hb dX8_remit_224 rfl (lv_at hl 2 rfl) ?_
          refine lv_dup hx hb dX8_remit_225 rfl ?_
          refine g20_16 hx hb hts hown hK hR l0 q1961 dX8_remit_226 ?_
          refine lv_iconst (v := (1 : Int32)) hx hb dX8_remit_229 (by decide) ?_
          refine lv_iadd hx hb dX8_remit_230 ?_
          refine p20_16 hx hb hts hown hK hR hS l0 q1961 dX8_remit_231 (fun H locs w_231 ew_231 hR hS => ?_)
          have h := h w_231 ew_231
          refine lv_iload hx hb dX8_remit_234 (lv_at hl 1 rfl) ?_
          refine lv_iload hx hb dX8_remit_236 (lv_at hl 1 rfl) ?_
          refine lv_iconst (v := (2 : Int32)) hx hb dX8_remit_238 (by decide) ?_
          refine lv_idiv hx hb dX8_remit_239 (by decide) ?_
          refine lv_iadd hx hb dX8_remit_240 ?_
          refine lv_topi (fun x_241 ex_241 => ?_)
          have h := h x_241 ex_241
          refine lv_istore (lv' := [(5, .int (x_241)), (6, .ref (y.2 26 ((gv w_87 27 (((p1).toNatClampNeg)) 5).toNatClampNeg))), (0, .ref (y.2 20 0)), (2, .ref (y.2 27 ((p1).toNatClampNeg))), (3, .int (y3_87)), (4, .int (y4_87))]) hx hb dX8_remit_241 hl (by decide) rfl (fun ls hl => ?_)
          refine W.widen (k := 0) (n := 0) (Nat.le_of_ble_eq_true rfl) (Nat.le_of_ble_eq_true rfl) ?_
          exact Jj243 w_231 x_241 _ _ _ h hR hS (lv_sub hl [0, 3] rfl)
      · have h := h.2 c_66
        refine lv_iconst (v := (0 : Int32)) hx hb dX8_remit_69 (by decide) ?_
        refine W.widen (k := 0) (n := 0) (Nat.le_of_ble_eq_true rfl) (Nat.le_of_ble_eq_true rfl) ?_
        exact W.iret (v := (0 : Int32)) hx hb hr (fun t ht hW9 => ⟨⟨(0 : Int32), w_63, rfl, h, rpt ht hR⟩, hS.F ht⟩) hS.2.2 dX8_remit_70
    refine lv_icmp_ne (tgt := 57) hx hb dX8_remit_33 (by decide) (fun c_33 => ?_) (fun c_33 => ?_)
    · have h := h.1 c_33
      refine lv_iconst (v := (1 : Int32)) hx hb dX8_remit_57 (by decide) ?_
      refine lv_goto (tgt := 62) hx hb dX8_remit_58 (by decide) ?_
      refine W.widen (k := 0) (n := 0) (Nat.le_of_ble_eq_true rfl) (Nat.le_of_ble_eq_true rfl) ?_
      exact Jj62 w_7 (1 : Int32) _ _ _ h hR hS (lv_sub hl [0, 1] rfl)
    · have h := h.2 c_33
      refine lv_aload_n hx hb dX8_remit_36 rfl (lv_at hl 1 rfl) ?_
      refine g20_1 hx hb hts hown hK hR l0 q1946 dX8_remit_37 ?_
      refine lv_iconst (v := (4 : Int32)) hx hb dX8_remit_40 (by decide) ?_
      refine lv_irem hx hb dX8_remit_41 (by decide) ?_
      refine lv_iconst (v := (3 : Int32)) hx hb dX8_remit_42 (by decide) ?_
      refine lv_icmp_ne (tgt := 57) hx hb dX8_remit_43 (by decide) (fun c_43 => ?_) (fun c_43 => ?_)
      · have h := h.1 c_43
        refine lv_iconst (v := (1 : Int32)) hx hb dX8_remit_57 (by decide) ?_
        refine lv_goto (tgt := 62) hx hb dX8_remit_58 (by decide) ?_
        refine W.widen (k := 0) (n := 0) (Nat.le_of_ble_eq_true rfl) (Nat.le_of_ble_eq_true rfl) ?_
        exact Jj62 w_7 (1 : Int32) _ _ _ h hR hS (lv_sub hl [0, 1] rfl)
      · have h := h.2 c_43
        refine lv_aload_n hx hb dX8_remit_46 rfl (lv_at hl 0 rfl) ?_
        refine g27_10 hx hb hts hown hK hR (hM.lot (vp_lt o_20)) q2272 dX8_remit_47 ?_
        refine lv_aload_n hx hb dX8_remit_50 rfl (lv_at hl 1 rfl) ?_
        refine ce_qi (fw := fun u => u) (fy := fun _ => y) (cr_V (n := 0) (As := []) (rest := [.int (gv w_7 27 (((p1).toNatClampNeg)) 10), .ref (y.2 20 0)]) ⟨hx, hb, hml, hown, hts⟩ hK hR (m_X8_year hM l0 h) q2359 q2361 qs50 q85 q2362 rfl rfl hd_X8_year ⟨Nat.le_of_ble_eq_true rfl, Nat.le_of_ble_eq_true rfl⟩ (rv hK hR l0 (ci := 11) rfl rfl) rfl rfl hl.1 rfl (lv_room (Nat.le_of_ble_eq_true rfl)) dX8_remit_51 ⟨(Nat.le_of_ble_eq_true rfl), (Nat.le_of_ble_eq_true rfl)⟩) hR hS (fun r_51 w_51 H locs h hR _ hS => ?_)
        refine lv_icmp_ne (tgt := 61) hx hb dX8_remit_54 (by decide) (fun c_54 => ?_) (fun c_54 => ?_)
        · have h := h.1 c_54
          refine lv_iconst (v := (0 : Int32)) hx hb dX8_remit_61 (by decide) ?_
          refine W.widen (k := 0) (n := 0) (Nat.le_of_ble_eq_true rfl) (Nat.le_of_ble_eq_true rfl) ?_
          exact Jj62 w_51 (0 : Int32) _ _ _ h hR hS (lv_sub hl [0, 1] rfl)
        · have h := h.2 c_54
          refine lv_iconst (v := (1 : Int32)) hx hb dX8_remit_57 (by decide) ?_
          refine lv_goto (tgt := 62) hx hb dX8_remit_58 (by decide) ?_
          refine W.widen (k := 0) (n := 0) (Nat.le_of_ble_eq_true rfl) (Nat.le_of_ble_eq_true rfl) ?_
          exact Jj62 w_51 (1 : Int32) _ _ _ h hR hS (lv_sub hl [0, 1] rfl)
  · have h := h.2 c_10
    refine lv_iconst (v := (0 : Int32)) hx hb dX8_remit_13 (by decide) ?_
    refine W.widen (k := 0) (n := 0) (Nat.le_of_ble_eq_true rfl) (Nat.le_of_ble_eq_true rfl) ?_
    exact W.iret (v := (0 : Int32)) hx hb hr (fun t ht hW9 => ⟨⟨(0 : Int32), w_7, rfl, h, rpt ht hR⟩, hS.F ht⟩) hS.2.2 dX8_remit_14
abbrev rm_X8_clerks : Room := { frames := 2, cells := 0, slots := 0, locals := 44 }
def sp_X8_clerks (κ : Kx) (y : Ly) (post : Int32 → Wd → Prop) (w : Wd) (p1 : Int32) (p2 : Int32) : Prop := sp_X8_isNoDuty κ y (fun r_2 w_2 => sp_X8_start κ y (fun r_6 w_6 => ((r_6 = 0) → ((vp_in (p1) 3) ∧ (∀ x_20 : Int32, x_20 = gv w_6 34 0 (p1).toNatClampNeg → (vp_in (p1) 3) ∧ ((nbo (p2)) ∧ (∀ w_27 : Wd, w_27 = sv w_6 34 0 (p1).toNatClampNeg (p2) → (nbo (x_20)) ∧ (post (x_20) w_27)))))) ∧ ((¬ (r_6 = 0)) → (post ((0 : Int32)) w_6))) w_2 r_2 (1 : Int32)) w p1
theorem hd_X8_clerks : yX8_clerks.cls = RX8 ∧ yX8_clerks.cls ≠ "java/lang/invoke/MethodHandle" ∧ yX8_clerks.cls ≠ "java/lang/invoke/VarHandle" ∧ (parseMethodDescriptor yX8_clerks.desc).map (fun d => d.parameters.length) = some 2 := by decide +kernel
set_option maxHeartbeats 4000000 in
theorem m_X8_clerks {l : Launch} {κ : Kx} {y : Ly} {X : XR} {post : Int32 → Wd → Prop} {w : Wd} {p1 : Int32} {p2 : Int32}  (hM : WFm κ y) (l0 : live y 20 0) (h : sp_X8_clerks κ y post w p1 p2) : Met l yX8_clerks (ws_ yX8_clerks cX8_clerks 4 (Option.some Jvm.ClassFile.FieldType.boolean)) rm_X8_clerks (va_Pc [.ref (y.2 20 0), .int (p1), .int (p2)] (RC κ w y X)) (va_Qi post (fun w t => Rp κ w y X [] t.heap) (Af κ)) 0 0 (Af κ) := by
  unfold sp_X8_clerks at h
  refine Met.ofW (cc := cX8_clerks) (maxL := 4) (ret := (Option.some Jvm.ClassFile.FieldType.boolean)) (by decide) rfl ?_
  intro p e s m args below meth c s₁ B hml hv
  obtain ⟨rfl, hR, hK⟩ := hv
  have hx := B.exec
  have hb := B.bytes
  have hr := B.returns
  have hts := atoms_spec (ws := ws_ yX8_clerks cX8_clerks 4 (Option.some Jvm.ClassFile.FieldType.boolean)) B.pre
  have hts : ∀ w ∈ lw_all, w.before _ s = true := fun w h => hts w (List.mem_cons_of_mem _ h)
  have hown : s.vm.findClass RX8 = some m.cls := findClass_of_methodNamed B.named
  have hlocks := B.notSynchronized
  have hS : va_S (Af κ) s.heap s.heap [] := va_S.rf
  have hl := lv_entry ([.ref (y.2 20 0), .int (p1), .int (p2)]) (n := 4) (Nat.le_of_ble_eq_true rfl)
  rw [lg_entry_eq]
  generalize (lg_sl ([.ref (y.2 20 0), .int (p1), .int (p2)]) ++ List.replicate (4 - (lg_sl ([.ref (y.2 20 0), .int (p1), .int (p2)])).length) Slot.unset).toArray = ls at hl ⊢
  have hl : lv_has ls 4 [(0, .ref (y.2 20 0)), (1, .int (p1)), (2, .int (p2))] := hl
  refine lv_aload_n hx hb dX8_clerks_0 rfl (lv_at hl 0 rfl) ?_
  refine lv_iload_n hx hb dX8_clerks_1 rfl (lv_at hl 1 rfl) ?_
  refine ce_qi (fw := fun u => u) (fy := fun _ => y) (cr_S (n := 1) (As := [.int (p1)]) (rest := [.ref (y.2 20 0)]) ⟨hx, hb, hml, hown, hts⟩ hK hR (m_X8_isNoDuty hM h) q2130 q2131 q85 q2132 rfl rfl hds_X8_isNoDuty ⟨Nat.le_of_ble_eq_true rfl, Nat.le_of_ble_eq_true rfl⟩ rfl rfl hl.1 rfl (lv_room (Nat.le_of_ble_eq_true rfl)) dX8_clerks_2 ⟨(Nat.le_of_ble_eq_true rfl), (Nat.le_of_ble_eq_true rfl)⟩) hR hS (fun r_2 w_2 H locs h hR _ hS => ?_)
  refine lv_iconst (v := (1 : Int32)) hx hb dX8_clerks_5 (by decide) ?_
  refine ce_qi (fw := fun u => u) (fy := fun _ => y) (cr_V (n := 2) (As := [.int (r_2), .int ((1 : Int32))]) (rest := []) ⟨hx, hb, hml, hown, hts⟩ hK hR (m_X8_start hM l0 h) q2023 q2025 qs37 q85 q2026 rfl rfl hd_X8_start ⟨Nat.le_of_ble_eq_true rfl, Nat.le_of_ble_eq_true rfl⟩ (rv hK hR l0 (ci := 11) rfl rfl) rfl rfl hl.1 rfl (lv_room (Nat.le_of_ble_eq_true rfl)) dX8_clerks_6 ⟨(Nat.le_of_ble_eq_true rfl), (Nat.le_of_ble_eq_true rfl)⟩) hR hS (fun r_6 w_6 H locs h hR _ hS => ?_)
  refine lv_if_eq (tgt := 14) hx hb dX8_clerks_9 (by decide) (fun c_9 => ?_) (fun c_9 => ?_)
  · have h := h.1 c_9
    refine lv_aload_n hx hb dX8_clerks_14 rfl (lv_at hl 0 rfl) ?_
    refine g20_10 hx hb hts hown hK hR l0 q1955 dX8_clerks_15 ?_
    refine lv_iload_n hx hb dX8_clerks_18 rfl (lv_at hl 1 rfl) ?_
    have o_19 := h.1
    have h := h.2
    refine a34 hx hb hK hR hM.r34 o_19 dX8_clerks_19 ?_
    refine lv_topi (fun x_20 ex_20 => ?_)
    have h := h x_20 ex_20
    refine lv_istore_n (lv' := [(3, .int (x_20)), (0, .ref (y.2 20 0)), (1, .int (p1)), (2, .int (p2))]) hx hb dX8_clerks_20 rfl hl (by decide) rfl (fun ls hl => ?_)
    refine lv_aload_n hx hb dX8_clerks_21 rfl (lv_at hl 1 rfl) ?_
    refine g20_10 hx hb hts hown hK hR l0 q1955 dX8_clerks_22 ?_
    refine lv_iload_n hx hb dX8_clerks_25 rfl (lv_at hl 2 rfl) ?_
    refine lv_iload_n hx hb dX8_clerks_26 rfl (lv_at hl 3 rfl) ?_
    have o_27 := h.1
    have h := h.2
    have o_27_a := h.1
    have h := h.2
    refine b34 hx hb hK hR hS hM.r34 o_27 o_27_a dX8_clerks_27 (fun H locs w_27 ew_27 hR hS => ?_)
    have h := h w_27 ew_27
    refine lv_iload_n hx hb dX8_clerks_28 rfl (lv_at hl 0 rfl) ?_
    have o_29 := h.1
    have h := h.2
    refine W.widen (k := 0) (n := 0) (Nat.le_of_ble_eq_true rfl) (Nat.le_of_ble_eq_true rfl) ?_
    exact W.zret (v := x_20) hx hb hr o_29.n (fun t ht hW9 => ⟨⟨x_20, w_27, rfl, h, rpt ht hR⟩, hS.F ht⟩) hS.2.2 dX8_clerks_29
  · have h := h.2 c_9
    refine lv_iconst (v := (0 : Int32)) hx hb dX8_clerks_12 (by decide) ?_
    refine W.widen (k := 0) (n := 0) (Nat.le_of_ble_eq_true rfl) (Nat.le_of_ble_eq_true rfl) ?_
    exact W.zret (v := (0 : Int32)) hx hb hr nbo_0.n (fun t ht hW9 => ⟨⟨(0 : Int32), w_6, rfl, h, rpt ht hR⟩, hS.F ht⟩) hS.2.2 dX8_clerks_13
abbrev rm_X8_summer : Room := { frames := 3, cells := 1, slots := 4, locals := 68 }
def st_X8_summer_8 (κ : Kx) (y : Ly) (post : Wd → Prop) (ex : Wd → Prop) (rec : Wd → Nat → Int32 → Prop)  (w : Wd) (c1 : Nat) (z1 : Int32) : Prop := ((¬ (¬ c1 = mV y)) → (ex w )) ∧ (((¬ c1 = mV y)) → (sp_X8_yieldOf κ y (fun r_33 w_33 => ∀ w_36 : Wd, w_36 = sv w_33 21 c1 9 (r_33) → ∀ w_49 : Wd, w_49 = sv w_36 21 c1 4 ((gv w_36 21 c1 4) + (gv w_36 21 c1 9)) → ∀ w_71 : Wd, w_71 = sv w_49 21 c1 2 (jmin (600 : Int32) ((gv w_49 21 c1 2) + ((gv w_49 21 c1 2) / (10 : Int32)))) → rec w_71 (c1 + 1) (nI c1)) w c1 (gv w 20 0 2)))
def sp_X8_summer_8 (κ : Kx) (y : Ly) (post : Wd → Prop) (ex : Wd → Prop)  : Nat → Wd → Nat → Int32 → Prop
  | 0 => fun _ _ _ => False
  | n + 1 => fun w c1 z1 => st_X8_summer_8 κ y post ex (sp_X8_summer_8 κ y post ex  n)  w c1 z1
set_option maxHeartbeats 4000000 in
theorem lp_X8_summer_8 {p : Program} {l : Launch} {e : Env} {s : State} {m : MethodId} {args : Array Value} {below : List Frame} {meth : Method} {c : Code} {κ : Kx} {y : Ly} {X : XR} {post : Wd → Prop} {q1 : Nat} (hx : p.tables.exec = Jvm.exec) (hb : c.code = cX8_summer) (hr : meth.sig.returnType = (Option.none : Option Jvm.ClassFile.FieldType)) (hml : c.maxLocals = 3) (hown : s.vm.findClass RX8 = some m.cls) (hts : ∀ w ∈ lw_all, w.before args s = true) (hlocks : meth.locks = false) (hK : KK κ s) (hM : WFm κ y) (l0 : live y 20 0) {C1 S1 : Nat} (hC : C1 ≤ 1) (hSl : S1 ≤ 4) {ex : Wd → Prop}
    (kx : ∀ (w : Wd)  (H : Heap) (locs : List Loc) (ls : Array Slot) (cells slots : Nat) , ex w  → Rp κ w y X [] H → va_S (Af κ) s.heap H locs → lv_has ls 3 [] → cells ≤ C1 → slots ≤ S1 → W p l e (headSpec (ws_ yX8_summer cX8_summer 3 (Option.none : Option Jvm.ClassFile.FieldType)) rm_X8_summer).room s m args below meth c H locs cells slots (MQ below (va_Qv post (fun w t => Rp κ w y X [] t.heap) (Af κ)) args s 1 4 (Af κ)) (F0 m 77 ls [])) :
    ∀ (f : Nat) (w : Wd) (c1 : Nat) (z1 : Int32) (H : Heap) (locs : List Loc) (ls : Array Slot) (cells slots : Nat)  (hc1 : c1 ≤ mV y), sp_X8_summer_8 κ y post ex  f w c1 z1 → Rp κ w y X [(q1, itC y 50 0 c1 z1)] H → va_S (Af κ) s.heap H locs → lv_has ls 3 [(0, .ref (y.2 20 0)), (1, .ref (q1))] → cells + f * 0 ≤ C1 → slots + f * 0 ≤ S1 → W p l e (headSpec (ws_ yX8_summer cX8_summer 3 (Option.none : Option Jvm.ClassFile.FieldType)) rm_X8_summer).room s m args below meth c H locs cells slots (MQ below (va_Qv post (fun w t => Rp κ w y X [] t.heap) (Af κ)) args s 1 4 (Af κ)) (F0 m 8 ls []) := by
  intro f
  induction f with
  | zero =>
    intro w c1 z1 H locs ls cells slots hc1 h
    exact False.elim h
  | succ f ih =>
    intro w c1 z1 H locs ls cells slots hc1 h hR hS hl hc hs
    have h : st_X8_summer_8 κ y post ex (sp_X8_summer_8 κ y post ex  f)  w c1 z1 := h
    unfold st_X8_summer_8 at h
    refine lv_aload_n hx hb dX8_summer_8 rfl (lv_at hl 1 rfl) ?_
    refine jr_hasNext (t := 0) ⟨hx, hb, hml, hown, hts⟩ hK hR rfl ⟨fun _ _ _ _ _ => rfl, fun _ _ _ _ _ => rfl⟩ hM.lsV (by omega) (Nat.le_trans hM.mV8 (by decide)) q2250 ⟨Nat.le_of_ble_eq_true rfl, Nat.le_of_ble_eq_true rfl⟩ hl.1 (Nat.le_of_ble_eq_true rfl) dX8_summer_9 ⟨(Nat.le_trans (show cells + 0 ≤ C1 from by omega) hC), (Nat.le_trans (show slots + 0 ≤ S1 from by omega) hSl)⟩ ?_
    refine lv_if_eq (tgt := 77) hx hb dX8_summer_14 (by decide) (fun c_14 => ?_) (fun c_14 => ?_)
    · replace c_14 : ¬ (¬ c1 = mV y) := bi_0.mp c_14
      have h := h.1 c_14
      have hR := hR.sub (L' := []) [] rfl rfl
      exact kx w  _ _ _ _ _ h hR hS (lv_sub hl [] rfl) (by omega) (by omega)
    · replace c_14 : (¬ c1 = mV y) := bi_n0.mp c_14
      have h := h.2 c_14
      refine lv_aload_n hx hb dX8_summer_17 rfl (lv_at hl 1 rfl) ?_
      have hn_18 : c1 < mV y := by omega
      refine jr_next (t := 0) (a := y.2 21 c1) ⟨hx, hb, hml, hown, hts⟩ hK hR hS rfl ⟨fun _ _ _ _ _ => rfl, fun _ _ _ _ _ => rfl⟩ hM.lsV ⟨hM.arV (Nat.lt_of_le_of_lt (Nat.zero_le _) hn_18), (Nat.le_trans hM.mV8 (by decide))⟩ hn_18 (hM.elV hn_18) q2252 ⟨Nat.le_of_ble_eq_true rfl, Nat.le_of_ble_eq_true rfl⟩ hl.1 (Nat.le_of_ble_eq_true rfl) dX8_summer_18 ⟨(Nat.le_trans (show cells + 0 ≤ C1 from by omega) hC), (Nat.le_trans (show slots + 0 ≤ S1 from by omega) hSl)⟩ (fun H locs hR hS => ?_)
      have hR : Rp κ w y X [(q1, itC y 50 0 (c1 + 1) (nI c1))] H := hR
      refine jr_castS (ci := 12) hx hb hown hK hts (hR.role (hM.vil hn_18)) rfl q2032 dX8_summer_23 ?_
      refine lv_astore_n (lv' := [(2, .ref (y.2 21 c1)), (0, .ref (y.2 20 0)), (1, .ref (q1))]) hx hb dX8_summer_26 rfl hl (by decide) rfl (fun ls hl => ?_)
      refine lv_aload_n hx hb dX8_summer_27 rfl (lv_at hl 0 rfl) ?_
      refine lv_aload_n hx hb dX8_summer_28 rfl (lv_at hl 0 rfl) ?_
      refine lv_aload_n hx hb dX8_summer_29 rfl (lv_at hl 1 rfl) ?_
      refine g20_2 hx hb hts hown hK hR l0 q1947 dX8_summer_30 ?_
      refine ce_qi (fw := fun u => u) (fy := fun _ => y) (cr_S (n := 2) (As := [.ref (y.2 21 c1), .int (gv w 20 0 2)]) (rest := [.ref (y.2 21 c1)]) ⟨hx, hb, hml, hown, hts⟩ hK hR (m_X8_yieldOf hM (hM.vil hn_18) h) q2409 q2410 q85 q2411 rfl rfl hds_X8_yieldOf ⟨Nat.le_of_ble_eq_true rfl, Nat.le_of_ble_eq_true rfl⟩ rfl rfl hl.1 rfl (lv_room (Nat.le_of_ble_eq_true rfl)) dX8_summer_33 ⟨(Nat.le_trans (show cells + 0 ≤ C1 from by omega) hC), (Nat.le_trans (show slots + 0 ≤ S1 from by omega) hSl)⟩) hR hS (fun r_33 w_33 H locs h hR _ hS => ?_)
      refine p21_9 hx hb hts hown hK hR hS (hM.vil hn_18) q2050 dX8_summer_36 (fun H locs w_36 ew_36 hR hS => ?_)
      have h := h w_36 ew_36
      refine lv_aload_n hx hb dX8_summer_39 rfl (lv_at hl 0 rfl) ?_
      refine lv_dup hx hb dX8_summer_40 rfl ?_
      refine g21_4 hx hb hts hown hK hR (hM.vil hn_18) q2044 dX8_summer_41 ?_
      refine lv_aload_n hx hb dX8_summer_44 rfl (lv_at hl 0 rfl) ?_
      refine g21_9 hx hb hts hown hK hR (hM.vil hn_18) q2050 dX8_summer_45 ?_
      refine lv_iadd hx hb dX8_summer_48 ?_
      refine p21_4 hx hb hts hown hK hR hS (hM.vil hn_18) q2044 dX8_summer_49 (fun H locs w_49 ew_49 hR hS => ?_)
      have h := h w_49 ew_49
      refine lv_aload_n hx hb dX8_summer_52 rfl (lv_at hl 0 rfl) ?_
      refine lv_sipush (v := (600 : Int32)) hx hb dX8_summer_53 (by decide) ?_
      refine lv_aload_n hx hb dX8_summer_56 rfl (lv_at hl 0 rfl) ?_
      refine g21_2 hx hb hts hown hK hR (hM.vil hn_18) q2042 dX8_summer_57 ?_
      refine lv_aload_n hx hb dX8_summer_60 rfl (lv_at hl 0 rfl) ?_
      refine g21_2 hx hb hts hown hK hR (hM.vil hn_18) q2042 dX8_summer_61 ?_
      refine lv_bipush (v := (10 : Int32)) hx hb dX8_summer_64 (by decide) ?_
      refine lv_idiv hx hb dX8_summer_66 (by decide) ?_
      refine lv_iadd hx hb dX8_summer_67 ?_
      refine va_mmin hx hb (hml.trans hl.1.symm) hown (hts _ q2113) (hts _ q322) (hts _ q95) (hts _ q323) (Nat.le_of_ble_eq_true rfl) (Nat.le_of_ble_eq_true rfl) (Nat.le_trans (show cells + 0 ≤ C1 from by omega) hC) (Nat.le_trans (show slots + 0 ≤ S1 from by omega) hSl) dX8_summer_68 ?_
      refine p21_2 hx hb hts hown hK hR hS (hM.vil hn_18) q2042 dX8_summer_71 (fun H locs w_71 ew_71 hR hS => ?_)
      have h := h w_71 ew_71
      refine lv_goto (tgt := 8) hx hb dX8_summer_74 (by decide) ?_
      exact ih w_71 (c1 + 1) (nI c1) _ _ _ _ _ (by omega) h hR hS (lv_sub hl [1, 2] rfl) (by omega) (by omega)
def sp_X8_summer (κ : Kx) (y : Ly) (post : Wd → Prop) (w : Wd)  : Prop := sp_X8_summer_8 κ y post (fun w_8  => post w_8)  9 w 0 (-1)
theorem hd_X8_summer : yX8_summer.cls = RX8 ∧ yX8_summer.cls ≠ "java/lang/invoke/MethodHandle" ∧ yX8_summer.cls ≠ "java/lang/invoke/VarHandle" ∧ (parseMethodDescriptor yX8_summer.desc).map (fun d => d.parameters.length) = some 0 := by decide +kernel
set_option maxHeartbeats 4000000 in
theorem m_X8_summer {l : Launch} {κ : Kx} {y : Ly} {X : XR} {post : Wd → Prop} {w : Wd}   (hM : WFm κ y) (l0 : live y 20 0) (h : sp_X8_summer κ y post w ) : Met l yX8_summer (ws_ yX8_summer cX8_summer 3 (Option.none : Option Jvm.ClassFile.FieldType)) rm_X8_summer (va_Pc [.ref (y.2 20 0)] (RC κ w y X)) (va_Qv post (fun w t => Rp κ w y X [] t.heap) (Af κ)) 1 4 (Af κ) := by
  unfold sp_X8_summer at h
  refine Met.ofW (cc := cX8_summer) (maxL := 3) (ret := (Option.none : Option Jvm.ClassFile.FieldType)) (by decide) rfl ?_
  intro p e s m args below meth c s₁ B hml hv
  obtain ⟨rfl, hR, hK⟩ := hv
  have hx := B.exec
  have hb := B.bytes
  have hr := B.returns
  have hts := atoms_spec (ws := ws_ yX8_summer cX8_summer 3 (Option.none : Option Jvm.ClassFile.FieldType)) B.pre
  have hts : ∀ w ∈ lw_all, w.before _ s = true := fun w h => hts w (List.mem_cons_of_mem _ h)
  have hown : s.vm.findClass RX8 = some m.cls := findClass_of_methodNamed B.named
  have hlocks := B.notSynchronized
  have hS : va_S (Af κ) s.heap s.heap [] := va_S.rf
  have hl := lv_entry ([.ref (y.2 20 0)]) (n := 3) (Nat.le_of_ble_eq_true rfl)
  rw [lg_entry_eq]
  generalize (lg_sl ([.ref (y.2 20 0)]) ++ List.replicate (3 - (lg_sl ([.ref (y.2 20 0)])).length) Slot.unset).toArray = ls at hl ⊢
  have hl : lv_has ls 3 [(0, .ref (y.2 20 0))] := hl
  refine lv_aload_n hx hb dX8_summer_0 rfl (lv_at hl 0 rfl) ?_
  refine g20_3 hx hb hts hown hK hR l0 q1948 dX8_summer_1 ?_
  refine jr_iter ⟨hx, hb, hml, hown, hts⟩ hK hR hS ⟨fun _ _ _ _ _ => rfl, fun _ _ _ _ _ => rfl⟩ hM.lsV q2248 ⟨Nat.le_of_ble_eq_true rfl, Nat.le_of_ble_eq_true rfl⟩ hl.1 (Nat.le_of_ble_eq_true rfl) dX8_summer_4 ⟨(Nat.le_of_ble_eq_true rfl), (Nat.le_of_ble_eq_true rfl)⟩ (fun q_4 H locs hR hS => ?_)
  have hR : Rp κ w y X [(q_4, itC y 50 0 0 (-1))] H := hR
  refine lv_astore_n (lv' := [(1, .ref (q_4)), (0, .ref (y.2 20 0))]) hx hb dX8_summer_7 rfl hl (by decide) rfl (fun ls hl => ?_)
  refine lp_X8_summer_8 (C1 := 1) (S1 := 4) hx hb hr hml hown hts hlocks hK hM l0 (Nat.le_of_ble_eq_true rfl) (Nat.le_of_ble_eq_true rfl) (fun w_8  H locs ls cells9 slots9 h hR hS hl hc9 hs9 => ?_) 9 w 0 (-1) _ _ _ _ _ (by omega) h hR hS (lv_sub hl [1, 0] rfl) (by omega) (by omega)
  refine W.widen (k := 1) (n := 4) hc9 hs9 ?_
  refine W.widen (k := 1) (n := 4) (Nat.le_of_ble_eq_true rfl) (Nat.le_of_ble_eq_true rfl) ?_
  exact W.vret hx hb hr (fun t ht hW9 => ⟨⟨w_8, rfl, h, rpt ht hR⟩, hS.F ht⟩) hS.2.2 dX8_summer_77
abbrev rm_X8_dueNow : Room := { frames := 3, cells := 0, slots := 0, locals := 93 }
def sp_X8_dueNow (κ : Kx) (y : Ly) (post : Int32 → Wd → Prop) (w : Wd) (p1 : Int32) (p2 : Int32) (p3 : Int32) : Prop := (vp_in (p1) (mV y)) ∧ (((p3 = 0) → ((vp_in (p2) 3) ∧ ((vp_in (p2) 3) ∧ (sp_X8_due κ y (fun r_59 w_59 => post (r_59) w_59) w (((p1).toNatClampNeg)) p2 (gv w 22 (((((p1).toNatClampNeg)))) (p2).toNatClampNeg) (gv w 23 (((((p1).toNatClampNeg)))) (p2).toNatClampNeg))))) ∧ ((¬ (p3 = 0)) → ((vp_in (p2) 3) ∧ ((vp_in (p2) 3) ∧ (sp_X8_has κ y (fun r_33 w_33 => sp_X8_due κ y (fun r_36 w_36 => post (r_36) w_36) w_33 (((p1).toNatClampNeg)) p2 (gv w 30 0 (p2).toNatClampNeg) r_33) w (gv w 31 0 (p2).toNatClampNeg) p1)))))
theorem hd_X8_dueNow : yX8_dueNow.cls = RX8 ∧ yX8_dueNow.cls ≠ "java/lang/invoke/MethodHandle" ∧ yX8_dueNow.cls ≠ "java/lang/invoke/VarHandle" ∧ (parseMethodDescriptor yX8_dueNow.desc).map (fun d => d.parameters.length) = some 3 := by decide +kernel
set_option maxHeartbeats 4000000 in
theorem m_X8_dueNow {l : Launch} {κ : Kx} {y : Ly} {X : XR} {post : Int32 → Wd → Prop} {w : Wd} {p1 : Int32} {p2 : Int32} {p3 : Int32}  (hM : WFm κ y) (l0 : live y 20 0) (h : sp_X8_dueNow κ y post w p1 p2 p3) : Met l yX8_dueNow (ws_ yX8_dueNow cX8_dueNow 5 (Option.some Jvm.ClassFile.FieldType.int)) rm_X8_dueNow (va_Pc [.ref (y.2 20 0), .int (p1), .int (p2), .int (p3)] (RC κ w y X)) (va_Qi post (fun w t => Rp κ w y X [] t.heap) (Af κ)) 0 0 (Af κ) := by
  unfold sp_X8_dueNow at h
  refine Met.ofW (cc := cX8_dueNow) (maxL := 5) (ret := (Option.some Jvm.ClassFile.FieldType.int)) (by decide) rfl ?_
  intro p e s m args below meth c s₁ B hml hv
  obtain ⟨rfl, hR, hK⟩ := hv
  have hx := B.exec
  have hb := B.bytes
  have hr := B.returns
  have hts := atoms_spec (ws := ws_ yX8_dueNow cX8_dueNow 5 (Option.some Jvm.ClassFile.FieldType.int)) B.pre
  have hts : ∀ w ∈ lw_all, w.before _ s = true := fun w h => hts w (List.mem_cons_of_mem _ h)
  have hown : s.vm.findClass RX8 = some m.cls := findClass_of_methodNamed B.named
  have hlocks := B.notSynchronized
  have hS : va_S (Af κ) s.heap s.heap [] := va_S.rf
  have hl := lv_entry ([.ref (y.2 20 0), .int (p1), .int (p2), .int (p3)]) (n := 5) (Nat.le_of_ble_eq_true rfl)
  rw [lg_entry_eq]
  generalize (lg_sl ([.ref (y.2 20 0), .int (p1), .int (p2), .int (p3)]) ++ List.replicate (5 - (lg_sl ([.ref (y.2 20 0), .int (p1), .int (p2), .int (p3)])).length) Slot.unset).toArray = ls at hl ⊢
  have hl : lv_has ls 5 [(0, .ref (y.2 20 0)), (1, .int (p1)), (2, .int (p2)), (3, .int (p3))] := hl
  refine lv_aload_n hx hb dX8_dueNow_0 rfl (lv_at hl 0 rfl) ?_
  refine g20_3 hx hb hts hown hK hR l0 q1948 dX8_dueNow_1 ?_
  refine lv_iload_n hx hb dX8_dueNow_4 rfl (lv_at hl 1 rfl) ?_
  have o_5 := h.1
  have h := h.2
  refine jr_get (a := y.2 21 ((p1).toNatClampNeg)) ⟨hx, hb, hml, hown, hts⟩ hK hR ⟨fun _ _ _ _ _ => rfl, fun _ _ _ _ _ => rfl⟩ hM.lsV ⟨hM.arV (Nat.lt_of_le_of_lt (Nat.zero_le _) (vp_lt o_5)), (Nat.le_trans hM.mV8 (by decide))⟩ o_5 (hM.elV (vp_lt o_5)) q2101 ⟨Nat.le_of_ble_eq_true rfl, Nat.le_of_ble_eq_true rfl⟩ hl.1 (Nat.le_of_ble_eq_true rfl) dX8_dueNow_5 ⟨(Nat.le_of_ble_eq_true rfl), (Nat.le_of_ble_eq_true rfl)⟩ ?_
  refine jr_castS (ci := 12) hx hb hown hK hts (hR.role (hM.vil (vp_lt o_5))) rfl q2032 dX8_dueNow_8 ?_
  refine lv_astore (lv' := [(4, .ref (y.2 21 ((p1).toNatClampNeg))), (0, .ref (y.2 20 0)), (1, .int (p1)), (2, .int (p2)), (3, .int (p3))]) hx hb dX8_dueNow_11 hl (by decide) rfl (fun ls hl => ?_)
  refine lv_iload_n hx hb dX8_dueNow_13 rfl (lv_at hl 4 rfl) ?_
  refine lv_if_eq (tgt := 42) hx hb dX8_dueNow_14 (by decide) (fun c_14 => ?_) (fun c_14 => ?_)
  · have h := h.1 c_14
    refine lv_aload hx hb dX8_dueNow_42 (lv_at hl 0 rfl) ?_
    refine lv_iload_n hx hb dX8_dueNow_44 rfl (lv_at hl 3 rfl) ?_
    refine lv_aload hx hb dX8_dueNow_45 (lv_at hl 0 rfl) ?_
    refine g21_14 hx hb hts hown hK hR (hM.vil (vp_lt o_5)) q2056 dX8_dueNow_47 ?_
    refine lv_iload_n hx hb dX8_dueNow_50 rfl (lv_at hl 3 rfl) ?_
    have o_51 := h.1
    have h := h.2
    refine a22 hx hb hK hR (hM.vra (hM.vil (vp_lt o_5))) o_51 dX8_dueNow_51 ?_
    refine lv_aload hx hb dX8_dueNow_52 (lv_at hl 0 rfl) ?_
    refine g21_15 hx hb hts hown hK hR (hM.vil (vp_lt o_5)) q2058 dX8_dueNow_54 ?_
    refine lv_iload_n hx hb dX8_dueNow_57 rfl (lv_at hl 3 rfl) ?_
    have o_58 := h.1
    have h := h.2
    refine a23 hx hb hK hR (hM.vex (hM.vil (vp_lt o_5))) o_58 dX8_dueNow_58 ?_
    refine ce_qi (fw := fun u => u) (fy := fun _ => y) (cr_S (n := 4) (As := [.ref (y.2 21 ((p1).toNatClampNeg)), .int (p2), .int (gv w 22 (((((p1).toNatClampNeg)))) (p2).toNatClampNeg), .int (gv w 23 (((((p1).toNatClampNeg)))) (p2).toNatClampNeg)]) (rest := []) ⟨hx, hb, hml, hown, hts⟩ hK hR (m_X8_due hM (hM.vil (vp_lt o_5)) h) q2476 q2477 q85 q2478 rfl rfl hds_X8_due ⟨Nat.le_of_ble_eq_true rfl, Nat.le_of_ble_eq_true rfl⟩ rfl rfl hl.1 rfl (lv_room (Nat.le_of_ble_eq_true rfl)) dX8_dueNow_59 ⟨(Nat.le_of_ble_eq_true rfl), (Nat.le_of_ble_eq_true rfl)⟩) hR hS (fun r_59 w_59 H locs h hR _ hS => ?_)
    refine W.widen (k := 0) (n := 0) (Nat.le_of_ble_eq_true rfl) (Nat.le_of_ble_eq_true rfl) ?_
    exact W.iret (v := r_59) hx hb hr (fun t ht hW9 => ⟨⟨r_59, w_59, rfl, h, rpt ht hR⟩, hS.F ht⟩) hS.2.2 dX8_dueNow_62
  · have h := h.2 c_14
    refine lv_aload hx hb dX8_dueNow_17 (lv_at hl 0 rfl) ?_
    refine lv_iload_n hx hb dX8_dueNow_19 rfl (lv_at hl 3 rfl) ?_
    refine lv_aload_n hx hb dX8_dueNow_20 rfl (lv_at hl 1 rfl) ?_
    refine g20_6 hx hb hts hown hK hR l0 q1951 dX8_dueNow_21 ?_
    refine lv_iload_n hx hb dX8_dueNow_24 rfl (lv_at hl 3 rfl) ?_
    have o_25 := h.1
    have h := h.2
    refine a30 hx hb hK hR hM.r30 o_25 dX8_dueNow_25 ?_
    refine lv_aload_n hx hb dX8_dueNow_26 rfl (lv_at hl 1 rfl) ?_
    refine g20_7 hx hb hts hown hK hR l0 q1952 dX8_dueNow_27 ?_
    refine lv_iload_n hx hb dX8_dueNow_30 rfl (lv_at hl 3 rfl) ?_
    have o_31 := h.1
    have h := h.2
    refine a31 hx hb hK hR hM.r31 o_31 dX8_dueNow_31 ?_
    refine lv_iload_n hx hb dX8_dueNow_32 rfl (lv_at hl 2 rfl) ?_
    refine ce_qi (fw := fun u => u) (fy := fun _ => y) (cr_S (n := 2) (As := [.int (gv w 31 0 (p2).toNatClampNeg), .int (p1)]) (rest := [.int (gv w 30 0 (p2).toNatClampNeg), .int (p2), .ref (y.2 21 ((p1).toNatClampNeg))]) ⟨hx, hb, hml, hown, hts⟩ hK hR (m_X8_has hM h) q2102 q2103 q85 q2104 rfl rfl hds_X8_has ⟨Nat.le_of_ble_eq_true rfl, Nat.le_of_ble_eq_true rfl⟩ rfl rfl hl.1 rfl (lv_room (Nat.le_of_ble_eq_true rfl)) dX8_dueNow_33 ⟨(Nat.le_of_ble_eq_true rfl), (Nat.le_of_ble_eq_true rfl)⟩) hR hS (fun r_33 w_33 H locs h hR _ hS => ?_)
    refine ce_qi (fw := fun u => u) (fy := fun _ => y) (cr_S (n := 4) (As := [.ref (y.2 21 ((p1).toNatClampNeg)), .int (p2), .int (gv w 30 0 (p2).toNatClampNeg), .int (r_33)]) (rest := []) ⟨hx, hb, hml, hown, hts⟩ hK hR (m_X8_due hM (hM.vil (vp_lt o_5)) h) q2476 q2477 q85 q2478 rfl rfl hds_X8_due ⟨Nat.le_of_ble_eq_true rfl, Nat.le_of_ble_eq_true rfl⟩ rfl rfl hl.1 rfl (lv_room (Nat.le_of_ble_eq_true rfl)) dX8_dueNow_36 ⟨(Nat.le_of_ble_eq_true rfl), (Nat.le_of_ble_eq_true rfl)⟩) hR hS (fun r_36 w_36 H locs h hR _ hS => ?_)
    refine lv_goto (tgt := 62) hx hb dX8_dueNow_39 (by decide) ?_
    refine W.widen (k := 0) (n := 0) (Nat.le_of_ble_eq_true rfl) (Nat.le_of_ble_eq_true rfl) ?_
    exact W.iret (v := r_36) hx hb hr (fun t ht hW9 => ⟨⟨r_36, w_36, rfl, h, rpt ht hR⟩, hS.F ht⟩) hS.2.2 dX8_dueNow_62
abbrev rm_X8_byClerks : Room := { frames := 4, cells := 0, slots := 0, locals := 117 }
def sp_X8_byClerks (κ : Kx) (y : Ly) (post : Int32 → Wd → Prop) (w : Wd) (p1 : Int32) (p2 : Int32) : Prop := (vp_in (p1) (mV y)) ∧ (sp_X8_dueNow κ y (fun r_16 w_16 => sp_X8_hidden κ y (fun r_30 w_30 => ((¬ p2 = 0) → (post (jmin (r_16 - r_30) (gv w_30 21 (((p1).toNatClampNeg)) 5)) w_30)) ∧ ((p2 = 0) → (post (jmin (r_16 - r_30) (gv w_30 21 (((p1).toNatClampNeg)) 4)) w_30))) w_16 r_16 (gv w_16 21 (((p1).toNatClampNeg)) 7) (1 : Int32)) w p1 p2 (1 : Int32))
theorem hd_X8_byClerks : yX8_byClerks.cls = RX8 ∧ yX8_byClerks.cls ≠ "java/lang/invoke/MethodHandle" ∧ yX8_byClerks.cls ≠ "java/lang/invoke/VarHandle" ∧ (parseMethodDescriptor yX8_byClerks.desc).map (fun d => d.parameters.length) = some 2 := by decide +kernel
set_option maxHeartbeats 4000000 in
theorem m_X8_byClerks {l : Launch} {κ : Kx} {y : Ly} {X : XR} {post : Int32 → Wd → Prop} {w : Wd} {p1 : Int32} {p2 : Int32}  (hM : WFm κ y) (l0 : live y 20 0) (h : sp_X8_byClerks κ y post w p1 p2) : Met l yX8_byClerks (ws_ yX8_byClerks cX8_byClerks 5 (Option.some Jvm.ClassFile.FieldType.int)) rm_X8_byClerks (va_Pc [.ref (y.2 20 0), .int (p1), .int (p2)] (RC κ w y X)) (va_Qi post (fun w t => Rp κ w y X [] t.heap) (Af κ)) 0 0 (Af κ) := by
  unfold sp_X8_byClerks at h
  refine Met.ofW (cc := cX8_byClerks) (maxL := 5) (ret := (Option.some Jvm.ClassFile.FieldType.int)) (by decide) rfl ?_
  intro p e s m args below meth c s₁ B hml hv
  obtain ⟨rfl, hR, hK⟩ := hv
  have hx := B.exec
  have hb := B.bytes
  have hr := B.returns
  have hts := atoms_spec (ws := ws_ yX8_byClerks cX8_byClerks 5 (Option.some Jvm.ClassFile.FieldType.int)) B.pre
  have hts : ∀ w ∈ lw_all, w.before _ s = true := fun w h => hts w (List.mem_cons_of_mem _ h)
  have hown : s.vm.findClass RX8 = some m.cls := findClass_of_methodNamed B.named
  have hlocks := B.notSynchronized
  have hS : va_S (Af κ) s.heap s.heap [] := va_S.rf
  have hl := lv_entry ([.ref (y.2 20 0), .int (p1), .int (p2)]) (n := 5) (Nat.le_of_ble_eq_true rfl)
  rw [lg_entry_eq]
  generalize (lg_sl ([.ref (y.2 20 0), .int (p1), .int (p2)]) ++ List.replicate (5 - (lg_sl ([.ref (y.2 20 0), .int (p1), .int (p2)])).length) Slot.unset).toArray = ls at hl ⊢
  have hl : lv_has ls 5 [(0, .ref (y.2 20 0)), (1, .int (p1)), (2, .int (p2))] := hl
  refine lv_aload_n hx hb dX8_byClerks_0 rfl (lv_at hl 0 rfl) ?_
  refine g20_3 hx hb hts hown hK hR l0 q1948 dX8_byClerks_1 ?_
  refine lv_iload_n hx hb dX8_byClerks_4 rfl (lv_at hl 1 rfl) ?_
  have o_5 := h.1
  have h := h.2
  refine jr_get (a := y.2 21 ((p1).toNatClampNeg)) ⟨hx, hb, hml, hown, hts⟩ hK hR ⟨fun _ _ _ _ _ => rfl, fun _ _ _ _ _ => rfl⟩ hM.lsV ⟨hM.arV (Nat.lt_of_le_of_lt (Nat.zero_le _) (vp_lt o_5)), (Nat.le_trans hM.mV8 (by decide))⟩ o_5 (hM.elV (vp_lt o_5)) q2101 ⟨Nat.le_of_ble_eq_true rfl, Nat.le_of_ble_eq_true rfl⟩ hl.1 (Nat.le_of_ble_eq_true rfl) dX8_byClerks_5 ⟨(Nat.le_of_ble_eq_true rfl), (Nat.le_of_ble_eq_true rfl)⟩ ?_
  refine jr_castS (ci := 12) hx hb hown hK hts (hR.role (hM.vil (vp_lt o_5))) rfl q2032 dX8_byClerks_8 ?_
  refine lv_astore_n (lv' := [(3, .ref (y.2 21 ((p1).toNatClampNeg))), (0, .ref (y.2 20 0)), (1, .int (p1)), (2, .int (p2))]) hx hb dX8_byClerks_11 rfl hl (by decide) rfl (fun ls hl => ?_)
  refine lv_aload_n hx hb dX8_byClerks_12 rfl (lv_at hl 1 rfl) ?_
  refine lv_iload_n hx hb dX8_byClerks_13 rfl (lv_at hl 2 rfl) ?_
  refine lv_iload_n hx hb dX8_byClerks_14 rfl (lv_at hl 3 rfl) ?_
  refine lv_iconst (v := (1 : Int32)) hx hb dX8_byClerks_15 (by decide) ?_
  refine ce_qi (fw := fun u => u) (fy := fun _ => y) (cr_V (n := 3) (As := [.int (p1), .int (p2), .int ((1 : Int32))]) (rest := []) ⟨hx, hb, hml, hown, hts⟩ hK hR (m_X8_dueNow hM l0 h) q2472 q2474 qs56 q85 q2475 rfl rfl hd_X8_dueNow ⟨Nat.le_of_ble_eq_true rfl, Nat.le_of_ble_eq_true rfl⟩ (rv hK hR l0 (ci := 11) rfl rfl) rfl rfl hl.1 rfl (lv_room (Nat.le_of_ble_eq_true rfl)) dX8_byClerks_16 ⟨(Nat.le_of_ble_eq_true rfl), (Nat.le_of_ble_eq_true rfl)⟩) hR hS (fun r_16 w_16 H locs h hR _ hS => ?_)
  refine lv_istore (lv' := [(4, .int (r_16)), (3, .ref (y.2 21 ((p1).toNatClampNeg))), (0, .ref (y.2 20 0)), (1, .int (p1)), (2, .int (p2))]) hx hb dX8_byClerks_19 hl (by decide) rfl (fun ls hl => ?_)
  refine lv_iload hx hb dX8_byClerks_21 (lv_at hl 0 rfl) ?_
  refine lv_iload hx hb dX8_byClerks_23 (lv_at hl 0 rfl) ?_
  refine lv_aload_n hx hb dX8_byClerks_25 rfl (lv_at hl 1 rfl) ?_
  refine g21_7 hx hb hts hown hK hR (hM.vil (vp_lt o_5)) q2048 dX8_byClerks_26 ?_
  refine lv_iconst (v := (1 : Int32)) hx hb dX8_byClerks_29 (by decide) ?_
  refine ce_qi (fw := fun u => u) (fy := fun _ => y) (cr_S (n := 3) (As := [.int (r_16), .int (gv w_16 21 (((p1).toNatClampNeg)) 7), .int ((1 : Int32))]) (rest := [.int (r_16)]) ⟨hx, hb, hml, hown, hts⟩ hK hR (m_X8_hidden hM h) q2479 q2480 q85 q2481 rfl rfl hds_X8_hidden ⟨Nat.le_of_ble_eq_true rfl, Nat.le_of_ble_eq_true rfl⟩ rfl rfl hl.1 rfl (lv_room (Nat.le_of_ble_eq_true rfl)) dX8_byClerks_30 ⟨(Nat.le_of_ble_eq_true rfl), (Nat.le_of_ble_eq_true rfl)⟩) hR hS (fun r_30 w_30 H locs h hR _ hS => ?_)
  refine lv_isub hx hb dX8_byClerks_33 ?_
  refine lv_iload_n hx hb dX8_byClerks_34 rfl (lv_at hl 4 rfl) ?_
  refine lv_if_ne (tgt := 45) hx hb dX8_byClerks_35 (by decide) (fun c_35 => ?_) (fun c_35 => ?_)
  · have h := h.1 c_35
    refine lv_aload_n hx hb dX8_byClerks_45 rfl (lv_at hl 1 rfl) ?_
    refine g21_5 hx hb hts hown hK hR (hM.vil (vp_lt o_5)) q2045 dX8_byClerks_46 ?_
    refine va_mmin hx hb (hml.trans hl.1.symm) hown (hts _ q2113) (hts _ q322) (hts _ q95) (hts _ q323) (Nat.le_of_ble_eq_true rfl) (Nat.le_of_ble_eq_true rfl) (Nat.le_of_ble_eq_true rfl) (Nat.le_of_ble_eq_true rfl) dX8_byClerks_49 ?_
    refine W.widen (k := 0) (n := 0) (Nat.le_of_ble_eq_true rfl) (Nat.le_of_ble_eq_true rfl) ?_
    exact W.iret (v := jmin (r_16 - r_30) (gv w_30 21 (((p1).toNatClampNeg)) 5)) hx hb hr (fun t ht hW9 => ⟨⟨jmin (r_16 - r_30) (gv w_30 21 (((p1).toNatClampNeg)) 5), w_30, rfl, h, rpt ht hR⟩, hS.F ht⟩) hS.2.2 dX8_byClerks_52
  · have h := h.2 c_35
    refine lv_aload_n hx hb dX8_byClerks_38 rfl (lv_at hl 1 rfl) ?_
    refine g21_4 hx hb hts hown hK hR (hM.vil (vp_lt o_5)) q2044 dX8_byClerks_39 ?_
    refine lv_goto (tgt := 49) hx hb dX8_byClerks_42 (by decide) ?_
    refine va_mmin hx hb (hml.trans hl.1.symm) hown (hts _ q2113) (hts _ q322) (hts _ q95) (hts _ q323) (Nat.le_of_ble_eq_true rfl) (Nat.le_of_ble_eq_true rfl) (Nat.le_of_ble_eq_true rfl) (Nat.le_of_ble_eq_true rfl) dX8_byClerks_49 ?_
    refine W.widen (k := 0) (n := 0) (Nat.le_of_ble_eq_true rfl) (Nat.le_of_ble_eq_true rfl) ?_
    exact W.iret (v := jmin (r_16 - r_30) (gv w_30 21 (((p1).toNatClampNeg)) 4)) hx hb hr (fun t ht hW9 => ⟨⟨jmin (r_16 - r_30) (gv w_30 21 (((p1).toNatClampNeg)) 4), w_30, rfl, h, rpt ht hR⟩, hS.F ht⟩) hS.2.2 dX8_byClerks_52
abbrev rm_X8_ofVillage : Room := { frames := 3, cells := 1, slots := 14, locals := 93 }
def sp_X8_ofVillage (κ : Kx) (y : Ly) (post : Int32 → Wd → Prop) (w : Wd) (p1 : Int32) (p2 : Int32) : Prop := sp_X8_isNoVillage κ y (fun r_3 w_3 => sp_X8_start κ y (fun r_7 w_7 => ((¬ r_7 = 0) → (post ((0 : Int32)) w_7)) ∧ ((r_7 = 0) → (sp_X8_isIn κ y (fun r_18 w_18 => ((¬ r_18 = 0) → (sp_X8_refuse κ y (fun r_30 w_30 => ((r_30 = 0) → ((vp_in (p1) (mV y)) ∧ (sp_X8_ofVillageNow κ y (fun r_53 w_53 => post (r_53) w_53) w_30 (((p1).toNatClampNeg)) p2))) ∧ ((¬ (r_30 = 0)) → (post ((0 : Int32)) w_30))) w_18 (0 : Int32) (2 : Int32))) ∧ ((r_18 = 0) → (sp_X8_refuse κ y (fun r_30_a w_30_a => ((r_30_a = 0) → ((vp_in (p1) (mV y)) ∧ (sp_X8_ofVillageNow κ y (fun r_53_a w_53_a => post (r_53_a) w_53_a) w_30_a (((p1).toNatClampNeg)) p2))) ∧ ((¬ (r_30_a = 0)) → (post ((0 : Int32)) w_30_a))) w_18 (1 : Int32) (2 : Int32)))) w_7 p2 (0 : Int32) (13 : Int32)))) w_3 r_3 (1 : Int32)) w p1
theorem hd_X8_ofVillage : yX8_ofVillage.cls = RX8 ∧ yX8_ofVillage.cls ≠ "java/lang/invoke/MethodHandle" ∧ yX8_ofVillage.cls ≠ "java/lang/invoke/VarHandle" ∧ (parseMethodDescriptor yX8_ofVillage.desc).map (fun d => d.parameters.length) = some 2 := by decide +kernel
set_option maxHeartbeats 4000000 in
theorem m_X8_ofVillage {l : Launch} {κ : Kx} {y : Ly} {X : XR} {post : Int32 → Wd → Prop} {w : Wd} {p1 : Int32} {p2 : Int32}  (hM : WFm κ y) (l0 : live y 20 0) (h : sp_X8_ofVillage κ y post w p1 p2) : Met l yX8_ofVillage (ws_ yX8_ofVillage cX8_ofVillage 3 (Option.some Jvm.ClassFile.FieldType.int)) rm_X8_ofVillage (va_Pc [.ref (y.2 20 0), .int (p1), .int (p2)] (RC κ w y X)) (va_Qi post (fun w t => Rp κ w y X [] t.heap) (Af κ)) 1 14 (Af κ) := by
  unfold sp_X8_ofVillage at h
  refine Met.ofW (cc := cX8_ofVillage) (maxL := 3) (ret := (Option.some Jvm.ClassFile.FieldType.int)) (by decide) rfl ?_
  intro p e s m args below meth c s₁ B hml hv
  obtain ⟨rfl, hR, hK⟩ := hv
  have hx := B.exec
  have hb := B.bytes
  have hr := B.returns
  have hts := atoms_spec (ws := ws_ yX8_ofVillage cX8_ofVillage 3 (Option.some Jvm.ClassFile.FieldType.int)) B.pre
  have hts : ∀ w ∈ lw_all, w.before _ s = true := fun w h => hts w (List.mem_cons_of_mem _ h)
  have hown : s.vm.findClass RX8 = some m.cls := findClass_of_methodNamed B.named
  have hlocks := B.notSynchronized
  have hS : va_S (Af κ) s.heap s.heap [] := va_S.rf
  have hl := lv_entry ([.ref (y.2 20 0), .int (p1), .int (p2)]) (n := 3) (Nat.le_of_ble_eq_true rfl)
  rw [lg_entry_eq]
  generalize (lg_sl ([.ref (y.2 20 0), .int (p1), .int (p2)]) ++ List.replicate (3 - (lg_sl ([.ref (y.2 20 0), .int (p1), .int (p2)])).length) Slot.unset).toArray = ls at hl ⊢
  have hl : lv_has ls 3 [(0, .ref (y.2 20 0)), (1, .int (p1)), (2, .int (p2))] := hl
  refine lv_aload_n hx hb dX8_ofVillage_0 rfl (lv_at hl 0 rfl) ?_
  refine lv_aload_n hx hb dX8_ofVillage_1 rfl (lv_at hl 0 rfl) ?_
  refine lv_iload_n hx hb dX8_ofVillage_2 rfl (lv_at hl 1 rfl) ?_
  refine ce_qi (fw := fun u => u) (fy := fun _ => y) (cr_V (n := 1) (As := [.int (p1)]) (rest := [.ref (y.2 20 0)]) ⟨hx, hb, hml, hown, hts⟩ hK hR (m_X8_isNoVillage hM l0 h) q2109 q2111 qs40 q85 q2112 rfl rfl hd_X8_isNoVillage ⟨Nat.le_of_ble_eq_true rfl, Nat.le_of_ble_eq_true rfl⟩ (rv hK hR l0 (ci := 11) rfl rfl) rfl rfl hl.1 rfl (lv_room (Nat.le_of_ble_eq_true rfl)) dX8_ofVillage_3 ⟨(Nat.le_of_ble_eq_true rfl), (Nat.le_of_ble_eq_true rfl)⟩) hR hS (fun r_3 w_3 H locs h hR _ hS => ?_)
  refine lv_iconst (v := (1 : Int32)) hx hb dX8_ofVillage_6 (by decide) ?_
  refine ce_qi (fw := fun u => u) (fy := fun _ => y) (cr_V (n := 2) (As := [.int (r_3), .int ((1 : Int32))]) (rest := []) ⟨hx, hb, hml, hown, hts⟩ hK hR (m_X8_start hM l0 h) q2023 q2025 qs37 q85 q2026 rfl rfl hd_X8_start ⟨Nat.le_of_ble_eq_true rfl, Nat.le_of_ble_eq_true rfl⟩ (rv hK hR l0 (ci := 11) rfl rfl) rfl rfl hl.1 rfl (lv_room (Nat.le_of_ble_eq_true rfl)) dX8_ofVillage_7 ⟨(Nat.le_of_ble_eq_true rfl), (Nat.le_of_ble_eq_true rfl)⟩) hR hS (fun r_7 w_7 H locs h hR _ hS => ?_)
  refine lv_if_ne (tgt := 36) hx hb dX8_ofVillage_10 (by decide) (fun c_10 => ?_) (fun c_10 => ?_)
  · have h := h.1 c_10
    refine lv_iconst (v := (0 : Int32)) hx hb dX8_ofVillage_36 (by decide) ?_
    refine lv_goto (tgt := 56) hx hb dX8_ofVillage_37 (by decide) ?_
    refine W.widen (k := 1) (n := 14) (Nat.le_of_ble_eq_true rfl) (Nat.le_of_ble_eq_true rfl) ?_
    exact W.iret (v := (0 : Int32)) hx hb hr (fun t ht hW9 => ⟨⟨(0 : Int32), w_7, rfl, h, rpt ht hR⟩, hS.F ht⟩) hS.2.2 dX8_ofVillage_56
  · have h := h.2 c_10
    refine lv_aload_n hx hb dX8_ofVillage_13 rfl (lv_at hl 0 rfl) ?_
    refine lv_iload_n hx hb dX8_ofVillage_14 rfl (lv_at hl 2 rfl) ?_
    refine lv_iconst (v := (0 : Int32)) hx hb dX8_ofVillage_15 (by decide) ?_
    refine lv_bipush (v := (13 : Int32)) hx hb dX8_ofVillage_16 (by decide) ?_
    refine ce_qi (fw := fun u => u) (fy := fun _ => y) (cr_S (n := 3) (As := [.int (p2), .int ((0 : Int32)), .int ((13 : Int32))]) (rest := [.ref (y.2 20 0)]) ⟨hx, hb, hml, hown, hts⟩ hK hR (m_X8_isIn hM h) q2020 q2021 q85 q2022 rfl rfl hds_X8_isIn ⟨Nat.le_of_ble_eq_true rfl, Nat.le_of_ble_eq_true rfl⟩ rfl rfl hl.1 rfl (lv_room (Nat.le_of_ble_eq_true rfl)) dX8_ofVillage_18 ⟨(Nat.le_of_ble_eq_true rfl), (Nat.le_of_ble_eq_true rfl)⟩) hR hS (fun r_18 w_18 H locs h hR _ hS => ?_)
    refine lv_if_ne (tgt := 28) hx hb dX8_ofVillage_21 (by decide) (fun c_21 => ?_) (fun c_21 => ?_)
    · have h := h.1 c_21
      refine lv_iconst (v := (0 : Int32)) hx hb dX8_ofVillage_28 (by decide) ?_
      refine lv_iconst (v := (2 : Int32)) hx hb dX8_ofVillage_29 (by decide) ?_
      refine ce_qi (fw := fun u => u) (fy := fun _ => y) (cr_V (n := 2) (As := [.int ((0 : Int32)), .int ((2 : Int32))]) (rest := []) ⟨hx, hb, hml, hown, hts⟩ hK hR (m_X8_refuse hM l0 h) q2027 q2029 qs38 q85 q2030 rfl rfl hd_X8_refuse ⟨Nat.le_of_ble_eq_true rfl, Nat.le_of_ble_eq_true rfl⟩ (rv hK hR l0 (ci := 11) rfl rfl) rfl rfl hl.1 rfl (lv_room (Nat.le_of_ble_eq_true rfl)) dX8_ofVillage_30 ⟨(Nat.le_of_ble_eq_true rfl), (Nat.le_of_ble_eq_true rfl)⟩) hR hS (fun r_30 w_30 H locs h hR _ hS => ?_)
      refine lv_if_eq (tgt := 40) hx hb dX8_ofVillage_33 (by decide) (fun c_33 => ?_) (fun c_33 => ?_)
      · have h := h.1 c_33
        refine lv_aload_n hx hb dX8_ofVillage_40 rfl (lv_at hl 0 rfl) ?_
        refine lv_aload_n hx hb dX8_ofVillage_41 rfl (lv_at hl 0 rfl) ?_
        refine g20_3 hx hb hts hown hK hR l0 q1948 dX8_ofVillage_42 ?_
        refine lv_iload_n hx hb dX8_ofVillage_45 rfl (lv_at hl 1 rfl) ?_
        have o_46 := h.1
        have h := h.2
        refine jr_get (a := y.2 21 ((p1).toNatClampNeg)) ⟨hx, hb, hml, hown, hts⟩ hK hR ⟨fun _ _ _ _ _ => rfl, fun _ _ _ _ _ => rfl⟩ hM.lsV ⟨hM.arV (Nat.lt_of_le_of_lt (Nat.zero_le _) (vp_lt o_46)), (Nat.le_trans hM.mV8 (by decide))⟩ o_46 (hM.elV (vp_lt o_46)) q2101 ⟨Nat.le_of_ble_eq_true rfl, Nat.le_of_ble_eq_true rfl⟩ hl.1 (Nat.le_of_ble_eq_true rfl) dX8_ofVillage_46 ⟨(Nat.le_of_ble_eq_true rfl), (Nat.le_of_ble_eq_true rfl)⟩ ?_
        refine jr_castS (ci := 12) hx hb hown hK hts (hR.role (hM.vil (vp_lt o_46))) rfl q2032 dX8_ofVillage_49 ?_
        refine lv_iload_n hx hb dX8_ofVillage_52 rfl (lv_at hl 2 rfl) ?_
        refine ce_qi (fw := fun u => u) (fy := fun _ => y) (cr_V (n := 2) (As := [.ref (y.2 21 ((p1).toNatClampNeg)), .int (p2)]) (rest := []) ⟨hx, hb, hml, hown, hts⟩ hK hR (m_X8_ofVillageNow hM l0 (hM.vil (vp_lt o_46)) h) q2510 q2512 qs62 q85 q2513 rfl rfl hd_X8_ofVillageNow ⟨Nat.le_of_ble_eq_true rfl, Nat.le_of_ble_eq_true rfl⟩ (rv hK hR l0 (ci := 11) rfl rfl) rfl rfl hl.1 rfl (lv_room (Nat.le_of_ble_eq_true rfl)) dX8_ofVillage_53 ⟨(Nat.le_of_ble_eq_true rfl), (Nat.le_of_ble_eq_true rfl)⟩) hR hS (fun r_53 w_53 H locs h hR _ hS => ?_)
        refine W.widen (k := 1) (n := 14) (Nat.le_of_ble_eq_true rfl) (Nat.le_of_ble_eq_true rfl) ?_
        exact W.iret (v := r_53) hx hb hr (fun t ht hW9 => ⟨⟨r_53, w_53, rfl, h, rpt ht hR⟩, hS.F ht⟩) hS.2.2 dX8_ofVillage_56
      · have h := h.2 c_33
        refine lv_iconst (v := (0 : Int32)) hx hb dX8_ofVillage_36 (by decide) ?_
        refine lv_goto (tgt := 56) hx hb dX8_ofVillage_37 (by decide) ?_
        refine W.widen (k := 1) (n := 14) (Nat.le_of_ble_eq_true rfl) (Nat.le_of_ble_eq_true rfl) ?_
        exact W.iret (v := (0 : Int32)) hx hb hr (fun t ht hW9 => ⟨⟨(0 : Int32), w_30, rfl, h, rpt ht hR⟩, hS.F ht⟩) hS.2.2 dX8_ofVillage_56
    · have h := h.2 c_21
      refine lv_iconst (v := (1 : Int32)) hx hb dX8_ofVillage_24 (by decide) ?_
      refine lv_goto (tgt := 29) hx hb dX8_ofVillage_25 (by decide) ?_
      refine lv_iconst (v := (2 : Int32)) hx hb dX8_ofVillage_29 (by decide) ?_
      refine ce_qi (fw := fun u => u) (fy := fun _ => y) (cr_V (n := 2) (As := [.int ((1 : Int32)), .int ((2 : Int32))]) (rest := []) ⟨hx, hb, hml, hown, hts⟩ hK hR (m_X8_refuse hM l0 h) q2027 q2029 qs38 q85 q2030 rfl rfl hd_X8_refuse ⟨Nat.le_of_ble_eq_true rfl, Nat.le_of_ble_eq_true rfl⟩ (rv hK hR l0 (ci := 11) rfl rfl) rfl rfl hl.1 rfl (lv_room (Nat.le_of_ble_eq_true rfl)) dX8_ofVillage_30 ⟨(Nat.le_of_ble_eq_true rfl), (Nat.le_of_ble_eq_true rfl)⟩) hR hS (fun r_30_a w_30_a H locs h hR _ hS => ?_)
      refine lv_if_eq (tgt := 40) hx hb dX8_ofVillage_33 (by decide) (fun c_33_a => ?_) (fun c_33_a => ?_)
      · have h := h.1 c_33_a
        refine lv_aload_n hx hb dX8_ofVillage_40 rfl (lv_at hl 0 rfl) ?_
        refine lv_aload_n hx hb dX8_ofVillage_41 rfl (lv_at hl 0 rfl) ?_
        refine g20_3 hx hb hts hown hK hR l0 q1948 dX8_ofVillage_42 ?_
        refine lv_iload_n hx hb dX8_ofVillage_45 rfl (lv_at hl 1 rfl) ?_
        have o_46_a := h.1
        have h := h.2
        refine jr_get (a := y.2 21 ((p1).toNatClampNeg)) ⟨hx, hb, hml, hown, hts⟩ hK hR ⟨fun _ _ _ _ _ => rfl, fun _ _ _ _ _ => rfl⟩ hM.lsV ⟨hM.arV (Nat.lt_of_le_of_lt (Nat.zero_le _) (vp_lt o_46_a)), (Nat.le_trans hM.mV8 (by decide))⟩ o_46_a (hM.elV (vp_lt o_46_a)) q2101 ⟨Nat.le_of_ble_eq_true rfl, Nat.le_of_ble_eq_true rfl⟩ hl.1 (Nat.le_of_ble_eq_true rfl) dX8_ofVillage_46 ⟨(Nat.le_of_ble_eq_true rfl), (Nat.le_of_ble_eq_true rfl)⟩ ?_
        refine jr_castS (ci := 12) hx hb hown hK hts (hR.role (hM.vil (vp_lt o_46_a))) rfl q2032 dX8_ofVillage_49 ?_
        refine lv_iload_n hx hb dX8_ofVillage_52 rfl (lv_at hl 2 rfl) ?_
        refine ce_qi (fw := fun u => u) (fy := fun _ => y) (cr_V (n := 2) (As := [.ref (y.2 21 ((p1).toNatClampNeg)), .int (p2)]) (rest := []) ⟨hx, hb, hml, hown, hts⟩ hK hR (m_X8_ofVillageNow hM l0 (hM.vil (vp_lt o_46_a)) h) q2510 q2512 qs62 q85 q2513 rfl rfl hd_X8_ofVillageNow ⟨Nat.le_of_ble_eq_true rfl, Nat.le_of_ble_eq_true rfl⟩ (rv hK hR l0 (ci := 11) rfl rfl) rfl rfl hl.1 rfl (lv_room (Nat.le_of_ble_eq_true rfl)) dX8_ofVillage_53 ⟨(Nat.le_of_ble_eq_true rfl), (Nat.le_of_ble_eq_true rfl)⟩) hR hS (fun r_53_a w_53_a H locs h hR _ hS => ?_)
        refine W.widen (k := 1) (n := 14) (Nat.le_of_ble_eq_true rfl) (Nat.le_of_ble_eq_true rfl) ?_
        exact W.iret (v := r_53_a) hx hb hr (fun t ht hW9 => ⟨⟨r_53_a, w_53_a, rfl, h, rpt ht hR⟩, hS.F ht⟩) hS.2.2 dX8_ofVillage_56
      · have h := h.2 c_33_a
        refine lv_iconst (v := (0 : Int32)) hx hb dX8_ofVillage_36 (by decide) ?_
        refine lv_goto (tgt := 56) hx hb dX8_ofVillage_37 (by decide) ?_
        refine W.widen (k := 1) (n := 14) (Nat.le_of_ble_eq_true rfl) (Nat.le_of_ble_eq_true rfl) ?_
        exact W.iret (v := (0 : Int32)) hx hb hr (fun t ht hW9 => ⟨⟨(0 : Int32), w_30_a, rfl, h, rpt ht hR⟩, hS.F ht⟩) hS.2.2 dX8_ofVillage_56
abbrev rm_X8_due_2 : Room := { frames := 4, cells := 0, slots := 0, locals := 117 }
def sp_X8_due_2 (κ : Kx) (y : Ly) (post : Int32 → Wd → Prop) (w : Wd) (p1 : Int32) (p2 : Int32) (p3 : Int32) : Prop := sp_X8_isNoVillage κ y (fun r_3 w_3 => ((¬ r_3 = 0) → (sp_X8_start κ y (fun r_22 w_22 => ((r_22 = 0) → (sp_X8_dueNow κ y (fun r_36 w_36 => post (r_36) w_36) w_22 p1 p2 p3)) ∧ ((¬ (r_22 = 0)) → (post ((0 : Int32)) w_22))) w_3 (1 : Int32) (1 : Int32))) ∧ ((r_3 = 0) → (sp_X8_isNoDuty κ y (fun r_10 w_10 => ((r_10 = 0) → (sp_X8_start κ y (fun r_22_a w_22_a => ((r_22_a = 0) → (sp_X8_dueNow κ y (fun r_36_a w_36_a => post (r_36_a) w_36_a) w_22_a p1 p2 p3)) ∧ ((¬ (r_22_a = 0)) → (post ((0 : Int32)) w_22_a))) w_10 (0 : Int32) (1 : Int32))) ∧ ((¬ (r_10 = 0)) → (sp_X8_start κ y (fun r_22_b w_22_b => ((r_22_b = 0) → (sp_X8_dueNow κ y (fun r_36_b w_36_b => post (r_36_b) w_36_b) w_22_b p1 p2 p3)) ∧ ((¬ (r_22_b = 0)) → (post ((0 : Int32)) w_22_b))) w_10 (1 : Int32) (1 : Int32)))) w_3 p2))) w p1
theorem hd_X8_due_2 : yX8_due_2.cls = RX8 ∧ yX8_due_2.cls ≠ "java/lang/invoke/MethodHandle" ∧ yX8_due_2.cls ≠ "java/lang/invoke/VarHandle" ∧ (parseMethodDescriptor yX8_due_2.desc).map (fun d => d.parameters.length) = some 3 := by decide +kernel
set_option maxHeartbeats 4000000 in
theorem m_X8_due_2 {l : Launch} {κ : Kx} {y : Ly} {X : XR} {post : Int32 → Wd → Prop} {w : Wd} {p1 : Int32} {p2 : Int32} {p3 : Int32}  (hM : WFm κ y) (l0 : live y 20 0) (h : sp_X8_due_2 κ y post w p1 p2 p3) : Met l yX8_due_2 (ws_ yX8_due_2 cX8_due_2 4 (Option.some Jvm.ClassFile.FieldType.int)) rm_X8_due_2 (va_Pc [.ref (y.2 20 0), .int (p1), .int (p2), .int (p3)] (RC κ w y X)) (va_Qi post (fun w t => Rp κ w y X [] t.heap) (Af κ)) 0 0 (Af κ) := by
  unfold sp_X8_due_2 at h
  refine Met.ofW (cc := cX8_due_2) (maxL := 4) (ret := (Option.some Jvm.ClassFile.FieldType.int)) (by decide) rfl ?_
  intro p e s m args below meth c s₁ B hml hv
  obtain ⟨rfl, hR, hK⟩ := hv
  have hx := B.exec
  have hb := B.bytes
  have hr := B.returns
  have hts := atoms_spec (ws := ws_ yX8_due_2 cX8_due_2 4 (Option.some Jvm.ClassFile.FieldType.int)) B.pre
  have hts : ∀ w ∈ lw_all, w.before _ s = true := fun w h => hts w (List.mem_cons_of_mem _ h)
  have hown : s.vm.findClass RX8 = some m.cls := findClass_of_methodNamed B.named
  have hlocks := B.notSynchronized
  have hS : va_S (Af κ) s.heap s.heap [] := va_S.rf
  have hl := lv_entry ([.ref (y.2 20 0), .int (p1), .int (p2), .int (p3)]) (n := 4) (Nat.le_of_ble_eq_true rfl)
  rw [lg_entry_eq]
  generalize (lg_sl ([.ref (y.2 20 0), .int (p1), .int (p2), .int (p3)]) ++ List.replicate (4 - (lg_sl ([.ref (y.2 20 0), .int (p1), .int (p2), .int (p3)])).length) Slot.unset).toArray = ls at hl ⊢
  have hl : lv_has ls 4 [(0, .ref (y.2 20 0)), (1, .int (p1)), (2, .int (p2)), (3, .int (p3))] := hl
  refine lv_aload_n hx hb dX8_due_2_0 rfl (lv_at hl 0 rfl) ?_
  refine lv_aload_n hx hb dX8_due_2_1 rfl (lv_at hl 0 rfl) ?_
  refine lv_iload_n hx hb dX8_due_2_2 rfl (lv_at hl 1 rfl) ?_
  refine ce_qi (fw := fun u => u) (fy := fun _ => y) (cr_V (n := 1) (As := [.int (p1)]) (rest := [.ref (y.2 20 0)]) ⟨hx, hb, hml, hown, hts⟩ hK hR (m_X8_isNoVillage hM l0 h) q2109 q2111 qs40 q85 q2112 rfl rfl hd_X8_isNoVillage ⟨Nat.le_of_ble_eq_true rfl, Nat.le_of_ble_eq_true rfl⟩ (rv hK hR l0 (ci := 11) rfl rfl) rfl rfl hl.1 rfl (lv_room (Nat.le_of_ble_eq_true rfl)) dX8_due_2_3 ⟨(Nat.le_of_ble_eq_true rfl), (Nat.le_of_ble_eq_true rfl)⟩) hR hS (fun r_3 w_3 H locs h hR _ hS => ?_)
  refine lv_if_ne (tgt := 16) hx hb dX8_due_2_6 (by decide) (fun c_6 => ?_) (fun c_6 => ?_)
  · have h := h.1 c_6
    refine lv_iconst (v := (1 : Int32)) hx hb dX8_due_2_16 (by decide) ?_
    refine lv_goto (tgt := 21) hx hb dX8_due_2_17 (by decide) ?_
    refine lv_iconst (v := (1 : Int32)) hx hb dX8_due_2_21 (by decide) ?_
    refine ce_qi (fw := fun u => u) (fy := fun _ => y) (cr_V (n := 2) (As := [.int ((1 : Int32)), .int ((1 : Int32))]) (rest := []) ⟨hx, hb, hml, hown, hts⟩ hK hR (m_X8_start hM l0 h) q2023 q2025 qs37 q85 q2026 rfl rfl hd_X8_start ⟨Nat.le_of_ble_eq_true rfl, Nat.le_of_ble_eq_true rfl⟩ (rv hK hR l0 (ci := 11) rfl rfl) rfl rfl hl.1 rfl (lv_room (Nat.le_of_ble_eq_true rfl)) dX8_due_2_22 ⟨(Nat.le_of_ble_eq_true rfl), (Nat.le_of_ble_eq_true rfl)⟩) hR hS (fun r_22 w_22 H locs h hR _ hS => ?_)
    refine lv_if_eq (tgt := 32) hx hb dX8_due_2_25 (by decide) (fun c_25 => ?_) (fun c_25 => ?_)
    · have h := h.1 c_25
      refine lv_aload_n hx hb dX8_due_2_32 rfl (lv_at hl 0 rfl) ?_
      refine lv_iload_n hx hb dX8_due_2_33 rfl (lv_at hl 1 rfl) ?_
      refine lv_iload_n hx hb dX8_due_2_34 rfl (lv_at hl 2 rfl) ?_
      refine lv_iload_n hx hb dX8_due_2_35 rfl (lv_at hl 3 rfl) ?_
      refine ce_qi (fw := fun u => u) (fy := fun _ => y) (cr_V (n := 3) (As := [.int (p1), .int (p2), .int (p3)]) (rest := []) ⟨hx, hb, hml, hown, hts⟩ hK hR (m_X8_dueNow hM l0 h) q2472 q2474 qs56 q85 q2475 rfl rfl hd_X8_dueNow ⟨Nat.le_of_ble_eq_true rfl, Nat.le_of_ble_eq_true rfl⟩ (rv hK hR l0 (ci := 11) rfl rfl) rfl rfl hl.1 rfl (lv_room (Nat.le_of_ble_eq_true rfl)) dX8_due_2_36 ⟨(Nat.le_of_ble_eq_true rfl), (Nat.le_of_ble_eq_true rfl)⟩) hR hS (fun r_36 w_36 H locs h hR _ hS => ?_)
      refine W.widen (k := 0) (n := 0) (Nat.le_of_ble_eq_true rfl) (Nat.le_of_ble_eq_true rfl) ?_
      exact W.iret (v := r_36) hx hb hr (fun t ht hW9 => ⟨⟨r_36, w_36, rfl, h, rpt ht hR⟩, hS.F ht⟩) hS.2.2 dX8_due_2_39
    · have h := h.2 c_25
      refine lv_iconst (v := (0 : Int32)) hx hb dX8_due_2_28 (by decide) ?_
      refine lv_goto (tgt := 39) hx hb dX8_due_2_29 (by decide) ?_
      refine W.widen (k := 0) (n := 0) (Nat.le_of_ble_eq_true rfl) (Nat.le_of_ble_eq_true rfl) ?_
      exact W.iret (v := (0 : Int32)) hx hb hr (fun t ht hW9 => ⟨⟨(0 : Int32), w_22, rfl, h, rpt ht hR⟩, hS.F ht⟩) hS.2.2 dX8_due_2_39
  · have h := h.2 c_6
    refine lv_iload_n hx hb dX8_due_2_9 rfl (lv_at hl 2 rfl) ?_
    refine ce_qi (fw := fun u => u) (fy := fun _ => y) (cr_S (n := 1) (As := [.int (p2)]) (rest := [.ref (y.2 20 0)]) ⟨hx, hb, hml, hown, hts⟩ hK hR (m_X8_isNoDuty hM h) q2130 q2131 q85 q2132 rfl rfl hds_X8_isNoDuty ⟨Nat.le_of_ble_eq_true rfl, Nat.le_of_ble_eq_true rfl⟩ rfl rfl hl.1 rfl (lv_room (Nat.le_of_ble_eq_true rfl)) dX8_due_2_10 ⟨(Nat.le_of_ble_eq_true rfl), (Nat.le_of_ble_eq_true rfl)⟩) hR hS (fun r_10 w_10 H locs h hR _ hS => ?_)
    refine lv_if_eq (tgt := 20) hx hb dX8_due_2_13 (by decide) (fun c_13 => ?_) (fun c_13 => ?_)
    · have h := h.1 c_13
      refine lv_iconst (v := (0 : Int32)) hx hb dX8_due_2_20 (by decide) ?_
      refine lv_iconst (v := (1 : Int32)) hx hb dX8_due_2_21 (by decide) ?_
      refine ce_qi (fw := fun u => u) (fy := fun _ => y) (cr_V (n := 2) (As := [.int ((0 : Int32)), .int ((1 : Int32))]) (rest := []) ⟨hx, hb, hml, hown, hts⟩ hK hR (m_X8_start hM l0 h) q2023 q2025 qs37 q85 q2026 rfl rfl hd_X8_start ⟨Nat.le_of_ble_eq_true rfl, Nat.le_of_ble_eq_true rfl⟩ (rv hK hR l0 (ci := 11) rfl rfl) rfl rfl hl.1 rfl (lv_room (Nat.le_of_ble_eq_true rfl)) dX8_due_2_22 ⟨(Nat.le_of_ble_eq_true rfl), (Nat.le_of_ble_eq_true rfl)⟩) hR hS (fun r_22_a w_22_a H locs h hR _ hS => ?_)
      refine lv_if_eq (tgt := 32) hx hb dX8_due_2_25 (by decide) (fun c_25_a => ?_) (fun c_25_a => ?_)
      · have h := h.1 c_25_a
        refine lv_aload_n hx hb dX8_due_2_32 rfl (lv_at hl 0 rfl) ?_
        refine lv_iload_n hx hb dX8_due_2_33 rfl (lv_at hl 1 rfl) ?_
        refine lv_iload_n hx hb dX8_due_2_34 rfl (lv_at hl 2 rfl) ?_
        refine lv_iload_n hx hb dX8_due_2_35 rfl (lv_at hl 3 rfl) ?_
        refine ce_qi (fw := fun u => u) (fy := fun _ => y) (cr_V (n := 3) (As := [.int (p1), .int (p2), .int (p3)]) (rest := []) ⟨hx, hb, hml, hown, hts⟩ hK hR (m_X8_dueNow hM l0 h) q2472 q2474 qs56 q85 q2475 rfl rfl hd_X8_dueNow ⟨Nat.le_of_ble_eq_true rfl, Nat.le_of_ble_eq_true rfl⟩ (rv hK hR l0 (ci := 11) rfl rfl) rfl rfl hl.1 rfl (lv_room (Nat.le_of_ble_eq_true rfl)) dX8_due_2_36 ⟨(Nat.le_of_ble_eq_true rfl), (Nat.le_of_ble_eq_true rfl)⟩) hR hS (fun r_36_a w_36_a H locs h hR _ hS => ?_)
        refine W.widen (k := 0) (n := 0) (Nat.le_of_ble_eq_true rfl) (Nat.le_of_ble_eq_true rfl) ?_
        exact W.iret (v := r_36_a) hx hb hr (fun t ht hW9 => ⟨⟨r_36_a, w_36_a, rfl, h, rpt ht hR⟩, hS.F ht⟩) hS.2.2 dX8_due_2_39
      · have h := h.2 c_25_a
        refine lv_iconst (v := (0 : Int32)) hx hb dX8_due_2_28 (by decide) ?_
        refine lv_goto (tgt := 39) hx hb dX8_due_2_29 (by decide) ?_
        refine W.widen (k := 0) (n := 0) (Nat.le_of_ble_eq_true rfl) (Nat.le_of_ble_eq_true rfl) ?_
        exact W.iret (v := (0 : Int32)) hx hb hr (fun t ht hW9 => ⟨⟨(0 : Int32), w_22_a, rfl, h, rpt ht hR⟩, hS.F ht⟩) hS.2.2 dX8_due_2_39
    · have h := h.2 c_13
      refine lv_iconst (v := (1 : Int32)) hx hb dX8_due_2_16 (by decide) ?_
      refine lv_goto (tgt := 21) hx hb dX8_due_2_17 (by decide) ?_
      refine lv_iconst (v := (1 : Int32)) hx hb dX8_due_2_21 (by decide) ?_
      refine ce_qi (fw := fun u => u) (fy := fun _ => y) (cr_V (n := 2) (As := [.int ((1 : Int32)), .int ((1 : Int32))]) (rest := []) ⟨hx, hb, hml, hown, hts⟩ hK hR (m_X8_start hM l0 h) q2023 q2025 qs37 q85 q2026 rfl rfl hd_X8_start ⟨Nat.le_of_ble_eq_true rfl, Nat.le_of_ble_eq_true rfl⟩ (rv hK hR l0 (ci := 11) rfl rfl) rfl rfl hl.1 rfl (lv_room (Nat.le_of_ble_eq_true rfl)) dX8_due_2_22 ⟨(Nat.le_of_ble_eq_true rfl), (Nat.le_of_ble_eq_true rfl)⟩) hR hS (fun r_22_b w_22_b H locs h hR _ hS => ?_)
      refine lv_if_eq (tgt := 32) hx hb dX8_due_2_25 (by decide) (fun c_25_b => ?_) (fun c_25_b => ?_)
      · have h := h.1 c_25_b
        refine lv_aload_n hx hb dX8_due_2_32 rfl (lv_at hl 0 rfl) ?_
        refine lv_iload_n hx hb dX8_due_2_33 rfl (lv_at hl 1 rfl) ?_
        refine lv_iload_n hx hb dX8_due_2_34 rfl (lv_at hl 2 rfl) ?_
        refine lv_iload_n hx hb dX8_due_2_35 rfl (lv_at hl 3 rfl) ?_
        refine ce_qi (fw := fun u => u) (fy := fun _ => y) (cr_V (n := 3) (As := [.int (p1), .int (p2), .int (p3)]) (rest := []) ⟨hx, hb, hml, hown, hts⟩ hK hR (m_X8_dueNow hM l0 h) q2472 q2474 qs56 q85 q2475 rfl rfl hd_X8_dueNow ⟨Nat.le_of_ble_eq_true rfl, Nat.le_of_ble_eq_true rfl⟩ (rv hK hR l0 (ci := 11) rfl rfl) rfl rfl hl.1 rfl (lv_room (Nat.le_of_ble_eq_true rfl)) dX8_due_2_36 ⟨(Nat.le_of_ble_eq_true rfl), (Nat.le_of_ble_eq_true rfl)⟩) hR hS (fun r_36_b w_36_b H locs h hR _ hS => ?_)
        refine W.widen (k := 0) (n := 0) (Nat.le_of_ble_eq_true rfl) (Nat.le_of_ble_eq_true rfl) ?_
        exact W.iret (v := r_36_b) hx hb hr (fun t ht hW9 => ⟨⟨r_36_b, w_36_b, rfl, h, rpt ht hR⟩, hS.F ht⟩) hS.2.2 dX8_due_2_39
      · have h := h.2 c_25_b
        refine lv_iconst (v := (0 : Int32)) hx hb dX8_due_2_28 (by decide) ?_
        refine lv_goto (tgt := 39) hx hb dX8_due_2_29 (by decide) ?_
        refine W.widen (k := 0) (n := 0) (Nat.le_of_ble_eq_true rfl) (Nat.le_of_ble_eq_true rfl) ?_
        exact W.iret (v := (0 : Int32)) hx hb hr (fun t ht hW9 => ⟨⟨(0 : Int32), w_22_b, rfl, h, rpt ht hR⟩, hS.F ht⟩) hS.2.2 dX8_due_2_39
abbrev rm_X8_levy : Room := { frames := 4, cells := 0, slots := 0, locals := 117 }
def sp_X8_levy (κ : Kx) (y : Ly) (post : Int32 → Wd → Prop) (w : Wd) (p1 : Int32) (p2 : Int32) (p3 : Int32) : Prop := sp_X8_isNoVillage κ y (fun r_3 w_3 => ((¬ r_3 = 0) → (sp_X8_start κ y (fun r_22 w_22 => ((¬ r_22 = 0) → (post ((0 : Int32)) w_22)) ∧ ((r_22 = 0) → (sp_X8_isIn κ y (fun r_32 w_32 => ((¬ r_32 = 0) → (sp_X8_refuse κ y (fun r_44 w_44 => ((r_44 = 0) → (sp_X8_levyNow κ y (fun r_58 w_58 => post (r_58) w_58) w_44 p1 p2 p3)) ∧ ((¬ (r_44 = 0)) → (post ((0 : Int32)) w_44))) w_32 (0 : Int32) (2 : Int32))) ∧ ((r_32 = 0) → (sp_X8_refuse κ y (fun r_44_a w_44_a => ((r_44_a = 0) → (sp_X8_levyNow κ y (fun r_58_a w_58_a => post (r_58_a) w_58_a) w_44_a p1 p2 p3)) ∧ ((¬ (r_44_a = 0)) → (post ((0 : Int32)) w_44_a))) w_32 (1 : Int32) (2 : Int32)))) w_22 p3 (0 : Int32) (5 : Int32)))) w_3 (1 : Int32) (1 : Int32))) ∧ ((r_3 = 0) → (sp_X8_isNoDuty κ y (fun r_10 w_10 => ((r_10 = 0) → (sp_X8_start κ y (fun r_22_a w_22_a => ((¬ r_22_a = 0) → (post ((0 : Int32)) w_22_a)) ∧ ((r_22_a = 0) → (sp_X8_isIn κ y (fun r_32_a w_32_a => ((¬ r_32_a = 0) → (sp_X8_refuse κ y (fun r_44_b w_44_b => ((r_44_b = 0) → (sp_X8_levyNow κ y (fun r_58_b w_58_b => post (r_58_b) w_58_b) w_44_b p1 p2 p3)) ∧ ((¬ (r_44_b = 0)) → (post ((0 : Int32)) w_44_b))) w_32_a (0 : Int32) (2 : Int32))) ∧ ((r_32_a = 0) → (sp_X8_refuse κ y (fun r_44_c w_44_c => ((r_44_c = 0) → (sp_X8_levyNow κ y (fun r_58_c w_58_c => post (r_58_c) w_58_c) w_44_c p1 p2 p3)) ∧ ((¬ (r_44_c = 0)) → (post ((0 : Int32)) w_44_c))) w_32_a (1 : Int32) (2 : Int32)))) w_22_a p3 (0 : Int32) (5 : Int32)))) w_10 (0 : Int32) (1 : Int32))) ∧ ((¬ (r_10 = 0)) → (sp_X8_start κ y (fun r_22_b w_22_b => ((¬ r_22_b = 0) → (post ((0 : Int32)) w_22_b)) ∧ ((r_22_b = 0) → (sp_X8_isIn κ y (fun r_32_b w_32_b => ((¬ r_32_b = 0) → (sp_X8_refuse κ y (fun r_44_d w_44_d => ((r_44_d = 0) → (sp_X8_levyNow κ y (fun r_58_d w_58_d => post (r_58_d) w_58_d) w_44_d p1 p2 p3)) ∧ ((¬ (r_44_d = 0)) → (post ((0 : Int32)) w_44_d))) w_32_b (0 : Int32) (2 : Int32))) ∧ ((r_32_b = 0) → (sp_X8_refuse κ y (fun r_44_e w_44_e => ((r_44_e = 0) → (sp_X8_levyNow κ y (fun r_58_e w_58_e => post (r_58_e) w_58_e) w_44_e p1 p2 p3)) ∧ ((¬ (r_44_e = 0)) → (post ((0 : Int32)) w_44_e))) w_32_b (1 : Int32) (2 : Int32)))) w_22_b p3 (0 : Int32) (5 : Int32)))) w_10 (1 : Int32) (1 : Int32)))) w_3 p2))) w p1
theorem hd_X8_levy : yX8_levy.cls = RX8 ∧ yX8_levy.cls ≠ "java/lang/invoke/MethodHandle" ∧ yX8_levy.cls ≠ "java/lang/invoke/VarHandle" ∧ (parseMethodDescriptor yX8_levy.desc).map (fun d => d.parameters.length) = some 3 := by decide +kernel
set_option maxHeartbeats 4000000 in
theorem m_X8_levy {l : Launch} {κ : Kx} {y : Ly} {X : XR} {post : Int32 → Wd → Prop} {w : Wd} {p1 : Int32} {p2 : Int32} {p3 : Int32}  (hM : WFm κ y) (l0 : live y 20 0) (h : sp_X8_levy κ y post w p1 p2 p3) : Met l yX8_levy (ws_ yX8_levy cX8_levy 4 (Option.some Jvm.ClassFile.FieldType.int)) rm_X8_levy (va_Pc [.ref (y.2 20 0), .int (p1), .int (p2), .int (p3)] (RC κ w y X)) (va_Qi post (fun w t => Rp κ w y X [] t.heap) (Af κ)) 0 0 (Af κ) := by
  unfold sp_X8_levy at h
  refine Met.ofW (cc := cX8_levy) (maxL := 4) (ret := (Option.some Jvm.ClassFile.FieldType.int)) (by decide) rfl ?_
  intro p e s m args below meth c s₁ B hml hv
  obtain ⟨rfl, hR, hK⟩ := hv
  have hx := B.exec
  have hb := B.bytes
  have hr := B.returns
  have hts := atoms_spec (ws := ws_ yX8_levy cX8_levy 4 (Option.some Jvm.ClassFile.FieldType.int)) B.pre
  have hts : ∀ w ∈ lw_all, w.before _ s = true := fun w h => hts w (List.mem_cons_of_mem _ h)
  have hown : s.vm.findClass RX8 = some m.cls := findClass_of_methodNamed B.named
  have hlocks := B.notSynchronized
  have hS : va_S (Af κ) s.heap s.heap [] := va_S.rf
  have hl := lv_entry ([.ref (y.2 20 0), .int (p1), .int (p2), .int (p3)]) (n := 4) (Nat.le_of_ble_eq_true rfl)
  rw [lg_entry_eq]
  generalize (lg_sl ([.ref (y.2 20 0), .int (p1), .int (p2), .int (p3)]) ++ List.replicate (4 - (lg_sl ([.ref (y.2 20 0), .int (p1), .int (p2), .int (p3)])).length) Slot.unset).toArray = ls at hl ⊢
  have hl : lv_has ls 4 [(0, .ref (y.2 20 0)), (1, .int (p1)), (2, .int (p2)), (3, .int (p3))] := hl
  refine lv_aload_n hx hb dX8_levy_0 rfl (lv_at hl 0 rfl) ?_
  refine lv_aload_n hx hb dX8_levy_1 rfl (lv_at hl 0 rfl) ?_
  refine lv_iload_n hx hb dX8_levy_2 rfl (lv_at hl 1 rfl) ?_
  refine ce_qi (fw := fun u => u) (fy := fun _ => y) (cr_V (n := 1) (As := [.int (p1)]) (rest := [.ref (y.2 20 0)]) ⟨hx, hb, hml, hown, hts⟩ hK hR (m_X8_isNoVillage hM l0 h) q2109 q2111 qs40 q85 q2112 rfl rfl hd_X8_isNoVillage ⟨Nat.le_of_ble_eq_true rfl, Nat.le_of_ble_eq_true rfl⟩ (rv hK hR l0 (ci := 11) rfl rfl) rfl rfl hl.1 rfl (lv_room (Nat.le_of_ble_eq_true rfl)) dX8_levy_3 ⟨(Nat.le_of_ble_eq_true rfl), (Nat.le_of_ble_eq_true rfl)⟩) hR hS (fun r_3 w_3 H locs h hR _ hS => ?_)
  refine lv_if_ne (tgt := 16) hx hb dX8_levy_6 (by decide) (fun c_6 => ?_) (fun c_6 => ?_)
  · have h := h.1 c_6
    refine lv_iconst (v := (1 : Int32)) hx hb dX8_levy_16 (by decide) ?_
    refine lv_goto (tgt := 21) hx hb dX8_levy_17 (by decide) ?_
    refine lv_iconst (v := (1 : Int32)) hx hb dX8_levy_21 (by decide) ?_
    refine ce_qi (fw := fun u => u) (fy := fun _ => y) (cr_V (n := 2) (As := [.int ((1 : Int32)), .int ((1 : Int32))]) (rest := []) ⟨hx, hb, hml, hown, hts⟩ hK hR (m_X8_start hM l0 h) q2023 q2025 qs37 q85 q2026 rfl rfl hd_X8_start ⟨Nat.le_of_ble_eq_true rfl, Nat.le_of_ble_eq_true rfl⟩ (rv hK hR l0 (ci := 11) rfl rfl) rfl rfl hl.1 rfl (lv_room (Nat.le_of_ble_eq_true rfl)) dX8_levy_22 ⟨(Nat.le_of_ble_eq_true rfl), (Nat.le_of_ble_eq_true rfl)⟩) hR hS (fun r_22 w_22 H locs h hR _ hS => ?_)
    refine lv_if_ne (tgt := 50) hx hb dX8_levy_25 (by decide) (fun c_25 => ?_) (fun c_25 => ?_)
    · have h := h.1 c_25
      refine lv_iconst (v := (0 : Int32)) hx hb dX8_levy_50 (by decide) ?_
      refine lv_goto (tgt := 61) hx hb dX8_levy_51 (by decide) ?_
      refine W.widen (k := 0) (n := 0) (Nat.le_of_ble_eq_true rfl) (Nat.le_of_ble_eq_true rfl) ?_
      exact W.iret (v := (0 : Int32)) hx hb hr (fun t ht hW9 => ⟨⟨(0 : Int32), w_22, rfl, h, rpt ht hR⟩, hS.F ht⟩) hS.2.2 dX8_levy_61
    · have h := h.2 c_25
      refine lv_aload_n hx hb dX8_levy_28 rfl (lv_at hl 0 rfl) ?_
      refine lv_iload_n hx hb dX8_levy_29 rfl (lv_at hl 3 rfl) ?_
      refine lv_iconst (v := (0 : Int32)) hx hb dX8_levy_30 (by decide) ?_
      refine lv_iconst (v := (5 : Int32)) hx hb dX8_levy_31 (by decide) ?_
      refine ce_qi (fw := fun u => u) (fy := fun _ => y) (cr_S (n := 3) (As := [.int (p3), .int ((0 : Int32)), .int ((5 : Int32))]) (rest := [.ref (y.2 20 0)]) ⟨hx, hb, hml, hown, hts⟩ hK hR (m_X8_isIn hM h) q2020 q2021 q85 q2022 rfl rfl hds_X8_isIn ⟨Nat.le_of_ble_eq_true rfl, Nat.le_of_ble_eq_true rfl⟩ rfl rfl hl.1 rfl (lv_room (Nat.le_of_ble_eq_true rfl)) dX8_levy_32 ⟨(Nat.le_of_ble_eq_true rfl), (Nat.le_of_ble_eq_true rfl)⟩) hR hS (fun r_32 w_32 H locs h hR _ hS => ?_)
      refine lv_if_ne (tgt := 42) hx hb dX8_levy_35 (by decide) (fun c_35 => ?_) (fun c_35 => ?_)
      · have h := h.1 c_35
        refine lv_iconst (v := (0 : Int32)) hx hb dX8_levy_42 (by decide) ?_
        refine lv_iconst (v := (2 : Int32)) hx hb dX8_levy_43 (by decide) ?_
        refine ce_qi (fw := fun u => u) (fy := fun _ => y) (cr_V (n := 2) (As := [.int ((0 : Int32)), .int ((2 : Int32))]) (rest := []) ⟨hx, hb, hml, hown, hts⟩ hK hR (m_X8_refuse hM l0 h) q2027 q2029 qs38 q85 q2030 rfl rfl hd_X8_refuse ⟨Nat.le_of_ble_eq_true rfl, Nat.le_of_ble_eq_true rfl⟩ (rv hK hR l0 (ci := 11) rfl rfl) rfl rfl hl.1 rfl (lv_room (Nat.le_of_ble_eq_true rfl)) dX8_levy_44 ⟨(Nat.le_of_ble_eq_true rfl), (Nat.le_of_ble_eq_true rfl)⟩) hR hS (fun r_44 w_44 H locs h hR _ hS => ?_)
        refine lv_if_eq (tgt := 54) hx hb dX8_levy_47 (by decide) (fun c_47 => ?_) (fun c_47 => ?_)
        · have h := h.1 c_47
          refine lv_aload_n hx hb dX8_levy_54 rfl (lv_at hl 0 rfl) ?_
          refine lv_iload_n hx hb dX8_levy_55 rfl (lv_at hl 1 rfl) ?_
          refine lv_iload_n hx hb dX8_levy_56 rfl (lv_at hl 2 rfl) ?_
          refine lv_iload_n hx hb dX8_levy_57 rfl (lv_at hl 3 rfl) ?_
          refine ce_qi (fw := fun u => u) (fy := fun _ => y) (cr_V (n := 3) (As := [.int (p1), .int (p2), .int (p3)]) (rest := []) ⟨hx, hb, hml, hown, hts⟩ hK hR (m_X8_levyNow hM l0 h) q2522 q2524 qs63 q85 q2525 rfl rfl hd_X8_levyNow ⟨Nat.le_of_ble_eq_true rfl, Nat.le_of_ble_eq_true rfl⟩ (rv hK hR l0 (ci := 11) rfl rfl) rfl rfl hl.1 rfl (lv_room (Nat.le_of_ble_eq_true rfl)) dX8_levy_58 ⟨(Nat.le_of_ble_eq_true rfl), (Nat.le_of_ble_eq_true rfl)⟩) hR hS (fun r_58 w_58 H locs h hR _ hS => ?_)
          refine W.widen (k := 0) (n := 0) (Nat.le_of_ble_eq_true rfl) (Nat.le_of_ble_eq_true rfl) ?_
          exact W.iret (v := r_58) hx hb hr (fun t ht hW9 => ⟨⟨r_58, w_58, rfl, h, rpt ht hR⟩, hS.F ht⟩) hS.2.2 dX8_levy_61
        · have h := h.2 c_47
          refine lv_iconst (v := (0 : Int32)) hx hb dX8_levy_50 (by decide) ?_
          refine lv_goto (tgt := 61) hx hb dX8_levy_51 (by decide) ?_
          refine W.widen (k := 0) (n := 0) (Nat.le_of_ble_eq_true rfl) (Nat.le_of_ble_eq_true rfl) ?_
          exact W.iret (v := (0 : Int32)) hx hb hr (fun t ht hW9 => ⟨⟨(0 : Int32), w_44, rfl, h, rpt ht hR⟩, hS.F ht⟩) hS.2.2 dX8_levy_61
      · have h := h.2 c_35
        refine lv_iconst (v := (1 : Int32)) hx hb dX8_levy_38 (by decide) ?_
        refine lv_goto (tgt := 43) hx hb dX8_levy_39 (by decide) ?_
        refine lv_iconst (v := (2 : Int32)) hx hb dX8_levy_43 (by decide) ?_
        refine ce_qi (fw := fun u => u) (fy := fun _ => y) (cr_V (n := 2) (As := [.int ((1 : Int32)), .int ((2 : Int32))]) (rest := []) ⟨hx, hb, hml, hown, hts⟩ hK hR (m_X8_refuse hM l0 h) q2027 q2029 qs38 q85 q2030 rfl rfl hd_X8_refuse ⟨Nat.le_of_ble_eq_true rfl, Nat.le_of_ble_eq_true rfl⟩ (rv hK hR l0 (ci := 11) rfl rfl) rfl rfl hl.1 rfl (lv_room (Nat.le_of_ble_eq_true rfl)) dX8_levy_44 ⟨(Nat.le_of_ble_eq_true rfl), (Nat.le_of_ble_eq_true rfl)⟩) hR hS (fun r_44_a w_44_a H locs h hR _ hS => ?_)
        refine lv_if_eq (tgt := 54) hx hb dX8_levy_47 (by decide) (fun c_47_a => ?_) (fun c_47_a => ?_)
        · have h := h.1 c_47_a
          refine lv_aload_n hx hb dX8_levy_54 rfl (lv_at hl 0 rfl) ?_
          refine lv_iload_n hx hb dX8_levy_55 rfl (lv_at hl 1 rfl) ?_
          refine lv_iload_n hx hb dX8_levy_56 rfl (lv_at hl 2 rfl) ?_
          refine lv_iload_n hx hb dX8_levy_57 rfl (lv_at hl 3 rfl) ?_
          refine ce_qi (fw := fun u => u) (fy := fun _ => y) (cr_V (n := 3) (As := [.int (p1), .int (p2), .int (p3)]) (rest := []) ⟨hx, hb, hml, hown, hts⟩ hK hR (m_X8_levyNow hM l0 h) q2522 q2524 qs63 q85 q2525 rfl rfl hd_X8_levyNow ⟨Nat.le_of_ble_eq_true rfl, Nat.le_of_ble_eq_true rfl⟩ (rv hK hR l0 (ci := 11) rfl rfl) rfl rfl hl.1 rfl (lv_room (Nat.le_of_ble_eq_true rfl)) dX8_levy_58 ⟨(Nat.le_of_ble_eq_true rfl), (Nat.le_of_ble_eq_true rfl)⟩) hR hS (fun r_58_a w_58_a H locs h hR _ hS => ?_)
          refine W.widen (k := 0) (n := 0) (Nat.le_of_ble_eq_true rfl) (Nat.le_of_ble_eq_true rfl) ?_
          exact W.iret (v := r_58_a) hx hb hr (fun t ht hW9 => ⟨⟨r_58_a, w_58_a, rfl, h, rpt ht hR⟩, hS.F ht⟩) hS.2.2 dX8_levy_61
        · have h := h.2 c_47_a
          refine lv_iconst (v := (0 : Int32)) hx hb dX8_levy_50 (by decide) ?_
          refine lv_goto (tgt := 61) hx hb dX8_levy_51 (by decide) ?_
          refine W.widen (k := 0) (n := 0) (Nat.le_of_ble_eq_true rfl) (Nat.le_of_ble_eq_true rfl) ?_
          exact W.iret (v := (0 : Int32)) hx hb hr (fun t ht hW9 => ⟨⟨(0 : Int32), w_44_a, rfl, h, rpt ht hR⟩, hS.F ht⟩) hS.2.2 dX8_levy_61
  · have h := h.2 c_6
    refine lv_iload_n hx hb dX8_levy_9 rfl (lv_at hl 2 rfl) ?_
    refine ce_qi (fw := fun u => u) (fy := fun _ => y) (cr_S (n := 1) (As := [.int (p2)]) (rest := [.ref (y.2 20 0)]) ⟨hx, hb, hml, hown, hts⟩ hK hR (m_X8_isNoDuty hM h) q2130 q2131 q85 q2132 rfl rfl hds_X8_isNoDuty ⟨Nat.le_of_ble_eq_true rfl, Nat.le_of_ble_eq_true rfl⟩ rfl rfl hl.1 rfl (lv_room (Nat.le_of_ble_eq_true rfl)) dX8_levy_10 ⟨(Nat.le_of_ble_eq_true rfl), (Nat.le_of_ble_eq_true rfl)⟩) hR hS (fun r_10 w_10 H locs h hR _ hS => ?_)
    refine lv_if_eq (tgt := 20) hx hb dX8_levy_13 (by decide) (fun c_13 => ?_) (fun c_13 => ?_)
    · have h := h.1 c_13
      refine lv_iconst (v := (0 : Int32)) hx hb dX8_levy_20 (by decide) ?_
      refine lv_iconst (v := (1 : Int32)) hx hb dX8_levy_21 (by decide) ?_
      refine ce_qi (fw := fun u => u) (fy := fun _ => y) (cr_V (n := 2) (As := [.int ((0 : Int32)), .int ((1 : Int32))]) (rest := []) ⟨hx, hb, hml, hown, hts⟩ hK hR (m_X8_start hM l0 h) q2023 q2025 qs37 q85 q2026 rfl rfl hd_X8_start ⟨Nat.le_of_ble_eq_true rfl, Nat.le_of_ble_eq_true rfl⟩ (rv hK hR l0 (ci := 11) rfl rfl) rfl rfl hl.1 rfl (lv_room (Nat.le_of_ble_eq_true rfl)) dX8_levy_22 ⟨(Nat.le_of_ble_eq_true rfl), (Nat.le_of_ble_eq_true rfl)⟩) hR hS (fun r_22_a w_22_a H locs h hR _ hS => ?_)
      refine lv_if_ne (tgt := 50) hx hb dX8_levy_25 (by decide) (fun c_25_a => ?_) (fun c_25_a => ?_)
      · have h := h.1 c_25_a
        refine lv_iconst (v := (0 : Int32)) hx hb dX8_levy_50 (by decide) ?_
        refine lv_goto (tgt := 61) hx hb dX8_levy_51 (by decide) ?_
        refine W.widen (k := 0) (n := 0) (Nat.le_of_ble_eq_true rfl) (Nat.le_of_ble_eq_true rfl) ?_
        exact W.iret (v := (0 : Int32)) hx hb hr (fun t ht hW9 => ⟨⟨(0 : Int32), w_22_a, rfl, h, rpt ht hR⟩, hS.F ht⟩) hS.2.2 dX8_levy_61
      · have h := h.2 c_25_a
        refine lv_aload_n hx hb dX8_levy_28 rfl (lv_at hl 0 rfl) ?_
        refine lv_iload_n hx hb dX8_levy_29 rfl (lv_at hl 3 rfl) ?_
        refine lv_iconst (v := (0 : Int32)) hx hb dX8_levy_30 (by decide) ?_
        refine lv_iconst (v := (5 : Int32)) hx hb dX8_levy_31 (by decide) ?_
        refine ce_qi (fw := fun u => u) (fy := fun _ => y) (cr_S (n := 3) (As := [.int (p3), .int ((0 : Int32)), .int ((5 : Int32))]) (rest := [.ref (y.2 20 0)]) ⟨hx, hb, hml, hown, hts⟩ hK hR (m_X8_isIn hM h) q2020 q2021 q85 q2022 rfl rfl hds_X8_isIn ⟨Nat.le_of_ble_eq_true rfl, Nat.le_of_ble_eq_true rfl⟩ rfl rfl hl.1 rfl (lv_room (Nat.le_of_ble_eq_true rfl)) dX8_levy_32 ⟨(Nat.le_of_ble_eq_true rfl), (Nat.le_of_ble_eq_true rfl)⟩) hR hS (fun r_32_a w_32_a H locs h hR _ hS => ?_)
        refine lv_if_ne (tgt := 42) hx hb dX8_levy_35 (by decide) (fun c_35_a => ?_) (fun c_35_a => ?_)
        · have h := h.1 c_35_a
          refine lv_iconst (v := (0 : Int32)) hx hb dX8_levy_42 (by decide) ?_
          refine lv_iconst (v := (2 : Int32)) hx hb dX8_levy_43 (by decide) ?_
          refine ce_qi (fw := fun u => u) (fy := fun _ => y) (cr_V (n := 2) (As := [.int ((0 : Int32)), .int ((2 : Int32))]) (rest := []) ⟨hx, hb, hml, hown, hts⟩ hK hR (m_X8_refuse hM l0 h) q2027 q2029 qs38 q85 q2030 rfl rfl hd_X8_refuse ⟨Nat.le_of_ble_eq_true rfl, Nat.le_of_ble_eq_true rfl⟩ (rv hK hR l0 (ci := 11) rfl rfl) rfl rfl hl.1 rfl (lv_room (Nat.le_of_ble_eq_true rfl)) dX8_levy_44 ⟨(Nat.le_of_ble_eq_true rfl), (Nat.le_of_ble_eq_true rfl)⟩) hR hS (fun r_44_b w_44_b H locs h hR _ hS => ?_)
          refine lv_if_eq (tgt := 54) hx hb dX8_levy_47 (by decide) (fun c_47_b => ?_) (fun c_47_b => ?_)
          · have h := h.1 c_47_b
            refine lv_aload_n hx hb dX8_levy_54 rfl (lv_at hl 0 rfl) ?_
            refine lv_iload_n hx hb dX8_levy_55 rfl (lv_at hl 1 rfl) ?_
            refine lv_iload_n hx hb dX8_levy_56 rfl (lv_at hl 2 rfl) ?_
            refine lv_iload_n hx hb dX8_levy_57 rfl (lv_at hl 3 rfl) ?_
            refine ce_qi (fw := fun u => u) (fy := fun _ => y) (cr_V (n := 3) (As := [.int (p1), .int (p2), .int (p3)]) (rest := []) ⟨hx, hb, hml, hown, hts⟩ hK hR (m_X8_levyNow hM l0 h) q2522 q2524 qs63 q85 q2525 rfl rfl hd_X8_levyNow ⟨Nat.le_of_ble_eq_true rfl, Nat.le_of_ble_eq_true rfl⟩ (rv hK hR l0 (ci := 11) rfl rfl) rfl rfl hl.1 rfl (lv_room (Nat.le_of_ble_eq_true rfl)) dX8_levy_58 ⟨(Nat.le_of_ble_eq_true rfl), (Nat.le_of_ble_eq_true rfl)⟩) hR hS (fun r_58_b w_58_b H locs h hR _ hS => ?_)
            refine W.widen (k := 0) (n := 0) (Nat.le_of_ble_eq_true rfl) (Nat.le_of_ble_eq_true rfl) ?_
            exact W.iret (v := r_58_b) hx hb hr (fun t ht hW9 => ⟨⟨r_58_b, w_58_b, rfl, h, rpt ht hR⟩, hS.F ht⟩) hS.2.2 dX8_levy_61
          · have h := h.2 c_47_b
            refine lv_iconst (v := (0 : Int32)) hx hb dX8_levy_50 (by decide) ?_
            refine lv_goto (tgt := 61) hx hb dX8_levy_51 (by decide) ?_
            refine W.widen (k := 0) (n := 0) (Nat.le_of_ble_eq_true rfl) (Nat.le_of_ble_eq_true rfl) ?_
            exact W.iret (v := (0 : Int32)) hx hb hr (fun t ht hW9 => ⟨⟨(0 : Int32), w_44_b, rfl, h, rpt ht hR⟩, hS.F ht⟩) hS.2.2 dX8_levy_61
        · have h := h.2 c_35_a
          refine lv_iconst (v := (1 : Int32)) hx hb dX8_levy_38 (by decide) ?_
          refine lv_goto (tgt := 43) hx hb dX8_levy_39 (by decide) ?_
          refine lv_iconst (v := (2 : Int32)) hx hb dX8_levy_43 (by decide) ?_
          refine ce_qi (fw := fun u => u) (fy := fun _ => y) (cr_V (n := 2) (As := [.int ((1 : Int32)), .int ((2 : Int32))]) (rest := []) ⟨hx, hb, hml, hown, hts⟩ hK hR (m_X8_refuse hM l0 h) q2027 q2029 qs38 q85 q2030 rfl rfl hd_X8_refuse ⟨Nat.le_of_ble_eq_true rfl, Nat.le_of_ble_eq_true rfl⟩ (rv hK hR l0 (ci := 11) rfl rfl) rfl rfl hl.1 rfl (lv_room (Nat.le_of_ble_eq_true rfl)) dX8_levy_44 ⟨(Nat.le_of_ble_eq_true rfl), (Nat.le_of_ble_eq_true rfl)⟩) hR hS (fun r_44_c w_44_c H locs h hR _ hS => ?_)
          refine lv_if_eq (tgt := 54) hx hb dX8_levy_47 (by decide) (fun c_47_c => ?_) (fun c_47_c => ?_)
          · have h := h.1 c_47_c
            refine lv_aload_n hx hb dX8_levy_54 rfl (lv_at hl 0 rfl) ?_
            refine lv_iload_n hx hb dX8_levy_55 rfl (lv_at hl 1 rfl) ?_
            refine lv_iload_n hx hb dX8_levy_56 rfl (lv_at hl 2 rfl) ?_
            refine lv_iload_n hx hb dX8_levy_57 rfl (lv_at hl 3 rfl) ?_
            refine ce_qi (fw := fun u => u) (fy := fun _ => y) (cr_V (n := 3) (As := [.int (p1), .int (p2), .int (p3)]) (rest := []) ⟨hx, hb, hml, hown, hts⟩ hK hR (m_X8_levyNow hM l0 h) q2522 q2524 qs63 q85 q2525 rfl rfl hd_X8_levyNow ⟨Nat.le_of_ble_eq_true rfl, Nat.le_of_ble_eq_true rfl⟩ (rv hK hR l0 (ci := 11) rfl rfl) rfl rfl hl.1 rfl (lv_room (Nat.le_of_ble_eq_true rfl)) dX8_levy_58 ⟨(Nat.le_of_ble_eq_true rfl), (Nat.le_of_ble_eq_true rfl)⟩) hR hS (fun r_58_c w_58_c H locs h hR _ hS => ?_)
            refine W.widen (k := 0) (n := 0) (Nat.le_of_ble_eq_true rfl) (Nat.le_of_ble_eq_true rfl) ?_
            exact W.iret (v := r_58_c) hx hb hr (fun t ht hW9 => ⟨⟨r_58_c, w_58_c, rfl, h, rpt ht hR⟩, hS.F ht⟩) hS.2.2 dX8_levy_61
          · have h := h.2 c_47_c
            refine lv_iconst (v := (0 : Int32)) hx hb dX8_levy_50 (by decide) ?_
            refine lv_goto (tgt := 61) hx hb dX8_levy_51 (by decide) ?_
            refine W.widen (k := 0) (n := 0) (Nat.le_of_ble_eq_true rfl) (Nat.le_of_ble_eq_true rfl) ?_
            exact W.iret (v := (0 : Int32)) hx hb hr (fun t ht hW9 => ⟨⟨(0 : Int32), w_44_c, rfl, h, rpt ht hR⟩, hS.F ht⟩) hS.2.2 dX8_levy_61
    · have h := h.2 c_13
      refine lv_iconst (v := (1 : Int32)) hx hb dX8_levy_16 (by decide) ?_
      refine lv_goto (tgt := 21) hx hb dX8_levy_17 (by decide) ?_
      refine lv_iconst (v := (1 : Int32)) hx hb dX8_levy_21 (by decide) ?_
      refine ce_qi (fw := fun u => u) (fy := fun _ => y) (cr_V (n := 2) (As := [.int ((1 : Int32)), .int ((1 : Int32))]) (rest := []) ⟨hx, hb, hml, hown, hts⟩ hK hR (m_X8_start hM l0 h) q2023 q2025 qs37 q85 q2026 rfl rfl hd_X8_start ⟨Nat.le_of_ble_eq_true rfl, Nat.le_of_ble_eq_true rfl⟩ (rv hK hR l0 (ci := 11) rfl rfl) rfl rfl hl.1 rfl (lv_room (Nat.le_of_ble_eq_true rfl)) dX8_levy_22 ⟨(Nat.le_of_ble_eq_true rfl), (Nat.le_of_ble_eq_true rfl)⟩) hR hS (fun r_22_b w_22_b H locs h hR _ hS => ?_)
      refine lv_if_ne (tgt := 50) hx hb dX8_levy_25 (by decide) (fun c_25_b => ?_) (fun c_25_b => ?_)
      · have h := h.1 c_25_b
        refine lv_iconst (v := (0 : Int32)) hx hb dX8_levy_50 (by decide) ?_
        refine lv_goto (tgt := 61) hx hb dX8_levy_51 (by decide) ?_
        refine W.widen (k := 0) (n := 0) (Nat.le_of_ble_eq_true rfl) (Nat.le_of_ble_eq_true rfl) ?_
        exact W.iret (v := (0 : Int32)) hx hb hr (fun t ht hW9 => ⟨⟨(0 : Int32), w_22_b, rfl, h, rpt ht hR⟩, hS.F ht⟩) hS.2.2 dX8_levy_61
      · have h := h.2 c_25_b
        refine lv_aload_n hx hb dX8_levy_28 rfl (lv_at hl 0 rfl) ?_
        refine lv_iload_n hx hb dX8_levy_29 rfl (lv_at hl 3 rfl) ?_
        refine lv_iconst (v := (0 : Int32)) hx hb dX8_levy_30 (by decide) ?_
        refine lv_iconst (v := (5 : Int32)) hx hb dX8_levy_31 (by decide) ?_
        refine ce_qi (fw := fun u => u) (fy := fun _ => y) (cr_S (n := 3) (As := [.int (p3), .int ((0 : Int32)), .int ((5 : Int32))]) (rest := [.ref (y.2 20 0)]) ⟨hx, hb, hml, hown, hts⟩ hK hR (m_X8_isIn hM h) q2020 q2021 q85 q2022 rfl rfl hds_X8_isIn ⟨Nat.le_of_ble_eq_true rfl, Nat.le_of_ble_eq_true rfl⟩ rfl rfl hl.1 rfl (lv_room (Nat.le_of_ble_eq_true rfl)) dX8_levy_32 ⟨(Nat.le_of_ble_eq_true rfl), (Nat.le_of_ble_eq_true rfl)⟩) hR hS (fun r_32_b w_32_b H locs h hR _ hS => ?_)
        refine lv_if_ne (tgt := 42) hx hb dX8_levy_35 (by decide) (fun c_35_b => ?_) (fun c_35_b => ?_)
        · have h := h.1 c_35_b
          refine lv_iconst (v := (0 : Int32)) hx hb dX8_levy_42 (by decide) ?_
          refine lv_iconst (v := (2 : Int32)) hx hb dX8_levy_43 (by decide) ?_
          refine ce_qi (fw := fun u => u) (fy := fun _ => y) (cr_V (n := 2) (As := [.int ((0 : Int32)), .int ((2 : Int32))]) (rest := []) ⟨hx, hb, hml, hown, hts⟩ hK hR (m_X8_refuse hM l0 h) q2027 q2029 qs38 q85 q2030 rfl rfl hd_X8_refuse ⟨Nat.le_of_ble_eq_true rfl, Nat.le_of_ble_eq_true rfl⟩ (rv hK hR l0 (ci := 11) rfl rfl) rfl rfl hl.1 rfl (lv_room (Nat.le_of_ble_eq_true rfl)) dX8_levy_44 ⟨(Nat.le_of_ble_eq_true rfl), (Nat.le_of_ble_eq_true rfl)⟩) hR hS (fun r_44_d w_44_d H locs h hR _ hS => ?_)
          refine lv_if_eq (tgt := 54) hx hb dX8_levy_47 (by decide) (fun c_47_d => ?_) (fun c_47_d => ?_)
          · have h := h.1 c_47_d
            refine lv_aload_n hx hb dX8_levy_54 rfl (lv_at hl 0 rfl) ?_
            refine lv_iload_n hx hb dX8_levy_55 rfl (lv_at hl 1 rfl) ?_
            refine lv_iload_n hx hb dX8_levy_56 rfl (lv_at hl 2 rfl) ?_
            refine lv_iload_n hx hb dX8_levy_57 rfl (lv_at hl 3 rfl) ?_
            refine ce_qi (fw := fun u => u) (fy := fun _ => y) (cr_V (n := 3) (As := [.int (p1), .int (p2), .int (p3)]) (rest := []) ⟨hx, hb, hml, hown, hts⟩ hK hR (m_X8_levyNow hM l0 h) q2522 q2524 qs63 q85 q2525 rfl rfl hd_X8_levyNow ⟨Nat.le_of_ble_eq_true rfl, Nat.le_of_ble_eq_true rfl⟩ (rv hK hR l0 (ci := 11) rfl rfl) rfl rfl hl.1 rfl (lv_room (Nat.le_of_ble_eq_true rfl)) dX8_levy_58 ⟨(Nat.le_of_ble_eq_true rfl), (Nat.le_of_ble_eq_true rfl)⟩) hR hS (fun r_58_d w_58_d H locs h hR _ hS => ?_)
            refine W.widen (k := 0) (n := 0) (Nat.le_of_ble_eq_true rfl) (Nat.le_of_ble_eq_true rfl) ?_
            exact W.iret (v := r_58_d) hx hb hr (fun t ht hW9 => ⟨⟨r_58_d, w_58_d, rfl, h, rpt ht hR⟩, hS.F ht⟩) hS.2.2 dX8_levy_61
          · have h := h.2 c_47_d
            refine lv_iconst (v := (0 : Int32)) hx hb dX8_levy_50 (by decide) ?_
            refine lv_goto (tgt := 61) hx hb dX8_levy_51 (by decide) ?_
            refine W.widen (k := 0) (n := 0) (Nat.le_of_ble_eq_true rfl) (Nat.le_of_ble_eq_true rfl) ?_
            exact W.iret (v := (0 : Int32)) hx hb hr (fun t ht hW9 => ⟨⟨(0 : Int32), w_44_d, rfl, h, rpt ht hR⟩, hS.F ht⟩) hS.2.2 dX8_levy_61
        · have h := h.2 c_35_b
          refine lv_iconst (v := (1 : Int32)) hx hb dX8_levy_38 (by decide) ?_
          refine lv_goto (tgt := 43) hx hb dX8_levy_39 (by decide) ?_
          refine lv_iconst (v := (2 : Int32)) hx hb dX8_levy_43 (by decide) ?_
          refine ce_qi (fw := fun u => u) (fy := fun _ => y) (cr_V (n := 2) (As := [.int ((1 : Int32)), .int ((2 : Int32))]) (rest := []) ⟨hx, hb, hml, hown, hts⟩ hK hR (m_X8_refuse hM l0 h) q2027 q2029 qs38 q85 q2030 rfl rfl hd_X8_refuse ⟨Nat.le_of_ble_eq_true rfl, Nat.le_of_ble_eq_true rfl⟩ (rv hK hR l0 (ci := 11) rfl rfl) rfl rfl hl.1 rfl (lv_room (Nat.le_of_ble_eq_true rfl)) dX8_levy_44 ⟨(Nat.le_of_ble_eq_true rfl), (Nat.le_of_ble_eq_true rfl)⟩) hR hS (fun r_44_e w_44_e H locs h hR _ hS => ?_)
          refine lv_if_eq (tgt := 54) hx hb dX8_levy_47 (by decide) (fun c_47_e => ?_) (fun c_47_e => ?_)
          · have h := h.1 c_47_e
            refine lv_aload_n hx hb dX8_levy_54 rfl (lv_at hl 0 rfl) ?_
            refine lv_iload_n hx hb dX8_levy_55 rfl (lv_at hl 1 rfl) ?_
            refine lv_iload_n hx hb dX8_levy_56 rfl (lv_at hl 2 rfl) ?_
            refine lv_iload_n hx hb dX8_levy_57 rfl (lv_at hl 3 rfl) ?_
            refine ce_qi (fw := fun u => u) (fy := fun _ => y) (cr_V (n := 3) (As := [.int (p1), .int (p2), .int (p3)]) (rest := []) ⟨hx, hb, hml, hown, hts⟩ hK hR (m_X8_levyNow hM l0 h) q2522 q2524 qs63 q85 q2525 rfl rfl hd_X8_levyNow ⟨Nat.le_of_ble_eq_true rfl, Nat.le_of_ble_eq_true rfl⟩ (rv hK hR l0 (ci := 11) rfl rfl) rfl rfl hl.1 rfl (lv_room (Nat.le_of_ble_eq_true rfl)) dX8_levy_58 ⟨(Nat.le_of_ble_eq_true rfl), (Nat.le_of_ble_eq_true rfl)⟩) hR hS (fun r_58_e w_58_e H locs h hR _ hS => ?_)
            refine W.widen (k := 0) (n := 0) (Nat.le_of_ble_eq_true rfl) (Nat.le_of_ble_eq_true rfl) ?_
            exact W.iret (v := r_58_e) hx hb hr (fun t ht hW9 => ⟨⟨r_58_e, w_58_e, rfl, h, rpt ht hR⟩, hS.F ht⟩) hS.2.2 dX8_levy_61
          · have h := h.2 c_47_e
            refine lv_iconst (v := (0 : Int32)) hx hb dX8_levy_50 (by decide) ?_
            refine lv_goto (tgt := 61) hx hb dX8_levy_51 (by decide) ?_
            refine W.widen (k := 0) (n := 0) (Nat.le_of_ble_eq_true rfl) (Nat.le_of_ble_eq_true rfl) ?_
            exact W.iret (v := (0 : Int32)) hx hb hr (fun t ht hW9 => ⟨⟨(0 : Int32), w_44_e, rfl, h, rpt ht hR⟩, hS.F ht⟩) hS.2.2 dX8_levy_61
abbrev rm_X8_law : Room := { frames := 2, cells := 1, slots := 5, locals := 44 }
def sp_X8_law (κ : Kx) (y : Ly) (post : Int32 → Wd → Prop) (w : Wd) (p1 : Int32) (p2 : Int32) : Prop := sp_X8_isNoDuty κ y (fun r_2 w_2 => sp_X8_start κ y (fun r_6 w_6 => ((¬ r_6 = 0) → (post ((0 : Int32)) w_6)) ∧ ((r_6 = 0) → (sp_X8_isIn κ y (fun r_16 w_16 => ((¬ r_16 = 0) → (sp_X8_refuse κ y (fun r_28 w_28 => ((r_28 = 0) → (sp_X8_lawNow κ y (fun r_41 w_41 => post (r_41) w_41) w_28 p1 p2)) ∧ ((¬ (r_28 = 0)) → (post ((0 : Int32)) w_28))) w_16 (0 : Int32) (2 : Int32))) ∧ ((r_16 = 0) → (sp_X8_refuse κ y (fun r_28_a w_28_a => ((r_28_a = 0) → (sp_X8_lawNow κ y (fun r_41_a w_41_a => post (r_41_a) w_41_a) w_28_a p1 p2)) ∧ ((¬ (r_28_a = 0)) → (post ((0 : Int32)) w_28_a))) w_16 (1 : Int32) (2 : Int32)))) w_6 p2 (0 : Int32) (4 : Int32)))) w_2 r_2 (1 : Int32)) w p1
theorem hd_X8_law : yX8_law.cls = RX8 ∧ yX8_law.cls ≠ "java/lang/invoke/MethodHandle" ∧ yX8_law.cls ≠ "java/lang/invoke/VarHandle" ∧ (parseMethodDescriptor yX8_law.desc).map (fun d => d.parameters.length) = some 2 := by decide +kernel
set_option maxHeartbeats 4000000 in
theorem m_X8_law {l : Launch} {κ : Kx} {y : Ly} {X : XR} {post : Int32 → Wd → Prop} {w : Wd} {p1 : Int32} {p2 : Int32}  (hM : WFm κ y) (l0 : live y 20 0) (h : sp_X8_law κ y post w p1 p2) : Met l yX8_law (ws_ yX8_law cX8_law 3 (Option.some Jvm.ClassFile.FieldType.int)) rm_X8_law (va_Pc [.ref (y.2 20 0), .int (p1), .int (p2)] (RC κ w y X)) (va_Qi post (fun w t => Rp κ w y X [] t.heap) (Af κ)) 1 5 (Af κ) := by
  unfold sp_X8_law at h
  refine Met.ofW (cc := cX8_law) (maxL := 3) (ret := (Option.some Jvm.ClassFile.FieldType.int)) (by decide) rfl ?_
  intro p e s m args below meth c s₁ B hml hv
  obtain ⟨rfl, hR, hK⟩ := hv
  have hx := B.exec
  have hb := B.bytes
  have hr := B.returns
  have hts := atoms_spec (ws := ws_ yX8_law cX8_law 3 (Option.some Jvm.ClassFile.FieldType.int)) B.pre
  have hts : ∀ w ∈ lw_all, w.before _ s = true := fun w h => hts w (List.mem_cons_of_mem _ h)
  have hown : s.vm.findClass RX8 = some m.cls := findClass_of_methodNamed B.named
  have hlocks := B.notSynchronized
  have hS : va_S (Af κ) s.heap s.heap [] := va_S.rf
  have hl := lv_entry ([.ref (y.2 20 0), .int (p1), .int (p2)]) (n := 3) (Nat.le_of_ble_eq_true rfl)
  rw [lg_entry_eq]
  generalize (lg_sl ([.ref (y.2 20 0), .int (p1), .int (p2)]) ++ List.replicate (3 - (lg_sl ([.ref (y.2 20 0), .int (p1), .int (p2)])).length) Slot.unset).toArray = ls at hl ⊢
  have hl : lv_has ls 3 [(0, .ref (y.2 20 0)), (1, .int (p1)), (2, .int (p2))] := hl
  refine lv_aload_n hx hb dX8_law_0 rfl (lv_at hl 0 rfl) ?_
  refine lv_iload_n hx hb dX8_law_1 rfl (lv_at hl 1 rfl) ?_
  refine ce_qi (fw := fun u => u) (fy := fun _ => y) (cr_S (n := 1) (As := [.int (p1)]) (rest := [.ref (y.2 20 0)]) ⟨hx, hb, hml, hown, hts⟩ hK hR (m_X8_isNoDuty hM h) q2130 q2131 q85 q2132 rfl rfl hds_X8_isNoDuty ⟨Nat.le_of_ble_eq_true rfl, Nat.le_of_ble_eq_true rfl⟩ rfl rfl hl.1 rfl (lv_room (Nat.le_of_ble_eq_true rfl)) dX8_law_2 ⟨(Nat.le_of_ble_eq_true rfl), (Nat.le_of_ble_eq_true rfl)⟩) hR hS (fun r_2 w_2 H locs h hR _ hS => ?_)
  refine lv_iconst (v := (1 : Int32)) hx hb dX8_law_5 (by decide) ?_
  refine ce_qi (fw := fun u => u) (fy := fun _ => y) (cr_V (n := 2) (As := [.int (r_2), .int ((1 : Int32))]) (rest := []) ⟨hx, hb, hml, hown, hts⟩ hK hR (m_X8_start hM l0 h) q2023 q2025 qs37 q85 q2026 rfl rfl hd_X8_start ⟨Nat.le_of_ble_eq_true rfl, Nat.le_of_ble_eq_true rfl⟩ (rv hK hR l0 (ci := 11) rfl rfl) rfl rfl hl.1 rfl (lv_room (Nat.le_of_ble_eq_true rfl)) dX8_law_6 ⟨(Nat.le_of_ble_eq_true rfl), (Nat.le_of_ble_eq_true rfl)⟩) hR hS (fun r_6 w_6 H locs h hR _ hS => ?_)
  refine lv_if_ne (tgt := 34) hx hb dX8_law_9 (by decide) (fun c_9 => ?_) (fun c_9 => ?_)
  · have h := h.1 c_9
    refine lv_iconst (v := (0 : Int32)) hx hb dX8_law_34 (by decide) ?_
    refine lv_goto (tgt := 44) hx hb dX8_law_35 (by decide) ?_
    refine W.widen (k := 1) (n := 5) (Nat.le_of_ble_eq_true rfl) (Nat.le_of_ble_eq_true rfl) ?_
    exact W.iret (v := (0 : Int32)) hx hb hr (fun t ht hW9 => ⟨⟨(0 : Int32), w_6, rfl, h, rpt ht hR⟩, hS.F ht⟩) hS.2.2 dX8_law_44
  · have h := h.2 c_9
    refine lv_aload_n hx hb dX8_law_12 rfl (lv_at hl 0 rfl) ?_
    refine lv_iload_n hx hb dX8_law_13 rfl (lv_at hl 2 rfl) ?_
    refine lv_iconst (v := (0 : Int32)) hx hb dX8_law_14 (by decide) ?_
    refine lv_iconst (v := (4 : Int32)) hx hb dX8_law_15 (by decide) ?_
    refine ce_qi (fw := fun u => u) (fy := fun _ => y) (cr_S (n := 3) (As := [.int (p2), .int ((0 : Int32)), .int ((4 : Int32))]) (rest := [.ref (y.2 20 0)]) ⟨hx, hb, hml, hown, hts⟩ hK hR (m_X8_isIn hM h) q2020 q2021 q85 q2022 rfl rfl hds_X8_isIn ⟨Nat.le_of_ble_eq_true rfl, Nat.le_of_ble_eq_true rfl⟩ rfl rfl hl.1 rfl (lv_room (Nat.le_of_ble_eq_true rfl)) dX8_law_16 ⟨(Nat.le_of_ble_eq_true rfl), (Nat.le_of_ble_eq_true rfl)⟩) hR hS (fun r_16 w_16 H locs h hR _ hS => ?_)
    refine lv_if_ne (tgt := 26) hx hb dX8_law_19 (by decide) (fun c_19 => ?_) (fun c_19 => ?_)
    · have h := h.1 c_19
      refine lv_iconst (v := (0 : Int32)) hx hb dX8_law_26 (by decide) ?_
      refine lv_iconst (v := (2 : Int32)) hx hb dX8_law_27 (by decide) ?_
      refine ce_qi (fw := fun u => u) (fy := fun _ => y) (cr_V (n := 2) (As := [.int ((0 : Int32)), .int ((2 : Int32))]) (rest := []) ⟨hx, hb, hml, hown, hts⟩ hK hR (m_X8_refuse hM l0 h) q2027 q2029 qs38 q85 q2030 rfl rfl hd_X8_refuse ⟨Nat.le_of_ble_eq_true rfl, Nat.le_of_ble_eq_true rfl⟩ (rv hK hR l0 (ci := 11) rfl rfl) rfl rfl hl.1 rfl (lv_room (Nat.le_of_ble_eq_true rfl)) dX8_law_28 ⟨(Nat.le_of_ble_eq_true rfl), (Nat.le_of_ble_eq_true rfl)⟩) hR hS (fun r_28 w_28 H locs h hR _ hS => ?_)
      refine lv_if_eq (tgt := 38) hx hb dX8_law_31 (by decide) (fun c_31 => ?_) (fun c_31 => ?_)
      · have h := h.1 c_31
        refine lv_aload_n hx hb dX8_law_38 rfl (lv_at hl 0 rfl) ?_
        refine lv_iload_n hx hb dX8_law_39 rfl (lv_at hl 1 rfl) ?_
        refine lv_iload_n hx hb dX8_law_40 rfl (lv_at hl 2 rfl) ?_
        refine ce_qi (fw := fun u => u) (fy := fun _ => y) (cr_V (n := 2) (As := [.int (p1), .int (p2)]) (rest := []) ⟨hx, hb, hml, hown, hts⟩ hK hR (m_X8_lawNow hM l0 h) q2530 q2532 qs64 q85 q2533 rfl rfl hd_X8_lawNow ⟨Nat.le_of_ble_eq_true rfl, Nat.le_of_ble_eq_true rfl⟩ (rv hK hR l0 (ci := 11) rfl rfl) rfl rfl hl.1 rfl (lv_room (Nat.le_of_ble_eq_true rfl)) dX8_law_41 ⟨(Nat.le_of_ble_eq_true rfl), (Nat.le_of_ble_eq_true rfl)⟩) hR hS (fun r_41 w_41 H locs h hR _ hS => ?_)
        refine W.widen (k := 1) (n := 5) (Nat.le_of_ble_eq_true rfl) (Nat.le_of_ble_eq_true rfl) ?_
        exact W.iret (v := r_41) hx hb hr (fun t ht hW9 => ⟨⟨r_41, w_41, rfl, h, rpt ht hR⟩, hS.F ht⟩) hS.2.2 dX8_law_44
      · have h := h.2 c_31
        refine lv_iconst (v := (0 : Int32)) hx hb dX8_law_34 (by decide) ?_
        refine lv_goto (tgt := 44) hx hb dX8_law_35 (by decide) ?_
        refine W.widen (k := 1) (n := 5) (Nat.le_of_ble_eq_true rfl) (Nat.le_of_ble_eq_true rfl) ?_
        exact W.iret (v := (0 : Int32)) hx hb hr (fun t ht hW9 => ⟨⟨(0 : Int32), w_28, rfl, h, rpt ht hR⟩, hS.F ht⟩) hS.2.2 dX8_law_44
    · have h := h.2 c_19
      refine lv_iconst (v := (1 : Int32)) hx hb dX8_law_22 (by decide) ?_
      refine lv_goto (tgt := 27) hx hb dX8_law_23 (by decide) ?_
      refine lv_iconst (v := (2 : Int32)) hx hb dX8_law_27 (by decide) ?_
      refine ce_qi (fw := fun u => u) (fy := fun _ => y) (cr_V (n := 2) (As := [.int ((1 : Int32)), .int ((2 : Int32))]) (rest := []) ⟨hx, hb, hml, hown, hts⟩ hK hR (m_X8_refuse hM l0 h) q2027 q2029 qs38 q85 q2030 rfl rfl hd_X8_refuse ⟨Nat.le_of_ble_eq_true rfl, Nat.le_of_ble_eq_true rfl⟩ (rv hK hR l0 (ci := 11) rfl rfl) rfl rfl hl.1 rfl (lv_room (Nat.le_of_ble_eq_true rfl)) dX8_law_28 ⟨(Nat.le_of_ble_eq_true rfl), (Nat.le_of_ble_eq_true rfl)⟩) hR hS (fun r_28_a w_28_a H locs h hR _ hS => ?_)
      refine lv_if_eq (tgt := 38) hx hb dX8_law_31 (by decide) (fun c_31_a => ?_) (fun c_31_a => ?_)
      · have h := h.1 c_31_a
        refine lv_aload_n hx hb dX8_law_38 rfl (lv_at hl 0 rfl) ?_
        refine lv_iload_n hx hb dX8_law_39 rfl (lv_at hl 1 rfl) ?_
        refine lv_iload_n hx hb dX8_law_40 rfl (lv_at hl 2 rfl) ?_
        refine ce_qi (fw := fun u => u) (fy := fun _ => y) (cr_V (n := 2) (As := [.int (p1), .int (p2)]) (rest := []) ⟨hx, hb, hml, hown, hts⟩ hK hR (m_X8_lawNow hM l0 h) q2530 q2532 qs64 q85 q2533 rfl rfl hd_X8_lawNow ⟨Nat.le_of_ble_eq_true rfl, Nat.le_of_ble_eq_true rfl⟩ (rv hK hR l0 (ci := 11) rfl rfl) rfl rfl hl.1 rfl (lv_room (Nat.le_of_ble_eq_true rfl)) dX8_law_41 ⟨(Nat.le_of_ble_eq_true rfl), (Nat.le_of_ble_eq_true rfl)⟩) hR hS (fun r_41_a w_41_a H locs h hR _ hS => ?_)
        refine W.widen (k := 1) (n := 5) (Nat.le_of_ble_eq_true rfl) (Nat.le_of_ble_eq_true rfl) ?_
        exact W.iret (v := r_41_a) hx hb hr (fun t ht hW9 => ⟨⟨r_41_a, w_41_a, rfl, h, rpt ht hR⟩, hS.F ht⟩) hS.2.2 dX8_law_44
      · have h := h.2 c_31_a
        refine lv_iconst (v := (0 : Int32)) hx hb dX8_law_34 (by decide) ?_
        refine lv_goto (tgt := 44) hx hb dX8_law_35 (by decide) ?_
        refine W.widen (k := 1) (n := 5) (Nat.le_of_ble_eq_true rfl) (Nat.le_of_ble_eq_true rfl) ?_
        exact W.iret (v := (0 : Int32)) hx hb hr (fun t ht hW9 => ⟨⟨(0 : Int32), w_28_a, rfl, h, rpt ht hR⟩, hS.F ht⟩) hS.2.2 dX8_law_44
abbrev rm_X8_ofCompany : Room := { frames := 5, cells := 4, slots := 25, locals := 119 }
def sp_X8_ofCompany (κ : Kx) (y : Ly) (post : Int32 → Wd → Prop) (w : Wd) (p1 : Int32) (p2 : Int32) : Prop := sp_X8_isNoCompany κ y (fun r_3 w_3 => sp_X8_start κ y (fun r_7 w_7 => ((¬ r_7 = 0) → (post ((0 : Int32)) w_7)) ∧ ((r_7 = 0) → (sp_X8_isIn κ y (fun r_18 w_18 => ((¬ r_18 = 0) → (sp_X8_refuse κ y (fun r_30 w_30 => ((r_30 = 0) → (sp_X8_ofCompanyNow κ y (fun r_43 w_43 => post (r_43) w_43) w_30 p1 p2)) ∧ ((¬ (r_30 = 0)) → (post ((0 : Int32)) w_30))) w_18 (0 : Int32) (2 : Int32))) ∧ ((r_18 = 0) → (sp_X8_refuse κ y (fun r_30_a w_30_a => ((r_30_a = 0) → (sp_X8_ofCompanyNow κ y (fun r_43_a w_43_a => post (r_43_a) w_43_a) w_30_a p1 p2)) ∧ ((¬ (r_30_a = 0)) → (post ((0 : Int32)) w_30_a))) w_18 (1 : Int32) (2 : Int32)))) w_7 p2 (0 : Int32) (12 : Int32)))) w_3 r_3 (1 : Int32)) w p1
theorem hd_X8_ofCompany : yX8_ofCompany.cls = RX8 ∧ yX8_ofCompany.cls ≠ "java/lang/invoke/MethodHandle" ∧ yX8_ofCompany.cls ≠ "java/lang/invoke/VarHandle" ∧ (parseMethodDescriptor yX8_ofCompany.desc).map (fun d => d.parameters.length) = some 2 := by decide +kernel
set_option maxHeartbeats 4000000 in
theorem m_X8_ofCompany {l : Launch} {κ : Kx} {y : Ly} {X : XR} {post : Int32 → Wd → Prop} {w : Wd} {p1 : Int32} {p2 : Int32}  (hM : WFm κ y) (l0 : live y 20 0) (h : sp_X8_ofCompany κ y post w p1 p2) : Met l yX8_ofCompany (ws_ yX8_ofCompany cX8_ofCompany 3 (Option.some Jvm.ClassFile.FieldType.int)) rm_X8_ofCompany (va_Pc [.ref (y.2 20 0), .int (p1), .int (p2)] (RC κ w y X)) (va_Qi post (fun w t => Rp κ w y X [] t.heap) (Af κ)) 4 25 (Af κ) := by
  unfold sp_X8_ofCompany at h
  refine Met.ofW (cc := cX8_ofCompany) (maxL := 3) (ret := (Option.some Jvm.ClassFile.FieldType.int)) (by decide) rfl ?_
  intro p e s m args below meth c s₁ B hml hv
  obtain ⟨rfl, hR, hK⟩ := hv
  have hx := B.exec
  have hb := B.bytes
  have hr := B.returns
  have hts := atoms_spec (ws := ws_ yX8_ofCompany cX8_ofCompany 3 (Option.some Jvm.ClassFile.FieldType.int)) B.pre
  have hts : ∀ w ∈ lw_all, w.before _ s = true := fun w h => hts w (List.mem_cons_of_mem _ h)
  have hown : s.vm.findClass RX8 = some m.cls := findClass_of_methodNamed B.named
  have hlocks := B.notSynchronized
  have hS : va_S (Af κ) s.heap s.heap [] := va_S.rf
  have hl := lv_entry ([.ref (y.2 20 0), .int (p1), .int (p2)]) (n := 3) (Nat.le_of_ble_eq_true rfl)
  rw [lg_entry_eq]
  generalize (lg_sl ([.ref (y.2 20 0), .int (p1), .int (p2)]) ++ List.replicate (3 - (lg_sl ([.ref (y.2 20 0), .int (p1), .int (p2)])).length) Slot.unset).toArray = ls at hl ⊢
  have hl : lv_has ls 3 [(0, .ref (y.2 20 0)), (1, .int (p1)), (2, .int (p2))] := hl
  refine lv_aload_n hx hb dX8_ofCompany_0 rfl (lv_at hl 0 rfl) ?_
  refine lv_aload_n hx hb dX8_ofCompany_1 rfl (lv_at hl 0 rfl) ?_
  refine lv_iload_n hx hb dX8_ofCompany_2 rfl (lv_at hl 1 rfl) ?_
  refine ce_qi (fw := fun u => u) (fy := fun _ => y) (cr_V (n := 1) (As := [.int (p1)]) (rest := [.ref (y.2 20 0)]) ⟨hx, hb, hml, hown, hts⟩ hK hR (m_X8_isNoCompany hM l0 h) q2189 q2191 qs42 q85 q2192 rfl rfl hd_X8_isNoCompany ⟨Nat.le_of_ble_eq_true rfl, Nat.le_of_ble_eq_true rfl⟩ (rv hK hR l0 (ci := 11) rfl rfl) rfl rfl hl.1 rfl (lv_room (Nat.le_of_ble_eq_true rfl)) dX8_ofCompany_3 ⟨(Nat.le_of_ble_eq_true rfl), (Nat.le_of_ble_eq_true rfl)⟩) hR hS (fun r_3 w_3 H locs h hR _ hS => ?_)
  refine lv_iconst (v := (1 : Int32)) hx hb dX8_ofCompany_6 (by decide) ?_
  refine ce_qi (fw := fun u => u) (fy := fun _ => y) (cr_V (n := 2) (As := [.int (r_3), .int ((1 : Int32))]) (rest := []) ⟨hx, hb, hml, hown, hts⟩ hK hR (m_X8_start hM l0 h) q2023 q2025 qs37 q85 q2026 rfl rfl hd_X8_start ⟨Nat.le_of_ble_eq_true rfl, Nat.le_of_ble_eq_true rfl⟩ (rv hK hR l0 (ci := 11) rfl rfl) rfl rfl hl.1 rfl (lv_room (Nat.le_of_ble_eq_true rfl)) dX8_ofCompany_7 ⟨(Nat.le_of_ble_eq_true rfl), (Nat.le_of_ble_eq_true rfl)⟩) hR hS (fun r_7 w_7 H locs h hR _ hS => ?_)
  refine lv_if_ne (tgt := 36) hx hb dX8_ofCompany_10 (by decide) (fun c_10 => ?_) (fun c_10 => ?_)
  · have h := h.1 c_10
    refine lv_iconst (v := (0 : Int32)) hx hb dX8_ofCompany_36 (by decide) ?_
    refine lv_goto (tgt := 46) hx hb dX8_ofCompany_37 (by decide) ?_
    refine W.widen (k := 4) (n := 25) (Nat.le_of_ble_eq_true rfl) (Nat.le_of_ble_eq_true rfl) ?_
    exact W.iret (v := (0 : Int32)) hx hb hr (fun t ht hW9 => ⟨⟨(0 : Int32), w_7, rfl, h, rpt ht hR⟩, hS.F ht⟩) hS.2.2 dX8_ofCompany_46
  · have h := h.2 c_10
    refine lv_aload_n hx hb dX8_ofCompany_13 rfl (lv_at hl 0 rfl) ?_
    refine lv_iload_n hx hb dX8_ofCompany_14 rfl (lv_at hl 2 rfl) ?_
    refine lv_iconst (v := (0 : Int32)) hx hb dX8_ofCompany_15 (by decide) ?_
    refine lv_bipush (v := (12 : Int32)) hx hb dX8_ofCompany_16 (by decide) ?_
    refine ce_qi (fw := fun u => u) (fy := fun _ => y) (cr_S (n := 3) (As := [.int (p2), .int ((0 : Int32)), .int ((12 : Int32))]) (rest := [.ref (y.2 20 0)]) ⟨hx, hb, hml, hown, hts⟩ hK hR (m_X8_isIn hM h) q2020 q2021 q85 q2022 rfl rfl hds_X8_isIn ⟨Nat.le_of_ble_eq_true rfl, Nat.le_of_ble_eq_true rfl⟩ rfl rfl hl.1 rfl (lv_room (Nat.le_of_ble_eq_true rfl)) dX8_ofCompany_18 ⟨(Nat.le_of_ble_eq_true rfl), (Nat.le_of_ble_eq_true rfl)⟩) hR hS (fun r_18 w_18 H locs h hR _ hS => ?_)
    refine lv_if_ne (tgt := 28) hx hb dX8_ofCompany_21 (by decide) (fun c_21 => ?_) (fun c_21 => ?_)
    · have h := h.1 c_21
      refine lv_iconst (v := (0 : Int32)) hx hb dX8_ofCompany_28 (by decide) ?_
      refine lv_iconst (v := (2 : Int32)) hx hb dX8_ofCompany_29 (by decide) ?_
      refine ce_qi (fw := fun u => u) (fy := fun _ => y) (cr_V (n := 2) (As := [.int ((0 : Int32)), .int ((2 : Int32))]) (rest := []) ⟨hx, hb, hml, hown, hts⟩ hK hR (m_X8_refuse hM l0 h) q2027 q2029 qs38 q85 q2030 rfl rfl hd_X8_refuse ⟨Nat.le_of_ble_eq_true rfl, Nat.le_of_ble_eq_true rfl⟩ (rv hK hR l0 (ci := 11) rfl rfl) rfl rfl hl.1 rfl (lv_room (Nat.le_of_ble_eq_true rfl)) dX8_ofCompany_30 ⟨(Nat.le_of_ble_eq_true rfl), (Nat.le_of_ble_eq_true rfl)⟩) hR hS (fun r_30 w_30 H locs h hR _ hS => ?_)
      refine lv_if_eq (tgt := 40) hx hb dX8_ofCompany_33 (by decide) (fun c_33 => ?_) (fun c_33 => ?_)
      · have h := h.1 c_33
        refine lv_aload_n hx hb dX8_ofCompany_40 rfl (lv_at hl 0 rfl) ?_
        refine lv_iload_n hx hb dX8_ofCompany_41 rfl (lv_at hl 1 rfl) ?_
        refine lv_iload_n hx hb dX8_ofCompany_42 rfl (lv_at hl 2 rfl) ?_
        refine ce_qi (fw := fun u => u) (fy := fun _ => y) (cr_V (n := 2) (As := [.int (p1), .int (p2)]) (rest := []) ⟨hx, hb, hml, hown, hts⟩ hK hR (m_X8_ofCompanyNow hM l0 h) q2538 q2540 qs65 q85 q2541 rfl rfl hd_X8_ofCompanyNow ⟨Nat.le_of_ble_eq_true rfl, Nat.le_of_ble_eq_true rfl⟩ (rv hK hR l0 (ci := 11) rfl rfl) rfl rfl hl.1 rfl (lv_room (Nat.le_of_ble_eq_true rfl)) dX8_ofCompany_43 ⟨(Nat.le_of_ble_eq_true rfl), (Nat.le_of_ble_eq_true rfl)⟩) hR hS (fun r_43 w_43 H locs h hR _ hS => ?_)
        refine W.widen (k := 4) (n := 25) (Nat.le_of_ble_eq_true rfl) (Nat.le_of_ble_eq_true rfl) ?_
        exact W.iret (v := r_43) hx hb hr (fun t ht hW9 => ⟨⟨r_43, w_43, rfl, h, rpt ht hR⟩, hS.F ht⟩) hS.2.2 dX8_ofCompany_46
      · have h := h.2 c_33
        refine lv_iconst (v := (0 : Int32)) hx hb dX8_ofCompany_36 (by decide) ?_
        refine lv_goto (tgt := 46) hx hb dX8_ofCompany_37 (by decide) ?_
        refine W.widen (k := 4) (n := 25) (Nat.le_of_ble_eq_true rfl) (Nat.le_of_ble_eq_true rfl) ?_
        exact W.iret (v := (0 : Int32)) hx hb hr (fun t ht hW9 => ⟨⟨(0 : Int32), w_30, rfl, h, rpt ht hR⟩, hS.F ht⟩) hS.2.2 dX8_ofCompany_46
    · have h := h.2 c_21
      refine lv_iconst (v := (1 : Int32)) hx hb dX8_ofCompany_24 (by decide) ?_
      refine lv_goto (tgt := 29) hx hb dX8_ofCompany_25 (by decide) ?_
      refine lv_iconst (v := (2 : Int32)) hx hb dX8_ofCompany_29 (by decide) ?_
      refine ce_qi (fw := fun u => u) (fy := fun _ => y) (cr_V (n := 2) (As := [.int ((1 : Int32)), .int ((2 : Int32))]) (rest := []) ⟨hx, hb, hml, hown, hts⟩ hK hR (m_X8_refuse hM l0 h) q2027 q2029 qs38 q85 q2030 rfl rfl hd_X8_refuse ⟨Nat.le_of_ble_eq_true rfl, Nat.le_of_ble_eq_true rfl⟩ (rv hK hR l0 (ci := 11) rfl rfl) rfl rfl hl.1 rfl (lv_room (Nat.le_of_ble_eq_true rfl)) dX8_ofCompany_30 ⟨(Nat.le_of_ble_eq_true rfl), (Nat.le_of_ble_eq_true rfl)⟩) hR hS (fun r_30_a w_30_a H locs h hR _ hS => ?_)
      refine lv_if_eq (tgt := 40) hx hb dX8_ofCompany_33 (by decide) (fun c_33_a => ?_) (fun c_33_a => ?_)
      · have h := h.1 c_33_a
        refine lv_aload_n hx hb dX8_ofCompany_40 rfl (lv_at hl 0 rfl) ?_
        refine lv_iload_n hx hb dX8_ofCompany_41 rfl (lv_at hl 1 rfl) ?_
        refine lv_iload_n hx hb dX8_ofCompany_42 rfl (lv_at hl 2 rfl) ?_
        refine ce_qi (fw := fun u => u) (fy := fun _ => y) (cr_V (n := 2) (As := [.int (p1), .int (p2)]) (rest := []) ⟨hx, hb, hml, hown, hts⟩ hK hR (m_X8_ofCompanyNow hM l0 h) q2538 q2540 qs65 q85 q2541 rfl rfl hd_X8_ofCompanyNow ⟨Nat.le_of_ble_eq_true rfl, Nat.le_of_ble_eq_true rfl⟩ (rv hK hR l0 (ci := 11) rfl rfl) rfl rfl hl.1 rfl (lv_room (Nat.le_of_ble_eq_true rfl)) dX8_ofCompany_43 ⟨(Nat.le_of_ble_eq_true rfl), (Nat.le_of_ble_eq_true rfl)⟩) hR hS (fun r_43_a w_43_a H locs h hR _ hS => ?_)
        refine W.widen (k := 4) (n := 25) (Nat.le_of_ble_eq_true rfl) (Nat.le_of_ble_eq_true rfl) ?_
        exact W.iret (v := r_43_a) hx hb hr (fun t ht hW9 => ⟨⟨r_43_a, w_43_a, rfl, h, rpt ht hR⟩, hS.F ht⟩) hS.2.2 dX8_ofCompany_46
      · have h := h.2 c_33_a
        refine lv_iconst (v := (0 : Int32)) hx hb dX8_ofCompany_36 (by decide) ?_
        refine lv_goto (tgt := 46) hx hb dX8_ofCompany_37 (by decide) ?_
        refine W.widen (k := 4) (n := 25) (Nat.le_of_ble_eq_true rfl) (Nat.le_of_ble_eq_true rfl) ?_
        exact W.iret (v := (0 : Int32)) hx hb hr (fun t ht hW9 => ⟨⟨(0 : Int32), w_30_a, rfl, h, rpt ht hR⟩, hS.F ht⟩) hS.2.2 dX8_ofCompany_46
abbrev rm_X8_partner : Room := { frames := 3, cells := 0, slots := 0, locals := 93 }
def sp_X8_partner (κ : Kx) (y : Ly) (post : Int32 → Wd → Prop) (w : Wd) (p1 : Int32) (p2 : Int32) (p3 : Int32) : Prop := sp_X8_isNoCompany κ y (fun r_3 w_3 => ((¬ r_3 = 0) → (sp_X8_start κ y (fun r_42 w_42 => ((r_42 = 0) → (((p3 = 0) → ((vp_in (p1) (mC y)) ∧ ((vp_in (p2) (mS y (((((p1).toNatClampNeg)))))) ∧ (post (bxV w_42 y (5 * (((((p1).toNatClampNeg)))) + ((p2).toNatClampNeg))) w_42)))) ∧ ((¬ (p3 = 0)) → ((vp_in (p1) (mC y)) ∧ ((vp_in (p2) (mT y (((((p1).toNatClampNeg)))))) ∧ (post (bxV w_42 y (50 + (5 * (((((p1).toNatClampNeg)))) + ((p2).toNatClampNeg)))) w_42)))))) ∧ ((¬ (r_42 = 0)) → (post ((0 : Int32)) w_42))) w_3 (1 : Int32) (1 : Int32))) ∧ ((r_3 = 0) → ((vp_in (p1) (mC y)) ∧ (sp_X8_isIn κ y (fun r_30 w_30 => ((¬ r_30 = 0) → (sp_X8_start κ y (fun r_42_a w_42_a => ((r_42_a = 0) → (((p3 = 0) → ((vp_in (p1) (mC y)) ∧ ((vp_in (p2) (mS y (((((p1).toNatClampNeg)))))) ∧ (post (bxV w_42_a y (5 * (((((p1).toNatClampNeg)))) + ((p2).toNatClampNeg))) w_42_a)))) ∧ ((¬ (p3 = 0)) → ((vp_in (p1) (mC y)) ∧ ((vp_in (p2) (mT y (((((p1).toNatClampNeg)))))) ∧ (post (bxV w_42_a y (50 + (5 * (((((p1).toNatClampNeg)))) + ((p2).toNatClampNeg)))) w_42_a)))))) ∧ ((¬ (r_42_a = 0)) → (post ((0 : Int32)) w_42_a))) w_30 (0 : Int32) (1 : Int32))) ∧ ((r_30 = 0) → (sp_X8_start κ y (fun r_42_b w_42_b => ((r_42_b = 0) → (((p3 = 0) → ((vp_in (p1) (mC y)) ∧ ((vp_in (p2) (mS y (((((p1).toNatClampNeg)))))) ∧ (post (bxV w_42_b y (5 * (((((p1).toNatClampNeg)))) + ((p2).toNatClampNeg))) w_42_b)))) ∧ ((¬ (p3 = 0)) → ((vp_in (p1) (mC y)) ∧ ((vp_in (p2) (mT y (((((p1).toNatClampNeg)))))) ∧ (post (bxV w_42_b y (50 + (5 * (((((p1).toNatClampNeg)))) + ((p2).toNatClampNeg)))) w_42_b)))))) ∧ ((¬ (r_42_b = 0)) → (post ((0 : Int32)) w_42_b))) w_30 (1 : Int32) (1 : Int32)))) w_3 p2 (0 : Int32) ((nI (mS y (((((p1).toNatClampNeg)))))) - (1 : Int32)))))) w p1
theorem hd_X8_partner : yX8_partner.cls = RX8 ∧ yX8_partner.cls ≠ "java/lang/invoke/MethodHandle" ∧ yX8_partner.cls ≠ "java/lang/invoke/VarHandle" ∧ (parseMethodDescriptor yX8_partner.desc).map (fun d => d.parameters.length) = some 3 := by decide +kernel
set_option maxHeartbeats 4000000 in
theorem m_X8_partner {l : Launch} {κ : Kx} {y : Ly} {X : XR} {post : Int32 → Wd → Prop} {w : Wd} {p1 : Int32} {p2 : Int32} {p3 : Int32}  (hM : WFm κ y) (l0 : live y 20 0) (h : sp_X8_partner κ y post w p1 p2 p3) : Met l yX8_partner (ws_ yX8_partner cX8_partner 4 (Option.some Jvm.ClassFile.FieldType.int)) rm_X8_partner (va_Pc [.ref (y.2 20 0), .int (p1), .int (p2), .int (p3)] (RC κ w y X)) (va_Qi post (fun w t => Rp κ w y X [] t.heap) (Af κ)) 0 0 (Af κ) := by
  unfold sp_X8_partner at h
  refine Met.ofW (cc := cX8_partner) (maxL := 4) (ret := (Option.some Jvm.ClassFile.FieldType.int)) (by decide) rfl ?_
  intro p e s m args below meth c s₁ B hml hv
  obtain ⟨rfl, hR, hK⟩ := hv
  have hx := B.exec
  have hb := B.bytes
  have hr := B.returns
  have hts := atoms_spec (ws := ws_ yX8_partner cX8_partner 4 (Option.some Jvm.ClassFile.FieldType.int)) B.pre
  have hts : ∀ w ∈ lw_all, w.before _ s = true := fun w h => hts w (List.mem_cons_of_mem _ h)
  have hown : s.vm.findClass RX8 = some m.cls := findClass_of_methodNamed B.named
  have hlocks := B.notSynchronized
  have hS : va_S (Af κ) s.heap s.heap [] := va_S.rf
  have hl := lv_entry ([.ref (y.2 20 0), .int (p1), .int (p2), .int (p3)]) (n := 4) (Nat.le_of_ble_eq_true rfl)
  rw [lg_entry_eq]
  generalize (lg_sl ([.ref (y.2 20 0), .int (p1), .int (p2), .int (p3)]) ++ List.replicate (4 - (lg_sl ([.ref (y.2 20 0), .int (p1), .int (p2), .int (p3)])).length) Slot.unset).toArray = ls at hl ⊢
  have hl : lv_has ls 4 [(0, .ref (y.2 20 0)), (1, .int (p1)), (2, .int (p2)), (3, .int (p3))] := hl
  refine lv_aload_n hx hb dX8_partner_0 rfl (lv_at hl 0 rfl) ?_
  refine lv_aload_n hx hb dX8_partner_1 rfl (lv_at hl 0 rfl) ?_
  refine lv_iload_n hx hb dX8_partner_2 rfl (lv_at hl 1 rfl) ?_
  refine ce_qi (fw := fun u => u) (fy := fun _ => y) (cr_V (n := 1) (As := [.int (p1)]) (rest := [.ref (y.2 20 0)]) ⟨hx, hb, hml, hown, hts⟩ hK hR (m_X8_isNoCompany hM l0 h) q2189 q2191 qs42 q85 q2192 rfl rfl hd_X8_isNoCompany ⟨Nat.le_of_ble_eq_true rfl, Nat.le_of_ble_eq_true rfl⟩ (rv hK hR l0 (ci := 11) rfl rfl) rfl rfl hl.1 rfl (lv_room (Nat.le_of_ble_eq_true rfl)) dX8_partner_3 ⟨(Nat.le_of_ble_eq_true rfl), (Nat.le_of_ble_eq_true rfl)⟩) hR hS (fun r_3 w_3 H locs h hR _ hS => ?_)
  refine lv_if_ne (tgt := 36) hx hb dX8_partner_6 (by decide) (fun c_6 => ?_) (fun c_6 => ?_)
  · have h := h.1 c_6
    refine lv_iconst (v := (1 : Int32)) hx hb dX8_partner_36 (by decide) ?_
    refine lv_goto (tgt := 41) hx hb dX8_partner_37 (by decide) ?_
    refine lv_iconst (v := (1 : Int32)) hx hb dX8_partner_41 (by decide) ?_
    refine ce_qi (fw := fun u => u) (fy := fun _ => y) (cr_V (n := 2) (As := [.int ((1 : Int32)), .int ((1 : Int32))]) (rest := []) ⟨hx, hb, hml, hown, hts⟩ hK hR (m_X8_start hM l0 h) q2023 q2025 qs37 q85 q2026 rfl rfl hd_X8_start ⟨Nat.le_of_ble_eq_true rfl, Nat.le_of_ble_eq_true rfl⟩ (rv hK hR l0 (ci := 11) rfl rfl) rfl rfl hl.1 rfl (lv_room (Nat.le_of_ble_eq_true rfl)) dX8_partner_42 ⟨(Nat.le_of_ble_eq_true rfl), (Nat.le_of_ble_eq_true rfl)⟩) hR hS (fun r_42 w_42 H locs h hR _ hS => ?_)
    refine lv_if_eq (tgt := 50) hx hb dX8_partner_45 (by decide) (fun c_45 => ?_) (fun c_45 => ?_)
    · have h := h.1 c_45
      refine lv_iload_n hx hb dX8_partner_50 rfl (lv_at hl 3 rfl) ?_
      refine lv_if_eq (tgt := 71) hx hb dX8_partner_51 (by decide) (fun c_51 => ?_) (fun c_51 => ?_)
      · have h := h.1 c_51
        refine lv_aload_n hx hb dX8_partner_71 rfl (lv_at hl 0 rfl) ?_
        refine g20_4 hx hb hts hown hK hR l0 q1949 dX8_partner_72 ?_
        refine lv_iload_n hx hb dX8_partner_75 rfl (lv_at hl 1 rfl) ?_
        have o_76 := h.1
        have h := h.2
        refine jr_get (a := y.2 26 ((p1).toNatClampNeg)) ⟨hx, hb, hml, hown, hts⟩ hK hR ⟨fun _ _ _ _ _ => rfl, fun _ _ _ _ _ => rfl⟩ hM.lsC ⟨hM.arC (Nat.lt_of_le_of_lt (Nat.zero_le _) (vp_lt o_76)), (Nat.le_trans hM.mC4 (by decide))⟩ o_76 (hM.elC (vp_lt o_76)) q2101 ⟨Nat.le_of_ble_eq_true rfl, Nat.le_of_ble_eq_true rfl⟩ hl.1 (Nat.le_of_ble_eq_true rfl) dX8_partner_76 ⟨(Nat.le_of_ble_eq_true rfl), (Nat.le_of_ble_eq_true rfl)⟩ ?_
        refine jr_castS (ci := 13) hx hb hown hK hts (hR.role (hM.com (vp_lt o_76))) rfl q2141 dX8_partner_79 ?_
        refine g26_9 hx hb hts hown hK hR (hM.com (vp_lt o_76)) q2159 dX8_partner_82 ?_
        refine lv_iload_n hx hb dX8_partner_85 rfl (lv_at hl 2 rfl) ?_
        have o_86 := h.1
        have h := h.2
        refine jr_get (a := y.2 356 (16 * (((((p1).toNatClampNeg)))) + ((p2).toNatClampNeg))) ⟨hx, hb, hml, hown, hts⟩ hK hR ⟨fun _ _ _ _ _ => rfl, fun _ _ _ _ _ => rfl⟩ (hM.csh (hM.com (vp_lt o_76))) ⟨hM.arS (Nat.lt_of_le_of_lt (Nat.zero_le _) (vp_lt o_86)), (Nat.le_trans (hM.mS5 (hM.com (vp_lt o_76))) (by decide))⟩ o_86 rfl q2101 ⟨Nat.le_of_ble_eq_true rfl, Nat.le_of_ble_eq_true rfl⟩ hl.1 (Nat.le_of_ble_eq_true rfl) dX8_partner_86 ⟨(Nat.le_of_ble_eq_true rfl), (Nat.le_of_ble_eq_true rfl)⟩ ?_
        refine jr_castS (ci := 19) hx hb hown hK hts (bx_at hK hR (hM.bxS (hM.com (vp_lt o_76)) (vp_lt o_86))) rfl q2232 dX8_partner_89 ?_
        refine jr_intv ⟨hx, hb, hml, hown, hts⟩ hK (bx_at hK hR (hM.bxS (hM.com (vp_lt o_76)) (vp_lt o_86))) q2233 ⟨Nat.le_of_ble_eq_true rfl, Nat.le_of_ble_eq_true rfl⟩ hl.1 (Nat.le_of_ble_eq_true rfl) dX8_partner_92 ⟨(Nat.le_of_ble_eq_true rfl), (Nat.le_of_ble_eq_true rfl)⟩ ?_
        refine W.widen (k := 0) (n := 0) (Nat.le_of_ble_eq_true rfl) (Nat.le_of_ble_eq_true rfl) ?_
        exact W.iret (v := bxV w_42 y (5 * (((((p1).toNatClampNeg)))) + ((p2).toNatClampNeg))) hx hb hr (fun t ht hW9 => ⟨⟨bxV w_42 y (5 * (((((p1).toNatClampNeg)))) + ((p2).toNatClampNeg)), w_42, rfl, h, rpt ht hR⟩, hS.F ht⟩) hS.2.2 dX8_partner_95
      · have h := h.2 c_51
        refine lv_aload_n hx hb dX8_partner_54 rfl (lv_at hl 0 rfl) ?_
        refine g20_4 hx hb hts hown hK hR l0 q1949 dX8_partner_55 ?_
        refine lv_iload_n hx hb dX8_partner_58 rfl (lv_at hl 1 rfl) ?_
        have o_59 := h.1
        have h := h.2
        refine jr_get (a := y.2 26 ((p1).toNatClampNeg)) ⟨hx, hb, hml, hown, hts⟩ hK hR ⟨fun _ _ _ _ _ => rfl, fun _ _ _ _ _ => rfl⟩ hM.lsC ⟨hM.arC (Nat.lt_of_le_of_lt (Nat.zero_le _) (vp_lt o_59)), (Nat.le_trans hM.mC4 (by decide))⟩ o_59 (hM.elC (vp_lt o_59)) q2101 ⟨Nat.le_of_ble_eq_true rfl, Nat.le_of_ble_eq_true rfl⟩ hl.1 (Nat.le_of_ble_eq_true rfl) dX8_partner_59 ⟨(Nat.le_of_ble_eq_true rfl), (Nat.le_of_ble_eq_true rfl)⟩ ?_
        refine jr_castS (ci := 13) hx hb hown hK hts (hR.role (hM.com (vp_lt o_59))) rfl q2141 dX8_partner_62 ?_
        refine g26_10 hx hb hts hown hK hR (hM.com (vp_lt o_59)) q2161 dX8_partner_65 ?_
        refine lv_goto (tgt := 85) hx hb dX8_partner_68 (by decide) ?_
        refine lv_iload_n hx hb dX8_partner_85 rfl (lv_at hl 2 rfl) ?_
        have o_86_a := h.1
        have h := h.2
        refine jr_get (a := y.2 358 (16 * (((((p1).toNatClampNeg)))) + ((p2).toNatClampNeg))) ⟨hx, hb, hml, hown, hts⟩ hK hR ⟨fun _ _ _ _ _ => rfl, fun _ _ _ _ _ => rfl⟩ (hM.cto (hM.com (vp_lt o_59))) ⟨hM.arT (Nat.lt_of_le_of_lt (Nat.zero_le _) (vp_lt o_86_a)), (Nat.le_trans (hM.mTS (hM.com (vp_lt o_59))) (Nat.le_trans (hM.mS5 (hM.com (vp_lt o_59))) (by decide)))⟩ o_86_a rfl q2101 ⟨Nat.le_of_ble_eq_true rfl, Nat.le_of_ble_eq_true rfl⟩ hl.1 (Nat.le_of_ble_eq_true rfl) dX8_partner_86 ⟨(Nat.le_of_ble_eq_true rfl), (Nat.le_of_ble_eq_true rfl)⟩ ?_
        refine jr_castS (ci := 19) hx hb hown hK hts (bx_at hK hR (hM.bxT (hM.com (vp_lt o_59)) (vp_lt o_86_a))) rfl q2232 dX8_partner_89 ?_
        refine jr_intv ⟨hx, hb, hml, hown, hts⟩ hK (bx_at hK hR (hM.bxT (hM.com (vp_lt o_59)) (vp_lt o_86_a))) q2233 ⟨Nat.le_of_ble_eq_true rfl, Nat.le_of_ble_eq_true rfl⟩ hl.1 (Nat.le_of_ble_eq_true rfl) dX8_partner_92 ⟨(Nat.le_of_ble_eq_true rfl), (Nat.le_of_ble_eq_true rfl)⟩ ?_
        refine W.widen (k := 0) (n := 0) (Nat.le_of_ble_eq_true rfl) (Nat.le_of_ble_eq_true rfl) ?_
        exact W.iret (v := bxV w_42 y (50 + (5 * (((((p1).toNatClampNeg)))) + ((p2).toNatClampNeg)))) hx hb hr (fun t ht hW9 => ⟨⟨bxV w_42 y (50 + (5 * (((((p1).toNatClampNeg)))) + ((p2).toNatClampNeg))), w_42, rfl, h, rpt ht hR⟩, hS.F ht⟩) hS.2.2 dX8_partner_95
    · have h := h.2 c_45
      refine lv_iconst (v := (0 : Int32)) hx hb dX8_partner_48 (by decide) ?_
      refine W.widen (k := 0) (n := 0) (Nat.le_of_ble_eq_true rfl) (Nat.le_of_ble_eq_true rfl) ?_
      exact W.iret (v := (0 : Int32)) hx hb hr (fun t ht hW9 => ⟨⟨(0 : Int32), w_42, rfl, h, rpt ht hR⟩, hS.F ht⟩) hS.2.2 dX8_partner_49
  · have h := h.2 c_6
    refine lv_iload_n hx hb dX8_partner_9 rfl (lv_at hl 2 rfl) ?_
    refine lv_iconst (v := (0 : Int32)) hx hb dX8_partner_10 (by decide) ?_
    refine lv_aload_n hx hb dX8_partner_11 rfl (lv_at hl 0 rfl) ?_
    refine g20_4 hx hb hts hown hK hR l0 q1949 dX8_partner_12 ?_
    refine lv_iload_n hx hb dX8_partner_15 rfl (lv_at hl 1 rfl) ?_
    have o_16 := h.1
    have h := h.2
    refine jr_get (a := y.2 26 ((p1).toNatClampNeg)) ⟨hx, hb, hml, hown, hts⟩ hK hR ⟨fun _ _ _ _ _ => rfl, fun _ _ _ _ _ => rfl⟩ hM.lsC ⟨hM.arC (Nat.lt_of_le_of_lt (Nat.zero_le _) (vp_lt o_16)), (Nat.le_trans hM.mC4 (by decide))⟩ o_16 (hM.elC (vp_lt o_16)) q2101 ⟨Nat.le_of_ble_eq_true rfl, Nat.le_of_ble_eq_true rfl⟩ hl.1 (Nat.le_of_ble_eq_true rfl) dX8_partner_16 ⟨(Nat.le_of_ble_eq_true rfl), (Nat.le_of_ble_eq_true rfl)⟩ ?_
    refine jr_castS (ci := 13) hx hb hown hK hts (hR.role (hM.com (vp_lt o_16))) rfl q2141 dX8_partner_19 ?_
    refine g26_9 hx hb hts hown hK hR (hM.com (vp_lt o_16)) q2159 dX8_partner_22 ?_
    refine jr_size ⟨hx, hb, hml, hown, hts⟩ hK hR ⟨fun _ _ _ _ _ => rfl, fun _ _ _ _ _ => rfl⟩ (hM.csh (hM.com (vp_lt o_16))) q2031 ⟨Nat.le_of_ble_eq_true rfl, Nat.le_of_ble_eq_true rfl⟩ hl.1 (Nat.le_of_ble_eq_true rfl) dX8_partner_25 ⟨(Nat.le_of_ble_eq_true rfl), (Nat.le_of_ble_eq_true rfl)⟩ ?_
    refine lv_iconst (v := (1 : Int32)) hx hb dX8_partner_28 (by decide) ?_
    refine lv_isub hx hb dX8_partner_29 ?_
    refine ce_qi (fw := fun u => u) (fy := fun _ => y) (cr_S (n := 3) (As := [.int (p2), .int ((0 : Int32)), .int ((nI (mS y (((((p1).toNatClampNeg)))))) - (1 : Int32))]) (rest := [.ref (y.2 20 0)]) ⟨hx, hb, hml, hown, hts⟩ hK hR (m_X8_isIn hM h) q2020 q2021 q85 q2022 rfl rfl hds_X8_isIn ⟨Nat.le_of_ble_eq_true rfl, Nat.le_of_ble_eq_true rfl⟩ rfl rfl hl.1 rfl (lv_room (Nat.le_of_ble_eq_true rfl)) dX8_partner_30 ⟨(Nat.le_of_ble_eq_true rfl), (Nat.le_of_ble_eq_true rfl)⟩) hR hS (fun r_30 w_30 H locs h hR _ hS => ?_)
    refine lv_if_ne (tgt := 40) hx hb dX8_partner_33 (by decide) (fun c_33 => ?_) (fun c_33 => ?_)
    · have h := h.1 c_33
      refine lv_iconst (v := (0 : Int32)) hx hb dX8_partner_40 (by decide) ?_
      refine lv_iconst (v := (1 : Int32)) hx hb dX8_partner_41 (by decide) ?_
      refine ce_qi (fw := fun u => u) (fy := fun _ => y) (cr_V (n := 2) (As := [.int ((0 : Int32)), .int ((1 : Int32))]) (rest := []) ⟨hx, hb, hml, hown, hts⟩ hK hR (m_X8_start hM l0 h) q2023 q2025 qs37 q85 q2026 rfl rfl hd_X8_start ⟨Nat.le_of_ble_eq_true rfl, Nat.le_of_ble_eq_true rfl⟩ (rv hK hR l0 (ci := 11) rfl rfl) rfl rfl hl.1 rfl (lv_room (Nat.le_of_ble_eq_true rfl)) dX8_partner_42 ⟨(Nat.le_of_ble_eq_true rfl), (Nat.le_of_ble_eq_true rfl)⟩) hR hS (fun r_42_a w_42_a H locs h hR _ hS => ?_)
      refine lv_if_eq (tgt := 50) hx hb dX8_partner_45 (by decide) (fun c_45_a => ?_) (fun c_45_a => ?_)
      · have h := h.1 c_45_a
        refine lv_iload_n hx hb dX8_partner_50 rfl (lv_at hl 3 rfl) ?_
        refine lv_if_eq (tgt := 71) hx hb dX8_partner_51 (by decide) (fun c_51_a => ?_) (fun c_51_a => ?_)
        · have h := h.1 c_51_a
          refine lv_aload_n hx hb dX8_partner_71 rfl (lv_at hl 0 rfl) ?_
          refine g20_4 hx hb hts hown hK hR l0 q1949 dX8_partner_72 ?_
          refine lv_iload_n hx hb dX8_partner_75 rfl (lv_at hl 1 rfl) ?_
          have o_76_a := h.1
          have h := h.2
          refine jr_get (a := y.2 26 ((p1).toNatClampNeg)) ⟨hx, hb, hml, hown, hts⟩ hK hR ⟨fun _ _ _ _ _ => rfl, fun _ _ _ _ _ => rfl⟩ hM.lsC ⟨hM.arC (Nat.lt_of_le_of_lt (Nat.zero_le _) (vp_lt o_76_a)), (Nat.le_trans hM.mC4 (by decide))⟩ o_76_a (hM.elC (vp_lt o_76_a)) q2101 ⟨Nat.le_of_ble_eq_true rfl, Nat.le_of_ble_eq_true rfl⟩ hl.1 (Nat.le_of_ble_eq_true rfl) dX8_partner_76 ⟨(Nat.le_of_ble_eq_true rfl), (Nat.le_of_ble_eq_true rfl)⟩ ?_
          refine jr_castS (ci := 13) hx hb hown hK hts (hR.role (hM.com (vp_lt o_76_a))) rfl q2141 dX8_partner_79 ?_
          refine g26_9 hx hb hts hown hK hR (hM.com (vp_lt o_76_a)) q2159 dX8_partner_82 ?_
          refine lv_iload_n hx hb dX8_partner_85 rfl (lv_at hl 2 rfl) ?_
          have o_86_b := h.1
          have h := h.2
          refine jr_get (a := y.2 356 (16 * (((((p1).toNatClampNeg)))) + ((p2).toNatClampNeg))) ⟨hx, hb, hml, hown, hts⟩ hK hR ⟨fun _ _ _ _ _ => rfl, fun _ _ _ _ _ => rfl⟩ (hM.csh (hM.com (vp_lt o_76_a))) ⟨hM.arS (Nat.lt_of_le_of_lt (Nat.zero_le _) (vp_lt o_86_b)), (Nat.le_trans (hM.mS5 (hM.com (vp_lt o_76_a))) (by decide))⟩ o_86_b rfl q2101 ⟨Nat.le_of_ble_eq_true rfl, Nat.le_of_ble_eq_true rfl⟩ hl.1 (Nat.le_of_ble_eq_true rfl) dX8_partner_86 ⟨(Nat.le_of_ble_eq_true rfl), (Nat.le_of_ble_eq_true rfl)⟩ ?_
          refine jr_castS (ci := 19) hx hb hown hK hts (bx_at hK hR (hM.bxS (hM.com (vp_lt o_76_a)) (vp_lt o_86_b))) rfl q2232 dX8_partner_89 ?_
          refine jr_intv ⟨hx, hb, hml, hown, hts⟩ hK (bx_at hK hR (hM.bxS (hM.com (vp_lt o_76_a)) (vp_lt o_86_b))) q2233 ⟨Nat.le_of_ble_eq_true rfl, Nat.le_of_ble_eq_true rfl⟩ hl.1 (Nat.le_of_ble_eq_true rfl) dX8_partner_92 ⟨(Nat.le_of_ble_eq_true rfl), (Nat.le_of_ble_eq_true rfl)⟩ ?_
          refine W.widen (k := 0) (n := 0) (Nat.le_of_ble_eq_true rfl) (Nat.le_of_ble_eq_true rfl) ?_
          exact W.iret (v := bxV w_42_a y (5 * (((((p1).toNatClampNeg)))) + ((p2).toNatClampNeg))) hx hb hr (fun t ht hW9 => ⟨⟨bxV w_42_a y (5 * (((((p1).toNatClampNeg)))) + ((p2).toNatClampNeg)), w_42_a, rfl, h, rpt ht hR⟩, hS.F ht⟩) hS.2.2 dX8_partner_95
        · have h := h.2 c_51_a
          refine lv_aload_n hx hb dX8_partner_54 rfl (lv_at hl 0 rfl) ?_
          refine g20_4 hx hb hts hown hK hR l0 q1949 dX8_partner_55 ?_
          refine lv_iload_n hx hb dX8_partner_58 rfl (lv_at hl 1 rfl) ?_
          have o_59_a := h.1
          have h := h.2
          refine jr_get (a := y.2 26 ((p1).toNatClampNeg)) ⟨hx, hb, hml, hown, hts⟩ hK hR ⟨fun _ _ _ _ _ => rfl, fun _ _ _ _ _ => rfl⟩ hM.lsC ⟨hM.arC (Nat.lt_of_le_of_lt (Nat.zero_le _) (vp_lt o_59_a)), (Nat.le_trans hM.mC4 (by decide))⟩ o_59_a (hM.elC (vp_lt o_59_a)) q2101 ⟨Nat.le_of_ble_eq_true rfl, Nat.le_of_ble_eq_true rfl⟩ hl.1 (Nat.le_of_ble_eq_true rfl) dX8_partner_59 ⟨(Nat.le_of_ble_eq_true rfl), (Nat.le_of_ble_eq_true rfl)⟩ ?_
          refine jr_castS (ci := 13) hx hb hown hK hts (hR.role (hM.com (vp_lt o_59_a))) rfl q2141 dX8_partner_62 ?_
          refine g26_10 hx hb hts hown hK hR (hM.com (vp_lt o_59_a)) q2161 dX8_partner_65 ?_
          refine lv_goto (tgt := 85) hx hb dX8_partner_68 (by decide) ?_
          refine lv_iload_n hx hb dX8_partner_85 rfl (lv_at hl 2 rfl) ?_
          have o_86_c := h.1
          have h := h.2
          refine jr_get (a := y.2 358 (16 * (((((p1).toNatClampNeg)))) + ((p2).toNatClampNeg))) ⟨hx, hb, hml, hown, hts⟩ hK hR ⟨fun _ _ _ _ _ => rfl, fun _ _ _ _ _ => rfl⟩ (hM.cto (hM.com (vp_lt o_59_a))) ⟨hM.arT (Nat.lt_of_le_of_lt (Nat.zero_le _) (vp_lt o_86_c)), (Nat.le_trans (hM.mTS (hM.com (vp_lt o_59_a))) (Nat.le_trans (hM.mS5 (hM.com (vp_lt o_59_a))) (by decide)))⟩ o_86_c rfl q2101 ⟨Nat.le_of_ble_eq_true rfl, Nat.le_of_ble_eq_true rfl⟩ hl.1 (Nat.le_of_ble_eq_true rfl) dX8_partner_86 ⟨(Nat.le_of_ble_eq_true rfl), (Nat.le_of_ble_eq_true rfl)⟩ ?_
          refine jr_castS (ci := 19) hx hb hown hK hts (bx_at hK hR (hM.bxT (hM.com (vp_lt o_59_a)) (vp_lt o_86_c))) rfl q2232 dX8_partner_89 ?_
          refine jr_intv ⟨hx, hb, hml, hown, hts⟩ hK (bx_at hK hR (hM.bxT (hM.com (vp_lt o_59_a)) (vp_lt o_86_c))) q2233 ⟨Nat.le_of_ble_eq_true rfl, Nat.le_of_ble_eq_true rfl⟩ hl.1 (Nat.le_of_ble_eq_true rfl) dX8_partner_92 ⟨(Nat.le_of_ble_eq_true rfl), (Nat.le_of_ble_eq_true rfl)⟩ ?_
          refine W.widen (k := 0) (n := 0) (Nat.le_of_ble_eq_true rfl) (Nat.le_of_ble_eq_true rfl) ?_
          exact W.iret (v := bxV w_42_a y (50 + (5 * (((((p1).toNatClampNeg)))) + ((p2).toNatClampNeg)))) hx hb hr (fun t ht hW9 => ⟨⟨bxV w_42_a y (50 + (5 * (((((p1).toNatClampNeg)))) + ((p2).toNatClampNeg))), w_42_a, rfl, h, rpt ht hR⟩, hS.F ht⟩) hS.2.2 dX8_partner_95
      · have h := h.2 c_45_a
        refine lv_iconst (v := (0 : Int32)) hx hb dX8_partner_48 (by decide) ?_
        refine W.widen (k := 0) (n := 0) (Nat.le_of_ble_eq_true rfl) (Nat.le_of_ble_eq_true rfl) ?_
        exact W.iret (v := (0 : Int32)) hx hb hr (fun t ht hW9 => ⟨⟨(0 : Int32), w_42_a, rfl, h, rpt ht hR⟩, hS.F ht⟩) hS.2.2 dX8_partner_49
    · have h := h.2 c_33
      refine lv_iconst (v := (1 : Int32)) hx hb dX8_partner_36 (by decide) ?_
      refine lv_goto (tgt := 41) hx hb dX8_partner_37 (by decide) ?_
      refine lv_iconst (v := (1 : Int32)) hx hb dX8_partner_41 (by decide) ?_
      refine ce_qi (fw := fun u => u) (fy := fun _ => y) (cr_V (n := 2) (As := [.int ((1 : Int32)), .int ((1 : Int32))]) (rest := []) ⟨hx, hb, hml, hown, hts⟩ hK hR (m_X8_start hM l0 h) q2023 q2025 qs37 q85 q2026 rfl rfl hd_X8_start ⟨Nat.le_of_ble_eq_true rfl, Nat.le_of_ble_eq_true rfl⟩ (rv hK hR l0 (ci := 11) rfl rfl) rfl rfl hl.1 rfl (lv_room (Nat.le_of_ble_eq_true rfl)) dX8_partner_42 ⟨(Nat.le_of_ble_eq_true rfl), (Nat.le_of_ble_eq_true rfl)⟩) hR hS (fun r_42_b w_42_b H locs h hR _ hS => ?_)
      refine lv_if_eq (tgt := 50) hx hb dX8_partner_45 (by decide) (fun c_45_b => ?_) (fun c_45_b => ?_)
      · have h := h.1 c_45_b
        refine lv_iload_n hx hb dX8_partner_50 rfl (lv_at hl 3 rfl) ?_
        refine lv_if_eq (tgt := 71) hx hb dX8_partner_51 (by decide) (fun c_51_b => ?_) (fun c_51_b => ?_)
        · have h := h.1 c_51_b
          refine lv_aload_n hx hb dX8_partner_71 rfl (lv_at hl 0 rfl) ?_
          refine g20_4 hx hb hts hown hK hR l0 q1949 dX8_partner_72 ?_
          refine lv_iload_n hx hb dX8_partner_75 rfl (lv_at hl 1 rfl) ?_
          have o_76_b := h.1
          have h := h.2
          refine jr_get (a := y.2 26 ((p1).toNatClampNeg)) ⟨hx, hb, hml, hown, hts⟩ hK hR ⟨fun _ _ _ _ _ => rfl, fun _ _ _ _ _ => rfl⟩ hM.lsC ⟨hM.arC (Nat.lt_of_le_of_lt (Nat.zero_le _) (vp_lt o_76_b)), (Nat.le_trans hM.mC4 (by decide))⟩ o_76_b (hM.elC (vp_lt o_76_b)) q2101 ⟨Nat.le_of_ble_eq_true rfl, Nat.le_of_ble_eq_true rfl⟩ hl.1 (Nat.le_of_ble_eq_true rfl) dX8_partner_76 ⟨(Nat.le_of_ble_eq_true rfl), (Nat.le_of_ble_eq_true rfl)⟩ ?_
          refine jr_castS (ci := 13) hx hb hown hK hts (hR.role (hM.com (vp_lt o_76_b))) rfl q2141 dX8_partner_79 ?_
          refine g26_9 hx hb hts hown hK hR (hM.com (vp_lt o_76_b)) q2159 dX8_partner_82 ?_
          refine lv_iload_n hx hb dX8_partner_85 rfl (lv_at hl 2 rfl) ?_
          have o_86_d := h.1
          have h := h.2
          refine jr_get (a := y.2 356 (16 * (((((p1).toNatClampNeg)))) + ((p2).toNatClampNeg))) ⟨hx, hb, hml, hown, hts⟩ hK hR ⟨fun _ _ _ _ _ => rfl, fun _ _ _ _ _ => rfl⟩ (hM.csh (hM.com (vp_lt o_76_b))) ⟨hM.arS (Nat.lt_of_le_of_lt (Nat.zero_le _) (vp_lt o_86_d)), (Nat.le_trans (hM.mS5 (hM.com (vp_lt o_76_b))) (by decide))⟩ o_86_d rfl q2101 ⟨Nat.le_of_ble_eq_true rfl, Nat.le_of_ble_eq_true rfl⟩ hl.1 (Nat.le_of_ble_eq_true rfl) dX8_partner_86 ⟨(Nat.le_of_ble_eq_true rfl), (Nat.le_of_ble_eq_true rfl)⟩ ?_
          refine jr_castS (ci := 19) hx hb hown hK hts (bx_at hK hR (hM.bxS (hM.com (vp_lt o_76_b)) (vp_lt o_86_d))) rfl q2232 dX8_partner_89 ?_
          refine jr_intv ⟨hx, hb, hml, hown, hts⟩ hK (bx_at hK hR (hM.bxS (hM.com (vp_lt o_76_b)) (vp_lt o_86_d))) q2233 ⟨Nat.le_of_ble_eq_true rfl, Nat.le_of_ble_eq_true rfl⟩ hl.1 (Nat.le_of_ble_eq_true rfl) dX8_partner_92 ⟨(Nat.le_of_ble_eq_true rfl), (Nat.le_of_ble_eq_true rfl)⟩ ?_
          refine W.widen (k := 0) (n := 0) (Nat.le_of_ble_eq_true rfl) (Nat.le_of_ble_eq_true rfl) ?_
          exact W.iret (v := bxV w_42_b y (5 * (((((p1).toNatClampNeg)))) + ((p2).toNatClampNeg))) hx hb hr (fun t ht hW9 => ⟨⟨bxV w_42_b y (5 * (((((p1).toNatClampNeg)))) + ((p2).toNatClampNeg)), w_42_b, rfl, h, rpt ht hR⟩, hS.F ht⟩) hS.2.2 dX8_partner_95
        · have h := h.2 c_51_b
          refine lv_aload_n hx hb dX8_partner_54 rfl (lv_at hl 0 rfl) ?_
          refine g20_4 hx hb hts hown hK hR l0 q1949 dX8_partner_55 ?_
          refine lv_iload_n hx hb dX8_partner_58 rfl (lv_at hl 1 rfl) ?_
          have o_59_b := h.1
          have h := h.2
          refine jr_get (a := y.2 26 ((p1).toNatClampNeg)) ⟨hx, hb, hml, hown, hts⟩ hK hR ⟨fun _ _ _ _ _ => rfl, fun _ _ _ _ _ => rfl⟩ hM.lsC ⟨hM.arC (Nat.lt_of_le_of_lt (Nat.zero_le _) (vp_lt o_59_b)), (Nat.le_trans hM.mC4 (by decide))⟩ o_59_b (hM.elC (vp_lt o_59_b)) q2101 ⟨Nat.le_of_ble_eq_true rfl, Nat.le_of_ble_eq_true rfl⟩ hl.1 (Nat.le_of_ble_eq_true rfl) dX8_partner_59 ⟨(Nat.le_of_ble_eq_true rfl), (Nat.le_of_ble_eq_true rfl)⟩ ?_
          refine jr_castS (ci := 13) hx hb hown hK hts (hR.role (hM.com (vp_lt o_59_b))) rfl q2141 dX8_partner_62 ?_
          refine g26_10 hx hb hts hown hK hR (hM.com (vp_lt o_59_b)) q2161 dX8_partner_65 ?_
          refine lv_goto (tgt := 85) hx hb dX8_partner_68 (by decide) ?_
          refine lv_iload_n hx hb dX8_partner_85 rfl (lv_at hl 2 rfl) ?_
          have o_86_e := h.1
          have h := h.2
          refine jr_get (a := y.2 358 (16 * (((((p1).toNatClampNeg)))) + ((p2).toNatClampNeg))) ⟨hx, hb, hml, hown, hts⟩ hK hR ⟨fun _ _ _ _ _ => rfl, fun _ _ _ _ _ => rfl⟩ (hM.cto (hM.com (vp_lt o_59_b))) ⟨hM.arT (Nat.lt_of_le_of_lt (Nat.zero_le _) (vp_lt o_86_e)), (Nat.le_trans (hM.mTS (hM.com (vp_lt o_59_b))) (Nat.le_trans (hM.mS5 (hM.com (vp_lt o_59_b))) (by decide)))⟩ o_86_e rfl q2101 ⟨Nat.le_of_ble_eq_true rfl, Nat.le_of_ble_eq_true rfl⟩ hl.1 (Nat.le_of_ble_eq_true rfl) dX8_partner_86 ⟨(Nat.le_of_ble_eq_true rfl), (Nat.le_of_ble_eq_true rfl)⟩ ?_
          refine jr_castS (ci := 19) hx hb hown hK hts (bx_at hK hR (hM.bxT (hM.com (vp_lt o_59_b)) (vp_lt o_86_e))) rfl q2232 dX8_partner_89 ?_
          refine jr_intv ⟨hx, hb, hml, hown, hts⟩ hK (bx_at hK hR (hM.bxT (hM.com (vp_lt o_59_b)) (vp_lt o_86_e))) q2233 ⟨Nat.le_of_ble_eq_true rfl, Nat.le_of_ble_eq_true rfl⟩ hl.1 (Nat.le_of_ble_eq_true rfl) dX8_partner_92 ⟨(Nat.le_of_ble_eq_true rfl), (Nat.le_of_ble_eq_true rfl)⟩ ?_
          refine W.widen (k := 0) (n := 0) (Nat.le_of_ble_eq_true rfl) (Nat.le_of_ble_eq_true rfl) ?_
          exact W.iret (v := bxV w_42_b y (50 + (5 * (((((p1).toNatClampNeg)))) + ((p2).toNatClampNeg)))) hx hb hr (fun t ht hW9 => ⟨⟨bxV w_42_b y (50 + (5 * (((((p1).toNatClampNeg)))) + ((p2).toNatClampNeg))), w_42_b, rfl, h, rpt ht hR⟩, hS.F ht⟩) hS.2.2 dX8_partner_95
      · have h := h.2 c_45_b
        refine lv_iconst (v := (0 : Int32)) hx hb dX8_partner_48 (by decide) ?_
        refine W.widen (k := 0) (n := 0) (Nat.le_of_ble_eq_true rfl) (Nat.le_of_ble_eq_true rfl) ?_
        exact W.iret (v := (0 : Int32)) hx hb hr (fun t ht hW9 => ⟨⟨(0 : Int32), w_42_b, rfl, h, rpt ht hR⟩, hS.F ht⟩) hS.2.2 dX8_partner_49
