/-! printed by wip gen: X1_join, X1_recall, X1_clashes, X1_oldStones, X1_isLet, X1_dueByLaw, X1_told_3, X1_told_4, X1_lotsOf, X1_told_6, X1_villageOf, X1_survey, X1_war, X1_edict -/
set_option maxRecDepth 100000
abbrev rm_X1_join : Room := { frames := 8, cells := 5, slots := 30, locals := 171 }
def sp_X1_join (κ : Kx) (y : Ly) (post : Int32 → Wd → Ly → Prop) (px : String → Wd → Prop) (w : Wd) (p1 : Int32) (p2 : Int32) : Prop := sp_X1_companyOf κ y (fun i_2 w_2 => sp_X1_isIn κ y (fun r_10 w_10 => sp_X1_check κ y (fun w_15 => ∀ j34 : Wd → Int32 → Prop, (j34 = fun (w34 : Wd) (s0_34 : Int32) => sp_X1_state κ y (fun w_36 => (nP y i_2 < 5) ∧ (∀ n_48 : Nat, n_48 = 5 * i_2 + nP y i_2 → ∀ w_48 : Wd, w_48 = wMkP w_36 n_48 p2 → ∀ (y_48 : Ly) (q9a : Nat), y_48 = yMkP y n_48 q9a → ∀ y_51 : Ly, YAdd y_48 48 i_2 (y_48.2 10 n_48) y_51 → sp_X3_pay κ y_51 (fun r_66 w_66 => post ((nI (nP y_51 i_2)) - (1 : Int32)) w_66 y_51) w_48 (((11 + i_2))) ((4 : Int32) * p2))) px w34 s0_34) → ((((5 : Int32) ≤ nI (nP y i_2)) → (j34 w_15 (0 : Int32))) ∧ ((¬ ((5 : Int32) ≤ nI (nP y i_2))) → (j34 w_15 (1 : Int32))))) px w_10 r_10) w_2 p2 (1 : Int32) (99 : Int32)) px w p1
theorem hd_X1_join : yX1_join.cls = RX1 ∧ yX1_join.cls ≠ "java/lang/invoke/MethodHandle" ∧ yX1_join.cls ≠ "java/lang/invoke/VarHandle" ∧ (parseMethodDescriptor yX1_join.desc).map (fun d => d.parameters.length) = some 2 := by decide +kernel
set_option maxHeartbeats 4000000 in
theorem m_X1_join {l : Launch} {κ : Kx} {y : Ly} {X : XR} {post : Int32 → Wd → Ly → Prop} {px : String → Wd → Prop} {w : Wd} {p1 : Int32} {p2 : Int32}  (hfl : l.stackTraces = false) (hW : WFc κ y) (l0 : live y 0 0) (h : sp_X1_join κ y post px w p1 p2) : vx_Met l yX1_join (ws_ yX1_join cX1_join 4 (Option.some Jvm.ClassFile.FieldType.int)) rm_X1_join (va_Pc [.ref (y.2 0 0), .int (p1), .int (p2)] (RC κ w y X)) (va_Qi (fun r (u : Wd × Ly) => post r u.1 u.2) (fun (u : Wd × Ly) t => Rp κ u.1 u.2 X [] t.heap ∧ WFc κ u.2) (Af κ)) (XCk κ y X px) 5 30 (Af κ) := by
  unfold sp_X1_join at h
  refine vx_ofW (cc := cX1_join) (maxL := 4) (ret := (Option.some Jvm.ClassFile.FieldType.int)) (by decide) rfl ?_
  intro p e s m args below meth c s₁ B hml ht hv
  obtain ⟨rfl, hR, hK⟩ := hv
  have hx := B.exec
  have hb := B.bytes
  have hr := B.returns
  have hts := atoms_spec (ws := ws_ yX1_join cX1_join 4 (Option.some Jvm.ClassFile.FieldType.int)) B.pre
  have hts : ∀ w ∈ lw_all, w.before _ s = true := fun w h => hts w (List.mem_cons_of_mem _ h)
  have hown : s.vm.findClass RX1 = some m.cls := findClass_of_methodNamed B.named
  have hlocks := B.notSynchronized
  have hR0 := hR
  have hLe : LeS y y := LeS.rf
  have hS : va_S (Af κ) s.heap s.heap [] := va_S.rf
  have hl := lv_entry ([.ref (y.2 0 0), .int (p1), .int (p2)]) (n := 4) (Nat.le_of_ble_eq_true rfl)
  rw [lg_entry_eq]
  generalize (lg_sl ([.ref (y.2 0 0), .int (p1), .int (p2)]) ++ List.replicate (4 - (lg_sl ([.ref (y.2 0 0), .int (p1), .int (p2)])).length) Slot.unset).toArray = ls at hl ⊢
  have hl : lv_has ls 4 [(0, .ref (y.2 0 0)), (1, .int (p1)), (2, .int (p2))] := hl
  refine lv_aload_n hx hb dX1_join_0 rfl (lv_at hl 0 rfl) ?_
  refine lv_iload_n hx hb dX1_join_1 rfl (lv_at hl 1 rfl) ?_
  refine cex_qr (fw := fun u : Nat × Wd => u.2) (fy := fun _ => y) (P := (fun (u : Nat × Wd) ra => ra = y.2 9 u.1 ∧ live y 9 u.1)) (crx_V (n := 1) (As := [.int (p1)]) (rest := []) ⟨hx, hb, hml, hown, hts⟩ hK hR (m_X1_companyOf hfl hW l0 h) q1176 q1178 qs22 q74 q1179 rfl rfl hd_X1_companyOf ⟨Nat.le_of_ble_eq_true rfl, Nat.le_of_ble_eq_true rfl⟩ (rv hK hR l0 (ci := 0) rfl rfl) rfl rfl hl.1 rfl (lv_room (Nat.le_of_ble_eq_true rfl)) dX1_join_2 ⟨(Nat.le_of_ble_eq_true rfl), (Nat.le_of_ble_eq_true rfl)⟩) hR hS ht hlocks (Nat.le_of_ble_eq_true rfl) (Nat.le_of_ble_eq_true rfl) (fun u9 a_2 H locs h p9 hR _ hS => ?_)
  obtain ⟨i_2, w_2⟩ := u9
  obtain ⟨e9, lv_2⟩ := p9
  dsimp only at e9 lv_2
  subst e9
  refine lv_astore_n (lv' := [(3, .ref (y.2 9 i_2)), (0, .ref (y.2 0 0)), (1, .int (p1)), (2, .int (p2))]) hx hb dX1_join_5 rfl hl (by decide) rfl (fun ls hl => ?_)
  refine lv_iload_n hx hb dX1_join_6 rfl (lv_at hl 3 rfl) ?_
  refine lv_iconst (v := (1 : Int32)) hx hb dX1_join_7 (by decide) ?_
  refine lv_bipush (v := (99 : Int32)) hx hb dX1_join_8 (by decide) ?_
  refine ce_qi (fw := fun u => u) (fy := fun _ => y) (cr_S (n := 3) (As := [.int (p2), .int ((1 : Int32)), .int ((99 : Int32))]) (rest := []) ⟨hx, hb, hml, hown, hts⟩ hK hR (m_X1_isIn hW h) q790 q791 q74 q792 rfl rfl hds_X1_isIn ⟨Nat.le_of_ble_eq_true rfl, Nat.le_of_ble_eq_true rfl⟩ rfl rfl hl.1 rfl (lv_room (Nat.le_of_ble_eq_true rfl)) dX1_join_10 ⟨(Nat.le_of_ble_eq_true rfl), (Nat.le_of_ble_eq_true rfl)⟩) hR hS (fun r_10 w_10 H locs h hR _ hS => ?_)
  refine jr_ldcS (own := "Publicanry") (k := 234) (tx := "shares") (n := 1234) hx hb hown hK (List.mem_of_getElem? (i := 7) rfl) dX1_join_13 ?_
  refine cex_qv (fw := fun u => u) (fy := fun _ => y) (crx_S (n := 2) (As := [.int (r_10), .ref (kA κ 1234)]) (rest := []) ⟨hx, hb, hml, hown, hts⟩ hK hR (m_X1_check hfl hW h) q794 q795 q74 q796 rfl rfl hds_X1_check ⟨Nat.le_of_ble_eq_true rfl, Nat.le_of_ble_eq_true rfl⟩ rfl rfl hl.1 rfl (lv_room (Nat.le_of_ble_eq_true rfl)) dX1_join_15 ⟨(Nat.le_of_ble_eq_true rfl), (Nat.le_of_ble_eq_true rfl)⟩) hR hS ht hlocks (Nat.le_of_ble_eq_true rfl) (Nat.le_of_ble_eq_true rfl) (fun w_15 H locs h hR _ hS => ?_)
  refine lv_aload_n hx hb dX1_join_18 rfl (lv_at hl 0 rfl) ?_
  refine g9_2 hx hb hts hown hK hR lv_2 q1126 dX1_join_19 ?_
  refine jr_size ⟨hx, hb, hml, hown, hts⟩ hK hR ⟨fun _ _ _ _ _ => rfl, fun _ _ _ _ _ => rfl⟩ (hW.cpa lv_2) q536 ⟨Nat.le_of_ble_eq_true rfl, Nat.le_of_ble_eq_true rfl⟩ hl.1 (Nat.le_of_ble_eq_true rfl) dX1_join_22 ⟨(Nat.le_of_ble_eq_true rfl), (Nat.le_of_ble_eq_true rfl)⟩ ?_
  refine lv_iconst (v := (5 : Int32)) hx hb dX1_join_25 (by decide) ?_
  refine jn_elim h (fun j34 ej34 h => ?_)
  have Jj34 : ∀ (w34 : Wd) (s0_34 : Int32) (H : Heap) (locs : List Loc) (ls : Array Slot), j34 w34 s0_34 → Rp κ w34 y X [] H → va_S (Af κ) s.heap H locs → lv_has ls 4 [(3, .ref (y.2 9 i_2)), (0, .ref (y.2 0 0)), (2, .int (p2))] → W p l e (headSpec (ws_ yX1_join cX1_join 4 (Option.some Jvm.ClassFile.FieldType.int)) rm_X1_join).room s m ([.ref (y.2 0 0), .int (p1), .int (p2)] : List Value).toArray below meth c H locs (2) (12) (vx_MQ below (va_Qi (fun r (u : Wd × Ly) => post r u.1 u.2) (fun (u : Wd × Ly) t => Rp κ u.1 u.2 X [] t.heap ∧ WFc κ u.2) (Af κ)) (XCk κ y X px) ([.ref (y.2 0 0), .int (p1), .int (p2)] : List Value).toArray s 5 30 (Af κ)) (F0 m 34 ls [.int (s0_34)]) := by
    clear h
    intro w34 s0_34 H locs ls h hR hS hl
    subst ej34
    refine jr_ldcS (own := "Publicanry") (k := 151) (tx := "full") (n := 1151) hx hb hown hK (List.mem_of_getElem? (i := 1) rfl) dX1_join_34 ?_
    refine cex_qv (fw := fun u => u) (fy := fun _ => y) (crx_S (n := 2) (As := [.int (s0_34), .ref (kA κ 1151)]) (rest := []) ⟨hx, hb, hml, hown, hts⟩ hK hR (m_X1_state hfl hW h) q813 q814 q74 q815 rfl rfl hds_X1_state ⟨Nat.le_of_ble_eq_true rfl, Nat.le_of_ble_eq_true rfl⟩ rfl rfl hl.1 rfl (lv_room (Nat.le_of_ble_eq_true rfl)) dX1_join_36 ⟨(Nat.le_of_ble_eq_true rfl), (Nat.le_of_ble_eq_true rfl)⟩) hR hS ht hlocks (Nat.le_of_ble_eq_true rfl) (Nat.le_of_ble_eq_true rfl) (fun w_36 H locs h hR _ hS => ?_)
    refine lv_aload_n hx hb dX1_join_39 rfl (lv_at hl 0 rfl) ?_
    refine g9_2 hx hb hts hown hK hR lv_2 q1126 dX1_join_40 ?_
    refine xa_new (C := RX14) (T := TX14) (N := 2) (ci := 8) (fs := [.int 0, .int 0]) hx hb hts in_X14 tyX14 tyX14_ok hown q740 q1181 q108 hK.1 hS rfl (fun j hj => by rcases (show j = 0 ∨ j = 1 by omega) with rfl | rfl <;> rfl) (Nat.le_of_ble_eq_true rfl) (Nat.le_of_ble_eq_true rfl) dX1_join_43 (fun q_43 H1 hq h1 hz ho hS => ?_)
    have hR := hR.newL hq h1 (by omega) ho
    clear hq h1 hz ho
    generalize H1 = H at hR hS ⊢
    have hR : Rp κ w_36 y X [(q_43, .inr (8, [.int 0, .int 0]))] H := hR
    refine lv_dup hx hb dX1_join_46 rfl ?_
    refine lv_iload_n hx hb dX1_join_47 rfl (lv_at hl 2 rfl) ?_
    have o_48 := h.1
    have h := h.2
    obtain ⟨n_48, en_n_48⟩ : ∃ z : Nat, z = 5 * i_2 + nP y i_2 := ⟨_, rfl⟩
    have h := h n_48 en_n_48
    refine va_callv (va_runI (As := [.int (p2)]) (rest := [.ref (q_43), .ref (y.2 48 i_2)]) ⟨hx, hb, hml, hown, hts⟩ (m_X14_init (X := xl X [(q_43, .inr (8, [.int 0, .int 0]))]) (Or.inr ⟨0, rfl⟩)) (cwI 1 hts (lw_meth q1184) rfl rfl rfl (hts _ q108) (hts _ q1182) (hts _ q1183) rfl (by decide +kernel) ⟨Nat.le_of_ble_eq_true rfl, Nat.le_of_ble_eq_true rfl⟩) ⟨RC.blind, RC.pre hR hK⟩ rfl rfl hl.1 rfl (lv_room (Nat.le_of_ble_eq_true rfl)) dX1_join_48 ⟨(Nat.le_of_ble_eq_true rfl), (Nat.le_of_ble_eq_true rfl)⟩) hS (fun _ _ h => h) (fun _ h => h) (fun u_48 t9 H locs ht9 _ hp9 hB9 hz9 _ hS => ?_)
    rw [ht9] at hB9
    have hR := hR.wroteL (t := 0) rfl hB9
    clear hB9 hz9 hp9
    have hR := hR.mkP (n := n_48)
    obtain ⟨w_48, ew_48⟩ : ∃ z, z = wMkP w_36 n_48 p2 := ⟨_, rfl⟩
    obtain ⟨y_48, ey_48⟩ : ∃ z, z = yMkP y n_48 q_43  := ⟨_, rfl⟩
    have h := h w_48 ew_48 y_48 _ ey_48
    have hR : Rp κ w_48 y_48 X [] H := by
      rw [ew_48, ey_48]
      exact hR
    have lv_y_48 : live y_48 10 n_48 := ⟨by rw [ey_48]; exact yMkP_f0, by decide⟩
    have hq_y_48 : q_43 = y_48.2 10 n_48 := by rw [ey_48]; exact yMkP_a0.symm
    have hW_y_48 : WFc κ y_48 := by rw [ey_48]; exact WFc.mkP hW en_n_48 o_48
    rw [hq_y_48]
    have lv_48 := lv_2
    have lv_48_a := l0
    have lv_48_b := (hW.cpa lv_2)
    have lv_48_c := lv_2
    have ea_48 : y_48.2 9 i_2 = y.2 9 i_2 := by rw [ey_48]; exact yMkP_2 (by omega)
    have lw_48 : live y_48 9 i_2 := ⟨by rw [ey_48, yMkP_1 (by omega)]; exact lv_48.1, lv_48.2⟩
    have ea_48_a : y_48.2 0 0 = y.2 0 0 := by rw [ey_48]; exact yMkP_2 (by omega)
    have lw_48_a : live y_48 0 0 := ⟨by rw [ey_48, yMkP_1 (by omega)]; exact lv_48_a.1, lv_48_a.2⟩
    have ea_48_b : y_48.2 48 i_2 = y.2 48 i_2 := by rw [ey_48]; exact yMkP_2 (by omega)
    have lw_48_c : live y_48 9 i_2 := ⟨by rw [ey_48, yMkP_1 (by omega)]; exact lv_48_c.1, lv_48_c.2⟩
    have lw_48_b : live y_48 48 i_2 := ⟨by rw [ey_48, yMkP_1 (by omega)]; exact lv_48_b.1, lv_48_b.2⟩
    have hl : lv_has ls 4 [(3, .ref (y_48.2 9 i_2)), (0, .ref (y_48.2 0 0)), (2, .int (p2))] := by
      rw [ea_48, ea_48_a]
      exact hl
    rw [← ea_48_b]
    have cn_48 : n_48 = 5 * i_2 + nP y_48 i_2 := by rw [en_n_48, ey_48, show nP (yMkP y n_48 q_43 ) i_2 = nP y i_2 from yMkP_1 (by omega)]
    have hm_y_48 : nP y_48 i_2 < 5 := by rw [ey_48, show nP (yMkP y n_48 q_43 ) i_2 = nP y i_2 from yMkP_1 (by omega)]; exact o_48
    have lv_51 := lw_48
    have lv_51_a := lw_48_a
    refine jr_add ⟨hx, hb, hml, hown, hts⟩ hK hR hS ⟨fun _ _ _ _ _ => rfl, fun _ _ _ _ _ => rfl⟩ (by decide) (by decide) (by decide) lw_48_b (Nat.lt_of_le_of_lt (hW_y_48.nP5 lw_48_c) (by decide)) (fun hp9 => hW_y_48.arP hp9) (fun X1 L1 H1 hR1 => ⟨8, _, _, rfl, List.mem_of_getElem? (i := 24) rfl, hR1.role (live_off lv_y_48 (by omega) (by omega))⟩) q1002 ⟨Nat.le_of_ble_eq_true rfl, Nat.le_of_ble_eq_true rfl⟩ hl.1 (Nat.le_of_ble_eq_true rfl) dX1_join_51 ⟨(Nat.le_of_ble_eq_true rfl), (Nat.le_of_ble_eq_true rfl)⟩ (fun H locs y_51 hY_y_51 hR hS => ?_)
    have h := h y_51 hY_y_51
    have hW_y_51 : WFc κ y_51 := WFc.addP hW_y_48 hY_y_51 cn_48 hm_y_48 lv_y_48
    have ea_51 : y_51.2 9 i_2 = y_48.2 9 i_2 := hY_y_51.2.2 9 i_2 (by omega) (by omega)
    have lw_51 : live y_51 9 i_2 := ⟨by rw [hY_y_51.2.1 9 i_2 (by omega) (by omega) (by omega)]; exact lv_51.1, lv_51.2⟩
    have ea_51_a : y_51.2 0 0 = y_48.2 0 0 := hY_y_51.2.2 0 0 (by omega) (by omega)
    have lw_51_a : live y_51 0 0 := ⟨by rw [hY_y_51.2.1 0 0 (by omega) (by omega) (by omega)]; exact lv_51_a.1, lv_51_a.2⟩
    have hl : lv_has ls 4 [(3, .ref (y_51.2 9 i_2)), (0, .ref (y_51.2 0 0)), (2, .int (p2))] := by
      rw [ea_51, ea_51_a]
      exact hl
    refine lv_pop hx hb dX1_join_54 rfl ?_
    refine lv_aload_n hx hb dX1_join_55 rfl (lv_at hl 1 rfl) ?_
    refine g0_4 hx hb hts hown hK hR lw_51_a q251 dX1_join_56 ?_
    refine lv_aload_n hx hb dX1_join_59 rfl (lv_at hl 0 rfl) ?_
    refine g9_1 hx hb hts hown hK hR lw_51 q1124 dX1_join_60 ?_
    refine lv_iconst (v := (4 : Int32)) hx hb dX1_join_63 (by decide) ?_
    refine lv_iload_n hx hb dX1_join_64 rfl (lv_at hl 2 rfl) ?_
    refine lv_imul hx hb dX1_join_65 ?_
    refine ce_qi (fw := fun u => u) (fy := fun _ => y_51) (cr_O (C := RX3) (owner := "Publicanry$Chest") (Z := yX2_pay) (n := 2) (As := [.ref (y_51.2 1 ((11 + i_2))), .int ((4 : Int32) * p2)]) (rest := []) ⟨hx, hb, hml, hown, hts⟩ hK hR (m_X3_pay hW_y_51 hW_y_51.wor (hW_y_51.cch lw_51) h) q306 q309 q307 q310 q311 q79 q312 q320 rfl rfl (by decide +kernel) ⟨Nat.le_of_ble_eq_true rfl, Nat.le_of_ble_eq_true rfl⟩ (rv_ch0 hK hR hW_y_51.wor) rfl rfl hl.1 rfl (lv_room (Nat.le_of_ble_eq_true rfl)) dX1_join_66 ⟨(Nat.le_of_ble_eq_true rfl), (Nat.le_of_ble_eq_true rfl)⟩) hR hS (fun r_66 w_66 H locs h hR _ hS => ?_)
    refine lv_pop hx hb dX1_join_69 rfl ?_
    refine lv_aload_n hx hb dX1_join_70 rfl (lv_at hl 0 rfl) ?_
    refine g9_2 hx hb hts hown hK hR lw_51 q1126 dX1_join_71 ?_
    refine jr_size ⟨hx, hb, hml, hown, hts⟩ hK hR ⟨fun _ _ _ _ _ => rfl, fun _ _ _ _ _ => rfl⟩ (hW_y_51.cpa lw_51) q536 ⟨Nat.le_of_ble_eq_true rfl, Nat.le_of_ble_eq_true rfl⟩ hl.1 (Nat.le_of_ble_eq_true rfl) dX1_join_74 ⟨(Nat.le_of_ble_eq_true rfl), (Nat.le_of_ble_eq_true rfl)⟩ ?_
    refine lv_iconst (v := (1 : Int32)) hx hb dX1_join_77 (by decide) ?_
    refine lv_isub hx hb dX1_join_78 ?_
    refine W.widen (k := 5) (n := 30) (Nat.le_of_ble_eq_true rfl) (Nat.le_of_ble_eq_true rfl) ?_
    refine vx_ret ?_; exact W.iret (v := (nI (nP y_51 i_2)) - (1 : Int32)) hx hb hr (fun t ht hW9 => ⟨⟨(nI (nP y_51 i_2)) - (1 : Int32), (w_66, y_51), rfl, h, ⟨rpt ht hR, hW_y_51⟩⟩, hS.F ht⟩) hS.2.2 dX1_join_79
  refine lv_icmp_ge (tgt := 33) hx hb dX1_join_26 (by decide) (fun c_26 => ?_) (fun c_26 => ?_)
  · have h := h.1 c_26
    refine lv_iconst (v := (0 : Int32)) hx hb dX1_join_33 (by decide) ?_
    refine W.widen (k := 2) (n := 12) (Nat.le_of_ble_eq_true rfl) (Nat.le_of_ble_eq_true rfl) ?_
    exact Jj34 w_15 (0 : Int32) _ _ _ h hR hS (lv_sub hl [0, 1, 3] rfl)
  · have h := h.2 c_26
    refine lv_iconst (v := (1 : Int32)) hx hb dX1_join_29 (by decide) ?_
    refine lv_goto (tgt := 34) hx hb dX1_join_30 (by decide) ?_
    refine W.widen (k := 2) (n := 12) (Nat.le_of_ble_eq_true rfl) (Nat.le_of_ble_eq_true rfl) ?_
    exact Jj34 w_15 (1 : Int32) _ _ _ h hR hS (lv_sub hl [0, 1, 3] rfl)
abbrev rm_X1_recall : Room := { frames := 3, cells := 1, slots := 4, locals := 68 }
def st_X1_recall_71 (κ : Kx) (y : Ly) (post : Int32 → Wd → Prop) (ex : Wd → Prop) (rec : Wd → Nat → Int32 → Prop) (v1 : Int32) (w : Wd) (c3 : Nat) (z3 : Int32) : Prop := ((¬ (¬ c3 = nC y)) → (ex w )) ∧ (((¬ c3 = nC y)) → (∀ w_94 : Wd, w_94 = sv w 9 c3 8 ((0 : Int32)) → rec w_94 (c3 + 1) (nI c3)))
def sp_X1_recall_71 (κ : Kx) (y : Ly) (post : Int32 → Wd → Prop) (ex : Wd → Prop) (v1 : Int32) : Nat → Wd → Nat → Int32 → Prop
  | 0 => fun _ _ _ => False
  | n + 1 => fun w c3 z3 => st_X1_recall_71 κ y post ex (sp_X1_recall_71 κ y post ex v1 n) v1 w c3 z3
set_option maxHeartbeats 4000000 in
theorem lp_X1_recall_71 {p : Program} {l : Launch} {e : Env} {s : State} {m : MethodId} {args : Array Value} {below : List Frame} {meth : Method} {c : Code} {κ : Kx} {y : Ly} {X : XR} {post : Int32 → Wd → Prop} {q3 : Nat} {v1 : Int32} (hx : p.tables.exec = Jvm.exec) (hb : c.code = cX1_recall) (hr : meth.sig.returnType = (Option.some Jvm.ClassFile.FieldType.int)) (hml : c.maxLocals = 5) (hown : s.vm.findClass RX1 = some m.cls) (hts : ∀ w ∈ lw_all, w.before args s = true) (hlocks : meth.locks = false) (hK : KK κ s) (hW : WFc κ y)  {C1 S1 : Nat} (hC : C1 ≤ 1) (hSl : S1 ≤ 4) {ex : Wd → Prop}
    (kx : ∀ (w : Wd)  (H : Heap) (locs : List Loc) (ls : Array Slot) (cells slots : Nat) , ex w  → Rp κ w y X [] H → va_S (Af κ) s.heap H locs → lv_has ls 5 [(1, .int (v1)), (2, .int ((0 : Int32)))] → cells ≤ C1 → slots ≤ S1 → W p l e (headSpec (ws_ yX1_recall cX1_recall 5 (Option.some Jvm.ClassFile.FieldType.int)) rm_X1_recall).room s m args below meth c H locs cells slots (MQ below (va_Qi post (fun w t => Rp κ w y X [] t.heap) (Af κ)) args s 1 4 (Af κ)) (F0 m 100 ls [])) :
    ∀ (f : Nat) (w : Wd) (c3 : Nat) (z3 : Int32) (H : Heap) (locs : List Loc) (ls : Array Slot) (cells slots : Nat)  (hc3 : c3 ≤ nC y), sp_X1_recall_71 κ y post ex v1 f w c3 z3 → Rp κ w y X [(q3, itC y 42 0 c3 z3)] H → va_S (Af κ) s.heap H locs → lv_has ls 5 [(1, .int (v1)), (2, .int ((0 : Int32))), (3, .ref (q3))] → cells + f * 0 ≤ C1 → slots + f * 0 ≤ S1 → W p l e (headSpec (ws_ yX1_recall cX1_recall 5 (Option.some Jvm.ClassFile.FieldType.int)) rm_X1_recall).room s m args below meth c H locs cells slots (MQ below (va_Qi post (fun w t => Rp κ w y X [] t.heap) (Af κ)) args s 1 4 (Af κ)) (F0 m 71 ls []) := by
  intro f
  induction f with
  | zero =>
    intro w c3 z3 H locs ls cells slots hc3 h
    exact False.elim h
  | succ f ih =>
    intro w c3 z3 H locs ls cells slots hc3 h hR hS hl hc hs
    have h : st_X1_recall_71 κ y post ex (sp_X1_recall_71 κ y post ex v1 f) v1 w c3 z3 := h
    unfold st_X1_recall_71 at h
    refine lv_aload_n hx hb dX1_recall_71 rfl (lv_at hl 2 rfl) ?_
    refine jr_hasNext (t := 0) ⟨hx, hb, hml, hown, hts⟩ hK hR rfl ⟨fun _ _ _ _ _ => rfl, fun _ _ _ _ _ => rfl⟩ hW.lsC (by omega) (Nat.le_trans hW.nC4 (by decide)) q349 ⟨Nat.le_of_ble_eq_true rfl, Nat.le_of_ble_eq_true rfl⟩ hl.1 (Nat.le_of_ble_eq_true rfl) dX1_recall_72 ⟨(Nat.le_trans (show cells + 0 ≤ C1 from by omega) hC), (Nat.le_trans (show slots + 0 ≤ S1 from by omega) hSl)⟩ ?_
    refine lv_if_eq (tgt := 100) hx hb dX1_recall_77 (by decide) (fun c_77 => ?_) (fun c_77 => ?_)
    · replace c_77 : ¬ (¬ c3 = nC y) := bi_0.mp c_77
      have h := h.1 c_77
      have hR := hR.sub (L' := []) [] rfl rfl
      exact kx w  _ _ _ _ _ h hR hS (lv_sub hl [0, 1] rfl) (by omega) (by omega)
    · replace c_77 : (¬ c3 = nC y) := bi_n0.mp c_77
      have h := h.2 c_77
      refine lv_aload_n hx hb dX1_recall_80 rfl (lv_at hl 2 rfl) ?_
      have hn_81 : c3 < nC y := by omega
      refine jr_next (t := 0) (a := y.2 9 c3) ⟨hx, hb, hml, hown, hts⟩ hK hR hS rfl ⟨fun _ _ _ _ _ => rfl, fun _ _ _ _ _ => rfl⟩ hW.lsC ⟨hW.arC (Nat.lt_of_le_of_lt (Nat.zero_le _) hn_81), (Nat.le_trans hW.nC4 (by decide))⟩ hn_81 (hW.elC hn_81) q359 ⟨Nat.le_of_ble_eq_true rfl, Nat.le_of_ble_eq_true rfl⟩ hl.1 (Nat.le_of_ble_eq_true rfl) dX1_recall_81 ⟨(Nat.le_trans (show cells + 0 ≤ C1 from by omega) hC), (Nat.le_trans (show slots + 0 ≤ S1 from by omega) hSl)⟩ (fun H locs hR hS => ?_)
      have hR : Rp κ w y X [(q3, itC y 42 0 (c3 + 1) (nI c3))] H := hR
      refine jr_castS (ci := 7) hx hb hown hK hts (hR.role (hW.com hn_81)) rfl q371 dX1_recall_86 ?_
      refine lv_astore (lv' := [(4, .ref (y.2 9 c3)), (1, .int (v1)), (2, .int ((0 : Int32))), (3, .ref (q3))]) hx hb dX1_recall_89 hl (by decide) rfl (fun ls hl => ?_)
      refine lv_aload hx hb dX1_recall_91 (lv_at hl 0 rfl) ?_
      refine lv_iconst (v := (0 : Int32)) hx hb dX1_recall_93 (by decide) ?_
      refine p9_8 hx hb hts hown hK hR hS (hW.com hn_81) q1137 dX1_recall_94 (fun H locs w_94 ew_94 hR hS => ?_)
      have h := h w_94 ew_94
      refine lv_goto (tgt := 71) hx hb dX1_recall_97 (by decide) ?_
      exact ih w_94 (c3 + 1) (nI c3) _ _ _ _ _ (by omega) h hR hS (lv_sub hl [1, 2, 3] rfl) (by omega) (by omega)
def st_X1_recall_71x1 (κ : Kx) (y : Ly) (post : Int32 → Wd → Prop) (ex : Wd → Prop) (rec : Wd → Nat → Int32 → Prop) (v1 : Int32) (w : Wd) (c3 : Nat) (z3 : Int32) : Prop := ((¬ (¬ c3 = nC y)) → (ex w )) ∧ (((¬ c3 = nC y)) → (∀ w_94_a : Wd, w_94_a = sv w 9 c3 8 ((0 : Int32)) → rec w_94_a (c3 + 1) (nI c3)))
def sp_X1_recall_71x1 (κ : Kx) (y : Ly) (post : Int32 → Wd → Prop) (ex : Wd → Prop) (v1 : Int32) : Nat → Wd → Nat → Int32 → Prop
  | 0 => fun _ _ _ => False
  | n + 1 => fun w c3 z3 => st_X1_recall_71x1 κ y post ex (sp_X1_recall_71x1 κ y post ex v1 n) v1 w c3 z3
set_option maxHeartbeats 4000000 in
theorem lp_X1_recall_71x1 {p : Program} {l : Launch} {e : Env} {s : State} {m : MethodId} {args : Array Value} {below : List Frame} {meth : Method} {c : Code} {κ : Kx} {y : Ly} {X : XR} {post : Int32 → Wd → Prop} {q3 : Nat} {v1 : Int32} (hx : p.tables.exec = Jvm.exec) (hb : c.code = cX1_recall) (hr : meth.sig.returnType = (Option.some Jvm.ClassFile.FieldType.int)) (hml : c.maxLocals = 5) (hown : s.vm.findClass RX1 = some m.cls) (hts : ∀ w ∈ lw_all, w.before args s = true) (hlocks : meth.locks = false) (hK : KK κ s) (hW : WFc κ y)  {C1 S1 : Nat} (hC : C1 ≤ 1) (hSl : S1 ≤ 4) {ex : Wd → Prop}
    (kx : ∀ (w : Wd)  (H : Heap) (locs : List Loc) (ls : Array Slot) (cells slots : Nat) , ex w  → Rp κ w y X [] H → va_S (Af κ) s.heap H locs → lv_has ls 5 [(1, .int (v1)), (2, .int ((1 : Int32)))] → cells ≤ C1 → slots ≤ S1 → W p l e (headSpec (ws_ yX1_recall cX1_recall 5 (Option.some Jvm.ClassFile.FieldType.int)) rm_X1_recall).room s m args below meth c H locs cells slots (MQ below (va_Qi post (fun w t => Rp κ w y X [] t.heap) (Af κ)) args s 1 4 (Af κ)) (F0 m 100 ls [])) :
    ∀ (f : Nat) (w : Wd) (c3 : Nat) (z3 : Int32) (H : Heap) (locs : List Loc) (ls : Array Slot) (cells slots : Nat)  (hc3 : c3 ≤ nC y), sp_X1_recall_71x1 κ y post ex v1 f w c3 z3 → Rp κ w y X [(q3, itC y 42 0 c3 z3)] H → va_S (Af κ) s.heap H locs → lv_has ls 5 [(1, .int (v1)), (2, .int ((1 : Int32))), (3, .ref (q3))] → cells + f * 0 ≤ C1 → slots + f * 0 ≤ S1 → W p l e (headSpec (ws_ yX1_recall cX1_recall 5 (Option.some Jvm.ClassFile.FieldType.int)) rm_X1_recall).room s m args below meth c H locs cells slots (MQ below (va_Qi post (fun w t => Rp κ w y X [] t.heap) (Af κ)) args s 1 4 (Af κ)) (F0 m 71 ls []) := by
  intro f
  induction f with
  | zero =>
    intro w c3 z3 H locs ls cells slots hc3 h
    exact False.elim h
  | succ f ih =>
    intro w c3 z3 H locs ls cells slots hc3 h hR hS hl hc hs
    have h : st_X1_recall_71x1 κ y post ex (sp_X1_recall_71x1 κ y post ex v1 f) v1 w c3 z3 := h
    unfold st_X1_recall_71x1 at h
    refine lv_aload_n hx hb dX1_recall_71 rfl (lv_at hl 2 rfl) ?_
    refine jr_hasNext (t := 0) ⟨hx, hb, hml, hown, hts⟩ hK hR rfl ⟨fun _ _ _ _ _ => rfl, fun _ _ _ _ _ => rfl⟩ hW.lsC (by omega) (Nat.le_trans hW.nC4 (by decide)) q349 ⟨Nat.le_of_ble_eq_true rfl, Nat.le_of_ble_eq_true rfl⟩ hl.1 (Nat.le_of_ble_eq_true rfl) dX1_recall_72 ⟨(Nat.le_trans (show cells + 0 ≤ C1 from by omega) hC), (Nat.le_trans (show slots + 0 ≤ S1 from by omega) hSl)⟩ ?_
    refine lv_if_eq (tgt := 100) hx hb dX1_recall_77 (by decide) (fun c_77_a => ?_) (fun c_77_a => ?_)
    · replace c_77_a : ¬ (¬ c3 = nC y) := bi_0.mp c_77_a
      have h := h.1 c_77_a
      have hR := hR.sub (L' := []) [] rfl rfl
      exact kx w  _ _ _ _ _ h hR hS (lv_sub hl [0, 1] rfl) (by omega) (by omega)
    · replace c_77_a : (¬ c3 = nC y) := bi_n0.mp c_77_a
      have h := h.2 c_77_a
      refine lv_aload_n hx hb dX1_recall_80 rfl (lv_at hl 2 rfl) ?_
      have hn_81_a : c3 < nC y := by omega
      refine jr_next (t := 0) (a := y.2 9 c3) ⟨hx, hb, hml, hown, hts⟩ hK hR hS rfl ⟨fun _ _ _ _ _ => rfl, fun _ _ _ _ _ => rfl⟩ hW.lsC ⟨hW.arC (Nat.lt_of_le_of_lt (Nat.zero_le _) hn_81_a), (Nat.le_trans hW.nC4 (by decide))⟩ hn_81_a (hW.elC hn_81_a) q359 ⟨Nat.le_of_ble_eq_true rfl, Nat.le_of_ble_eq_true rfl⟩ hl.1 (Nat.le_of_ble_eq_true rfl) dX1_recall_81 ⟨(Nat.le_trans (show cells + 0 ≤ C1 from by omega) hC), (Nat.le_trans (show slots + 0 ≤ S1 from by omega) hSl)⟩ (fun H locs hR hS => ?_)
      have hR : Rp κ w y X [(q3, itC y 42 0 (c3 + 1) (nI c3))] H := hR
      refine jr_castS (ci := 7) hx hb hown hK hts (hR.role (hW.com hn_81_a)) rfl q371 dX1_recall_86 ?_
      refine lv_astore (lv' := [(4, .ref (y.2 9 c3)), (1, .int (v1)), (2, .int ((1 : Int32))), (3, .ref (q3))]) hx hb dX1_recall_89 hl (by decide) rfl (fun ls hl => ?_)
      refine lv_aload hx hb dX1_recall_91 (lv_at hl 0 rfl) ?_
      refine lv_iconst (v := (0 : Int32)) hx hb dX1_recall_93 (by decide) ?_
      refine p9_8 hx hb hts hown hK hR hS (hW.com hn_81_a) q1137 dX1_recall_94 (fun H locs w_94_a ew_94_a hR hS => ?_)
      have h := h w_94_a ew_94_a
      refine lv_goto (tgt := 71) hx hb dX1_recall_97 (by decide) ?_
      exact ih w_94_a (c3 + 1) (nI c3) _ _ _ _ _ (by omega) h hR hS (lv_sub hl [1, 2, 3] rfl) (by omega) (by omega)
def sp_X1_recall (κ : Kx) (y : Ly) (post : Int32 → Wd → Prop) (w : Wd)  : Prop := sp_X2_coins κ y (fun r_7 w_7 => ((gv w_7 2 0 1 < (2 : Int32)) → (sp_X2_pay κ y (fun r_51 w_51 => ∀ w_60 : Wd, w_60 = sv w_51 2 0 1 ((0 : Int32)) → sp_X1_recall_71 κ y post (fun w_71  => post ((0 : Int32)) w_71) r_7 5 w_60 0 (-1)) w_7 2 0 r_7)) ∧ ((¬ (gv w_7 2 0 1 < (2 : Int32))) → (sp_X2_pay κ y (fun r_51_a w_51_a => ∀ w_60_a : Wd, w_60_a = sv w_51_a 2 0 1 ((0 : Int32)) → sp_X1_recall_71x1 κ y post (fun w_71_a  => post (r_7) w_71_a) r_7 5 w_60_a 0 (-1)) w_7 2 1 r_7))) w 2
theorem hd_X1_recall : yX1_recall.cls = RX1 ∧ yX1_recall.cls ≠ "java/lang/invoke/MethodHandle" ∧ yX1_recall.cls ≠ "java/lang/invoke/VarHandle" ∧ (parseMethodDescriptor yX1_recall.desc).map (fun d => d.parameters.length) = some 0 := by decide +kernel
set_option maxHeartbeats 4000000 in
theorem m_X1_recall {l : Launch} {κ : Kx} {y : Ly} {X : XR} {post : Int32 → Wd → Prop} {w : Wd}   (hW : WFc κ y) (l0 : live y 0 0) (h : sp_X1_recall κ y post w ) : Met l yX1_recall (ws_ yX1_recall cX1_recall 5 (Option.some Jvm.ClassFile.FieldType.int)) rm_X1_recall (va_Pc [.ref (y.2 0 0)] (RC κ w y X)) (va_Qi post (fun w t => Rp κ w y X [] t.heap) (Af κ)) 1 4 (Af κ) := by
  unfold sp_X1_recall at h
  refine Met.ofW (cc := cX1_recall) (maxL := 5) (ret := (Option.some Jvm.ClassFile.FieldType.int)) (by decide) rfl ?_
  intro p e s m args below meth c s₁ B hml hv
  obtain ⟨rfl, hR, hK⟩ := hv
  have hx := B.exec
  have hb := B.bytes
  have hr := B.returns
  have hts := atoms_spec (ws := ws_ yX1_recall cX1_recall 5 (Option.some Jvm.ClassFile.FieldType.int)) B.pre
  have hts : ∀ w ∈ lw_all, w.before _ s = true := fun w h => hts w (List.mem_cons_of_mem _ h)
  have hown : s.vm.findClass RX1 = some m.cls := findClass_of_methodNamed B.named
  have hlocks := B.notSynchronized
  have hS : va_S (Af κ) s.heap s.heap [] := va_S.rf
  have hl := lv_entry ([.ref (y.2 0 0)]) (n := 5) (Nat.le_of_ble_eq_true rfl)
  rw [lg_entry_eq]
  generalize (lg_sl ([.ref (y.2 0 0)]) ++ List.replicate (5 - (lg_sl ([.ref (y.2 0 0)])).length) Slot.unset).toArray = ls at hl ⊢
  have hl : lv_has ls 5 [(0, .ref (y.2 0 0))] := hl
  refine lv_aload_n hx hb dX1_recall_0 rfl (lv_at hl 0 rfl) ?_
  refine g0_6 hx hb hts hown hK hR l0 q253 dX1_recall_1 ?_
  refine g2_0 hx hb hts hown hK hR hW.gov q187 dX1_recall_4 ?_
  refine ce_qi (fw := fun u => u) (fy := fun _ => y) (cr_V (n := 0) (As := []) (rest := []) ⟨hx, hb, hml, hown, hts⟩ hK hR (m_X2_coins hW hW.goc h) q300 q301 q302 q78 q305 rfl rfl hd_X2_coins ⟨Nat.le_of_ble_eq_true rfl, Nat.le_of_ble_eq_true rfl⟩ (rv_ch1 hK hR hW.goc (by omega)) rfl rfl hl.1 rfl (lv_room (Nat.le_of_ble_eq_true rfl)) dX1_recall_7 ⟨(Nat.le_of_ble_eq_true rfl), (Nat.le_of_ble_eq_true rfl)⟩) hR hS (fun r_7 w_7 H locs h hR _ hS => ?_)
  refine lv_istore_n (lv' := [(1, .int (r_7)), (0, .ref (y.2 0 0))]) hx hb dX1_recall_10 rfl hl (by decide) rfl (fun ls hl => ?_)
  refine lv_aload_n hx hb dX1_recall_11 rfl (lv_at hl 1 rfl) ?_
  refine g0_6 hx hb hts hown hK hR l0 q253 dX1_recall_12 ?_
  refine g2_1 hx hb hts hown hK hR hW.gov q189 dX1_recall_15 ?_
  refine lv_iconst (v := (2 : Int32)) hx hb dX1_recall_18 (by decide) ?_
  refine lv_icmp_lt (tgt := 26) hx hb dX1_recall_19 (by decide) (fun c_19 => ?_) (fun c_19 => ?_)
  · have h := h.1 c_19
    refine lv_iconst (v := (0 : Int32)) hx hb dX1_recall_26 (by decide) ?_
    refine lv_istore_n (lv' := [(2, .int ((0 : Int32))), (1, .int (r_7)), (0, .ref (y.2 0 0))]) hx hb dX1_recall_27 rfl hl (by decide) rfl (fun ls hl => ?_)
    refine lv_aload_n hx hb dX1_recall_28 rfl (lv_at hl 2 rfl) ?_
    refine g0_6 hx hb hts hown hK hR l0 q253 dX1_recall_29 ?_
    refine g2_0 hx hb hts hown hK hR hW.gov q187 dX1_recall_32 ?_
    refine lv_iload_n hx hb dX1_recall_35 rfl (lv_at hl 0 rfl) ?_
    refine lv_if_eq (tgt := 46) hx hb dX1_recall_36 (by decide) (fun c_36 => ?_) (fun c_36 => absurd (by decide) c_36)
    refine lv_aload_n hx hb dX1_recall_46 rfl (lv_at hl 2 rfl) ?_
    refine g0_4 hx hb hts hown hK hR l0 q251 dX1_recall_47 ?_
    refine lv_iload_n hx hb dX1_recall_50 rfl (lv_at hl 1 rfl) ?_
    refine ce_qi (fw := fun u => u) (fy := fun _ => y) (cr_V (n := 2) (As := [.ref (y.2 1 0), .int (r_7)]) (rest := []) ⟨hx, hb, hml, hown, hts⟩ hK hR (m_X2_pay hW hW.goc hW.wor (by first | omega | assumption) h) q306 q307 q308 q78 q320 rfl rfl hd_X2_pay ⟨Nat.le_of_ble_eq_true rfl, Nat.le_of_ble_eq_true rfl⟩ (rv_ch1 hK hR hW.goc (by omega)) rfl rfl hl.1 rfl (lv_room (Nat.le_of_ble_eq_true rfl)) dX1_recall_51 ⟨(Nat.le_of_ble_eq_true rfl), (Nat.le_of_ble_eq_true rfl)⟩) hR hS (fun r_51 w_51 H locs h hR _ hS => ?_)
    refine lv_pop hx hb dX1_recall_54 rfl ?_
    refine lv_aload_n hx hb dX1_recall_55 rfl (lv_at hl 2 rfl) ?_
    refine g0_6 hx hb hts hown hK hR l0 q253 dX1_recall_56 ?_
    refine lv_iconst (v := (0 : Int32)) hx hb dX1_recall_59 (by decide) ?_
    refine p2_1 hx hb hts hown hK hR hS hW.gov q189 dX1_recall_60 (fun H locs w_60 ew_60 hR hS => ?_)
    have h := h w_60 ew_60
    refine lv_aload_n hx hb dX1_recall_63 rfl (lv_at hl 2 rfl) ?_
    refine g0_1 hx hb hts hown hK hR l0 q248 dX1_recall_64 ?_
    refine jr_iter ⟨hx, hb, hml, hown, hts⟩ hK hR hS ⟨fun _ _ _ _ _ => rfl, fun _ _ _ _ _ => rfl⟩ hW.lsC q325 ⟨Nat.le_of_ble_eq_true rfl, Nat.le_of_ble_eq_true rfl⟩ hl.1 (Nat.le_of_ble_eq_true rfl) dX1_recall_67 ⟨(Nat.le_of_ble_eq_true rfl), (Nat.le_of_ble_eq_true rfl)⟩ (fun q_67 H locs hR hS => ?_)
    have hR : Rp κ w_60 y X [(q_67, itC y 42 0 0 (-1))] H := hR
    refine lv_astore_n (lv' := [(3, .ref (q_67)), (2, .int ((0 : Int32))), (1, .int (r_7)), (0, .ref (y.2 0 0))]) hx hb dX1_recall_70 rfl hl (by decide) rfl (fun ls hl => ?_)
    refine lp_X1_recall_71 (C1 := 1) (S1 := 4) hx hb hr hml hown hts hlocks hK hW  (Nat.le_of_ble_eq_true rfl) (Nat.le_of_ble_eq_true rfl) (fun w_71  H locs ls cells9 slots9 h hR hS hl hc9 hs9 => ?_) 5 w_60 0 (-1) _ _ _ _ _ (by omega) h hR hS (lv_sub hl [2, 1, 0] rfl) (by omega) (by omega)
    refine W.widen (k := 1) (n := 4) hc9 hs9 ?_
    refine lv_iload_n hx hb dX1_recall_100 rfl (lv_at hl 1 rfl) ?_
    refine lv_if_eq (tgt := 108) hx hb dX1_recall_101 (by decide) (fun c_101 => ?_) (fun c_101 => absurd (by decide) c_101)
    refine lv_iconst (v := (0 : Int32)) hx hb dX1_recall_108 (by decide) ?_
    refine W.widen (k := 1) (n := 4) (Nat.le_of_ble_eq_true rfl) (Nat.le_of_ble_eq_true rfl) ?_
    exact W.iret (v := (0 : Int32)) hx hb hr (fun t ht hW9 => ⟨⟨(0 : Int32), w_71, rfl, h, rpt ht hR⟩, hS.F ht⟩) hS.2.2 dX1_recall_109
  · have h := h.2 c_19
    refine lv_iconst (v := (1 : Int32)) hx hb dX1_recall_22 (by decide) ?_
    refine lv_goto (tgt := 27) hx hb dX1_recall_23 (by decide) ?_
    refine lv_istore_n (lv' := [(2, .int ((1 : Int32))), (1, .int (r_7)), (0, .ref (y.2 0 0))]) hx hb dX1_recall_27 rfl hl (by decide) rfl (fun ls hl => ?_)
    refine lv_aload_n hx hb dX1_recall_28 rfl (lv_at hl 2 rfl) ?_
    refine g0_6 hx hb hts hown hK hR l0 q253 dX1_recall_29 ?_
    refine g2_0 hx hb hts hown hK hR hW.gov q187 dX1_recall_32 ?_
    refine lv_iload_n hx hb dX1_recall_35 rfl (lv_at hl 0 rfl) ?_
    refine lv_if_eq (tgt := 46) hx hb dX1_recall_36 (by decide) (fun c_36_a => absurd c_36_a (by decide)) (fun c_36_a => ?_)
    refine lv_aload_n hx hb dX1_recall_39 rfl (lv_at hl 2 rfl) ?_
    refine g0_5 hx hb hts hown hK hR l0 q252 dX1_recall_40 ?_
    refine lv_goto (tgt := 50) hx hb dX1_recall_43 (by decide) ?_
    refine lv_iload_n hx hb dX1_recall_50 rfl (lv_at hl 1 rfl) ?_
    refine ce_qi (fw := fun u => u) (fy := fun _ => y) (cr_V (n := 2) (As := [.ref (y.2 1 1), .int (r_7)]) (rest := []) ⟨hx, hb, hml, hown, hts⟩ hK hR (m_X2_pay hW hW.goc hW.tre (by first | omega | assumption) h) q306 q307 q308 q78 q320 rfl rfl hd_X2_pay ⟨Nat.le_of_ble_eq_true rfl, Nat.le_of_ble_eq_true rfl⟩ (rv_ch1 hK hR hW.goc (by omega)) rfl rfl hl.1 rfl (lv_room (Nat.le_of_ble_eq_true rfl)) dX1_recall_51 ⟨(Nat.le_of_ble_eq_true rfl), (Nat.le_of_ble_eq_true rfl)⟩) hR hS (fun r_51_a w_51_a H locs h hR _ hS => ?_)
    refine lv_pop hx hb dX1_recall_54 rfl ?_
    refine lv_aload_n hx hb dX1_recall_55 rfl (lv_at hl 2 rfl) ?_
    refine g0_6 hx hb hts hown hK hR l0 q253 dX1_recall_56 ?_
    refine lv_iconst (v := (0 : Int32)) hx hb dX1_recall_59 (by decide) ?_
    refine p2_1 hx hb hts hown hK hR hS hW.gov q189 dX1_recall_60 (fun H locs w_60_a ew_60_a hR hS => ?_)
    have h := h w_60_a ew_60_a
    refine lv_aload_n hx hb dX1_recall_63 rfl (lv_at hl 2 rfl) ?_
    refine g0_1 hx hb hts hown hK hR l0 q248 dX1_recall_64 ?_
    refine jr_iter ⟨hx, hb, hml, hown, hts⟩ hK hR hS ⟨fun _ _ _ _ _ => rfl, fun _ _ _ _ _ => rfl⟩ hW.lsC q325 ⟨Nat.le_of_ble_eq_true rfl, Nat.le_of_ble_eq_true rfl⟩ hl.1 (Nat.le_of_ble_eq_true rfl) dX1_recall_67 ⟨(Nat.le_of_ble_eq_true rfl), (Nat.le_of_ble_eq_true rfl)⟩ (fun q_67_a H locs hR hS => ?_)
    have hR : Rp κ w_60_a y X [(q_67_a, itC y 42 0 0 (-1))] H := hR
    refine lv_astore_n (lv' := [(3, .ref (q_67_a)), (2, .int ((1 : Int32))), (1, .int (r_7)), (0, .ref (y.2 0 0))]) hx hb dX1_recall_70 rfl hl (by decide) rfl (fun ls hl => ?_)
    refine lp_X1_recall_71x1 (C1 := 1) (S1 := 4) hx hb hr hml hown hts hlocks hK hW  (Nat.le_of_ble_eq_true rfl) (Nat.le_of_ble_eq_true rfl) (fun w_71_a  H locs ls cells9 slots9 h hR hS hl hc9 hs9 => ?_) 5 w_60_a 0 (-1) _ _ _ _ _ (by omega) h hR hS (lv_sub hl [2, 1, 0] rfl) (by omega) (by omega)
    refine W.widen (k := 1) (n := 4) hc9 hs9 ?_
    refine lv_iload_n hx hb dX1_recall_100 rfl (lv_at hl 1 rfl) ?_
    refine lv_if_eq (tgt := 108) hx hb dX1_recall_101 (by decide) (fun c_101_a => absurd c_101_a (by decide)) (fun c_101_a => ?_)
    refine lv_iload_n hx hb dX1_recall_104 rfl (lv_at hl 0 rfl) ?_
    refine lv_goto (tgt := 109) hx hb dX1_recall_105 (by decide) ?_
    refine W.widen (k := 1) (n := 4) (Nat.le_of_ble_eq_true rfl) (Nat.le_of_ble_eq_true rfl) ?_
    exact W.iret (v := r_7) hx hb hr (fun t ht hW9 => ⟨⟨r_7, w_71_a, rfl, h, rpt ht hR⟩, hS.F ht⟩) hS.2.2 dX1_recall_109
abbrev rm_X1_clashes : Room := { frames := 3, cells := 1, slots := 4, locals := 68 }
def st_X1_clashes_8 (κ : Kx) (y : Ly) (post : Int32 → Wd → Prop) (ex : Wd → Prop) (rec : Wd → Nat → Int32 → Prop) (i1 : Nat) (w : Wd) (c2 : Nat) (z2 : Int32) : Prop := ((¬ (¬ c2 = nL y)) → (ex w )) ∧ (((¬ c2 = nL y)) → (((c2 = i1) → (rec w (c2 + 1) (nI c2))) ∧ ((¬ (c2 = i1)) → (sp_X15_clashes κ y (fun r_34 w_34 => ((r_34 = 0) → (rec w_34 (c2 + 1) (nI c2))) ∧ ((¬ (r_34 = 0)) → (post ((1 : Int32)) w_34))) w c2 i1))))
def sp_X1_clashes_8 (κ : Kx) (y : Ly) (post : Int32 → Wd → Prop) (ex : Wd → Prop) (i1 : Nat) : Nat → Wd → Nat → Int32 → Prop
  | 0 => fun _ _ _ => False
  | n + 1 => fun w c2 z2 => st_X1_clashes_8 κ y post ex (sp_X1_clashes_8 κ y post ex i1 n) i1 w c2 z2
set_option maxHeartbeats 4000000 in
theorem lp_X1_clashes_8 {p : Program} {l : Launch} {e : Env} {s : State} {m : MethodId} {args : Array Value} {below : List Frame} {meth : Method} {c : Code} {κ : Kx} {y : Ly} {X : XR} {post : Int32 → Wd → Prop} {q2 : Nat} {i1 : Nat} (hx : p.tables.exec = Jvm.exec) (hb : c.code = cX1_clashes) (hr : meth.sig.returnType = (Option.some Jvm.ClassFile.FieldType.boolean)) (hml : c.maxLocals = 4) (hown : s.vm.findClass RX1 = some m.cls) (hts : ∀ w ∈ lw_all, w.before args s = true) (hlocks : meth.locks = false) (hK : KK κ s) (hW : WFc κ y) (l1 : live y 11 i1) {C1 S1 : Nat} (hC : C1 ≤ 1) (hSl : S1 ≤ 4) {ex : Wd → Prop}
    (kx : ∀ (w : Wd)  (H : Heap) (locs : List Loc) (ls : Array Slot) (cells slots : Nat) , ex w  → Rp κ w y X [] H → va_S (Af κ) s.heap H locs → lv_has ls 4 [] → cells ≤ C1 → slots ≤ S1 → W p l e (headSpec (ws_ yX1_clashes cX1_clashes 4 (Option.some Jvm.ClassFile.FieldType.boolean)) rm_X1_clashes).room s m args below meth c H locs cells slots (MQ below (va_Qi post (fun w t => Rp κ w y X [] t.heap) (Af κ)) args s 1 4 (Af κ)) (F0 m 45 ls [])) :
    ∀ (f : Nat) (w : Wd) (c2 : Nat) (z2 : Int32) (H : Heap) (locs : List Loc) (ls : Array Slot) (cells slots : Nat)  (hc2 : c2 ≤ nL y), sp_X1_clashes_8 κ y post ex i1 f w c2 z2 → Rp κ w y X [(q2, itC y 44 0 c2 z2)] H → va_S (Af κ) s.heap H locs → lv_has ls 4 [(1, .ref (y.2 11 i1)), (2, .ref (q2))] → cells + f * 0 ≤ C1 → slots + f * 0 ≤ S1 → W p l e (headSpec (ws_ yX1_clashes cX1_clashes 4 (Option.some Jvm.ClassFile.FieldType.boolean)) rm_X1_clashes).room s m args below meth c H locs cells slots (MQ below (va_Qi post (fun w t => Rp κ w y X [] t.heap) (Af κ)) args s 1 4 (Af κ)) (F0 m 8 ls []) := by
  intro f
  induction f with
  | zero =>
    intro w c2 z2 H locs ls cells slots hc2 h
    exact False.elim h
  | succ f ih =>
    intro w c2 z2 H locs ls cells slots hc2 h hR hS hl hc hs
    have h : st_X1_clashes_8 κ y post ex (sp_X1_clashes_8 κ y post ex i1 f) i1 w c2 z2 := h
    unfold st_X1_clashes_8 at h
    refine lv_aload_n hx hb dX1_clashes_8 rfl (lv_at hl 1 rfl) ?_
    refine jr_hasNext (t := 0) ⟨hx, hb, hml, hown, hts⟩ hK hR rfl ⟨fun _ _ _ _ _ => rfl, fun _ _ _ _ _ => rfl⟩ hW.lsL (by omega) (Nat.le_trans hW.nL8 (by decide)) q349 ⟨Nat.le_of_ble_eq_true rfl, Nat.le_of_ble_eq_true rfl⟩ hl.1 (Nat.le_of_ble_eq_true rfl) dX1_clashes_9 ⟨(Nat.le_trans (show cells + 0 ≤ C1 from by omega) hC), (Nat.le_trans (show slots + 0 ≤ S1 from by omega) hSl)⟩ ?_
    refine lv_if_eq (tgt := 45) hx hb dX1_clashes_14 (by decide) (fun c_14 => ?_) (fun c_14 => ?_)
    · replace c_14 : ¬ (¬ c2 = nL y) := bi_0.mp c_14
      have h := h.1 c_14
      have hR := hR.sub (L' := []) [] rfl rfl
      exact kx w  _ _ _ _ _ h hR hS (lv_sub hl [] rfl) (by omega) (by omega)
    · replace c_14 : (¬ c2 = nL y) := bi_n0.mp c_14
      have h := h.2 c_14
      refine lv_aload_n hx hb dX1_clashes_17 rfl (lv_at hl 1 rfl) ?_
      have hn_18 : c2 < nL y := by omega
      refine jr_next (t := 0) (a := y.2 11 c2) ⟨hx, hb, hml, hown, hts⟩ hK hR hS rfl ⟨fun _ _ _ _ _ => rfl, fun _ _ _ _ _ => rfl⟩ hW.lsL ⟨hW.arL (Nat.lt_of_le_of_lt (Nat.zero_le _) hn_18), (Nat.le_trans hW.nL8 (by decide))⟩ hn_18 (hW.elL hn_18) q359 ⟨Nat.le_of_ble_eq_true rfl, Nat.le_of_ble_eq_true rfl⟩ hl.1 (Nat.le_of_ble_eq_true rfl) dX1_clashes_18 ⟨(Nat.le_trans (show cells + 0 ≤ C1 from by omega) hC), (Nat.le_trans (show slots + 0 ≤ S1 from by omega) hSl)⟩ (fun H locs hR hS => ?_)
      have hR : Rp κ w y X [(q2, itC y 44 0 (c2 + 1) (nI c2))] H := hR
      refine jr_castS (ci := 9) hx hb hown hK hts (hR.role (hW.lot hn_18)) rfl q497 dX1_clashes_23 ?_
      refine lv_astore_n (lv' := [(3, .ref (y.2 11 c2)), (1, .ref (y.2 11 i1)), (2, .ref (q2))]) hx hb dX1_clashes_26 rfl hl (by decide) rfl (fun ls hl => ?_)
      refine lv_aload_n hx hb dX1_clashes_27 rfl (lv_at hl 0 rfl) ?_
      refine lv_aload_n hx hb dX1_clashes_28 rfl (lv_at hl 1 rfl) ?_
      refine lv_acmp_eq (rx := some (y.2 11 c2)) (ry := some (y.2 11 i1)) (tgt := 42) hx hb dX1_clashes_29 (by decide) (fun c_29 => ?_) (fun c_29 => ?_)
      · replace c_29 : c2 = i1 := (hR.inj (hW.lot hn_18) l1 ((Option.some.inj c_29))).2
        have h := h.1 c_29
        refine lv_goto (tgt := 8) hx hb dX1_clashes_42 (by decide) ?_
        exact ih w (c2 + 1) (nI c2) _ _ _ _ _ (by omega) h hR hS (lv_sub hl [1, 2] rfl) (by omega) (by omega)
      · replace c_29 : ¬ (c2 = i1) := fun q9 => c_29 (congrArg some (congrArg (y.2 11) q9))
        have h := h.2 c_29
        refine lv_aload_n hx hb dX1_clashes_32 rfl (lv_at hl 0 rfl) ?_
        refine lv_aload_n hx hb dX1_clashes_33 rfl (lv_at hl 1 rfl) ?_
        refine ce_qi (fw := fun u => u) (fy := fun _ => y) (cr_V (n := 1) (As := [.ref (y.2 11 i1)]) (rest := []) ⟨hx, hb, hml, hown, hts⟩ hK hR (m_X15_clashes hW (hW.lot hn_18) l1 h) q510 q511 q512 q112 q513 rfl rfl hd_X15_clashes ⟨Nat.le_of_ble_eq_true rfl, Nat.le_of_ble_eq_true rfl⟩ (rv hK hR (hW.lot hn_18) (ci := 9) rfl rfl) rfl rfl hl.1 rfl (lv_room (Nat.le_of_ble_eq_true rfl)) dX1_clashes_34 ⟨(Nat.le_trans (show cells + 0 ≤ C1 from by omega) hC), (Nat.le_trans (show slots + 0 ≤ S1 from by omega) hSl)⟩) hR hS (fun r_34 w_34 H locs h hR _ hS => ?_)
        refine lv_if_eq (tgt := 42) hx hb dX1_clashes_37 (by decide) (fun c_37 => ?_) (fun c_37 => ?_)
        · have h := h.1 c_37
          refine lv_goto (tgt := 8) hx hb dX1_clashes_42 (by decide) ?_
          exact ih w_34 (c2 + 1) (nI c2) _ _ _ _ _ (by omega) h hR hS (lv_sub hl [1, 2] rfl) (by omega) (by omega)
        · have h := h.2 c_37
          refine lv_iconst (v := (1 : Int32)) hx hb dX1_clashes_40 (by decide) ?_
          have hR := hR.sub (L' := []) [] rfl rfl
          refine W.widen (k := 1) (n := 4) (Nat.le_trans (show cells ≤ C1 from by omega) hC) (Nat.le_trans (show slots ≤ S1 from by omega) hSl) ?_
          exact W.zret (v := (1 : Int32)) hx hb hr nbo_1.n (fun t ht hW9 => ⟨⟨(1 : Int32), w_34, rfl, h, rpt ht hR⟩, hS.F ht⟩) hS.2.2 dX1_clashes_41
def sp_X1_clashes (κ : Kx) (y : Ly) (post : Int32 → Wd → Prop) (w : Wd) (a1 : Nat) : Prop := sp_X1_clashes_8 κ y post (fun w_8  => post ((0 : Int32)) w_8) a1 9 w 0 (-1)
theorem hd_X1_clashes : yX1_clashes.cls = RX1 ∧ yX1_clashes.cls ≠ "java/lang/invoke/MethodHandle" ∧ yX1_clashes.cls ≠ "java/lang/invoke/VarHandle" ∧ (parseMethodDescriptor yX1_clashes.desc).map (fun d => d.parameters.length) = some 1 := by decide +kernel
set_option maxHeartbeats 4000000 in
theorem m_X1_clashes {l : Launch} {κ : Kx} {y : Ly} {X : XR} {post : Int32 → Wd → Prop} {w : Wd} {a1 : Nat}  (hW : WFc κ y) (l0 : live y 0 0) (l1 : live y 11 a1) (h : sp_X1_clashes κ y post w a1) : Met l yX1_clashes (ws_ yX1_clashes cX1_clashes 4 (Option.some Jvm.ClassFile.FieldType.boolean)) rm_X1_clashes (va_Pc [.ref (y.2 0 0), .ref (y.2 11 a1)] (RC κ w y X)) (va_Qi post (fun w t => Rp κ w y X [] t.heap) (Af κ)) 1 4 (Af κ) := by
  unfold sp_X1_clashes at h
  refine Met.ofW (cc := cX1_clashes) (maxL := 4) (ret := (Option.some Jvm.ClassFile.FieldType.boolean)) (by decide) rfl ?_
  intro p e s m args below meth c s₁ B hml hv
  obtain ⟨rfl, hR, hK⟩ := hv
  have hx := B.exec
  have hb := B.bytes
  have hr := B.returns
  have hts := atoms_spec (ws := ws_ yX1_clashes cX1_clashes 4 (Option.some Jvm.ClassFile.FieldType.boolean)) B.pre
  have hts : ∀ w ∈ lw_all, w.before _ s = true := fun w h => hts w (List.mem_cons_of_mem _ h)
  have hown : s.vm.findClass RX1 = some m.cls := findClass_of_methodNamed B.named
  have hlocks := B.notSynchronized
  have hS : va_S (Af κ) s.heap s.heap [] := va_S.rf
  have hl := lv_entry ([.ref (y.2 0 0), .ref (y.2 11 a1)]) (n := 4) (Nat.le_of_ble_eq_true rfl)
  rw [lg_entry_eq]
  generalize (lg_sl ([.ref (y.2 0 0), .ref (y.2 11 a1)]) ++ List.replicate (4 - (lg_sl ([.ref (y.2 0 0), .ref (y.2 11 a1)])).length) Slot.unset).toArray = ls at hl ⊢
  have hl : lv_has ls 4 [(0, .ref (y.2 0 0)), (1, .ref (y.2 11 a1))] := hl
  refine lv_aload_n hx hb dX1_clashes_0 rfl (lv_at hl 0 rfl) ?_
  refine g0_2 hx hb hts hown hK hR l0 q249 dX1_clashes_1 ?_
  refine jr_iter ⟨hx, hb, hml, hown, hts⟩ hK hR hS ⟨fun _ _ _ _ _ => rfl, fun _ _ _ _ _ => rfl⟩ hW.lsL q325 ⟨Nat.le_of_ble_eq_true rfl, Nat.le_of_ble_eq_true rfl⟩ hl.1 (Nat.le_of_ble_eq_true rfl) dX1_clashes_4 ⟨(Nat.le_of_ble_eq_true rfl), (Nat.le_of_ble_eq_true rfl)⟩ (fun q_4 H locs hR hS => ?_)
  have hR : Rp κ w y X [(q_4, itC y 44 0 0 (-1))] H := hR
  refine lv_astore_n (lv' := [(2, .ref (q_4)), (0, .ref (y.2 0 0)), (1, .ref (y.2 11 a1))]) hx hb dX1_clashes_7 rfl hl (by decide) rfl (fun ls hl => ?_)
  refine lp_X1_clashes_8 (C1 := 1) (S1 := 4) hx hb hr hml hown hts hlocks hK hW l1 (Nat.le_of_ble_eq_true rfl) (Nat.le_of_ble_eq_true rfl) (fun w_8  H locs ls cells9 slots9 h hR hS hl hc9 hs9 => ?_) 9 w 0 (-1) _ _ _ _ _ (by omega) h hR hS (lv_sub hl [2, 0] rfl) (by omega) (by omega)
  refine W.widen (k := 1) (n := 4) hc9 hs9 ?_
  refine lv_iconst (v := (0 : Int32)) hx hb dX1_clashes_45 (by decide) ?_
  refine W.widen (k := 1) (n := 4) (Nat.le_of_ble_eq_true rfl) (Nat.le_of_ble_eq_true rfl) ?_
  exact W.zret (v := (0 : Int32)) hx hb hr nbo_0.n (fun t ht hW9 => ⟨⟨(0 : Int32), w_8, rfl, h, rpt ht hR⟩, hS.F ht⟩) hS.2.2 dX1_clashes_46
abbrev rm_X1_oldStones : Room := { frames := 3, cells := 1, slots := 4, locals := 68 }
def st_X1_oldStones_10 (κ : Kx) (y : Ly) (post : Int32 → Wd → Prop) (ex : Wd → (Int32) → Prop) (rec : Wd → Int32 → Nat → Int32 → Prop)  (w : Wd) (v1 : Int32) (c2 : Nat) (z2 : Int32) : Prop := ((¬ (¬ c2 = nV y)) → (ex w v1)) ∧ (((¬ c2 = nV y)) → (((gv w 6 c2 15 = gv w 0 0 10) → (sp_X1_one κ y (fun r_46 w_46 => ∀ x_50 : Int32, x_50 = v1 + r_46 → rec w_46 x_50 (c2 + 1) (nI c2)) w (0 : Int32))) ∧ ((¬ (gv w 6 c2 15 = gv w 0 0 10)) → (sp_X1_one κ y (fun r_46_a w_46_a => ∀ x_50_a : Int32, x_50_a = v1 + r_46_a → rec w_46_a x_50_a (c2 + 1) (nI c2)) w (1 : Int32)))))
def sp_X1_oldStones_10 (κ : Kx) (y : Ly) (post : Int32 → Wd → Prop) (ex : Wd → (Int32) → Prop)  : Nat → Wd → Int32 → Nat → Int32 → Prop
  | 0 => fun _ _ _ _ => False
  | n + 1 => fun w v1 c2 z2 => st_X1_oldStones_10 κ y post ex (sp_X1_oldStones_10 κ y post ex  n)  w v1 c2 z2
set_option maxHeartbeats 4000000 in
theorem lp_X1_oldStones_10 {p : Program} {l : Launch} {e : Env} {s : State} {m : MethodId} {args : Array Value} {below : List Frame} {meth : Method} {c : Code} {κ : Kx} {y : Ly} {X : XR} {post : Int32 → Wd → Prop} {q2 : Nat} (hx : p.tables.exec = Jvm.exec) (hb : c.code = cX1_oldStones) (hr : meth.sig.returnType = (Option.some Jvm.ClassFile.FieldType.int)) (hml : c.maxLocals = 4) (hown : s.vm.findClass RX1 = some m.cls) (hts : ∀ w ∈ lw_all, w.before args s = true) (hlocks : meth.locks = false) (hK : KK κ s) (hW : WFc κ y) (l0 : live y 0 0) {C1 S1 : Nat} (hC : C1 ≤ 1) (hSl : S1 ≤ 4) {ex : Wd → (Int32) → Prop}
    (kx : ∀ (w : Wd) (v1 : Int32) (H : Heap) (locs : List Loc) (ls : Array Slot) (cells slots : Nat) , ex w v1 → Rp κ w y X [] H → va_S (Af κ) s.heap H locs → lv_has ls 4 [(1, .int (v1))] → cells ≤ C1 → slots ≤ S1 → W p l e (headSpec (ws_ yX1_oldStones cX1_oldStones 4 (Option.some Jvm.ClassFile.FieldType.int)) rm_X1_oldStones).room s m args below meth c H locs cells slots (MQ below (va_Qi post (fun w t => Rp κ w y X [] t.heap) (Af κ)) args s 1 4 (Af κ)) (F0 m 54 ls [])) :
    ∀ (f : Nat) (w : Wd) (v1 : Int32) (c2 : Nat) (z2 : Int32) (H : Heap) (locs : List Loc) (ls : Array Slot) (cells slots : Nat)  (hc2 : c2 ≤ nV y), sp_X1_oldStones_10 κ y post ex  f w v1 c2 z2 → Rp κ w y X [(q2, itC y 40 0 c2 z2)] H → va_S (Af κ) s.heap H locs → lv_has ls 4 [(0, .ref (y.2 0 0)), (1, .int (v1)), (2, .ref (q2))] → cells + f * 0 ≤ C1 → slots + f * 0 ≤ S1 → W p l e (headSpec (ws_ yX1_oldStones cX1_oldStones 4 (Option.some Jvm.ClassFile.FieldType.int)) rm_X1_oldStones).room s m args below meth c H locs cells slots (MQ below (va_Qi post (fun w t => Rp κ w y X [] t.heap) (Af κ)) args s 1 4 (Af κ)) (F0 m 10 ls []) := by
  intro f
  induction f with
  | zero =>
    intro w v1 c2 z2 H locs ls cells slots hc2 h
    exact False.elim h
  | succ f ih =>
    intro w v1 c2 z2 H locs ls cells slots hc2 h hR hS hl hc hs
    have h : st_X1_oldStones_10 κ y post ex (sp_X1_oldStones_10 κ y post ex  f)  w v1 c2 z2 := h
    unfold st_X1_oldStones_10 at h
    refine lv_aload_n hx hb dX1_oldStones_10 rfl (lv_at hl 2 rfl) ?_
    refine jr_hasNext (t := 0) ⟨hx, hb, hml, hown, hts⟩ hK hR rfl ⟨fun _ _ _ _ _ => rfl, fun _ _ _ _ _ => rfl⟩ hW.lsV (by omega) (Nat.le_trans hW.nV8 (by decide)) q349 ⟨Nat.le_of_ble_eq_true rfl, Nat.le_of_ble_eq_true rfl⟩ hl.1 (Nat.le_of_ble_eq_true rfl) dX1_oldStones_11 ⟨(Nat.le_trans (show cells + 0 ≤ C1 from by omega) hC), (Nat.le_trans (show slots + 0 ≤ S1 from by omega) hSl)⟩ ?_
    refine lv_if_eq (tgt := 54) hx hb dX1_oldStones_16 (by decide) (fun c_16 => ?_) (fun c_16 => ?_)
    · replace c_16 : ¬ (¬ c2 = nV y) := bi_0.mp c_16
      have h := h.1 c_16
      have hR := hR.sub (L' := []) [] rfl rfl
      exact kx w v1 _ _ _ _ _ h hR hS (lv_sub hl [1] rfl) (by omega) (by omega)
    · replace c_16 : (¬ c2 = nV y) := bi_n0.mp c_16
      have h := h.2 c_16
      refine lv_aload_n hx hb dX1_oldStones_19 rfl (lv_at hl 2 rfl) ?_
      have hn_20 : c2 < nV y := by omega
      refine jr_next (t := 0) (a := y.2 6 c2) ⟨hx, hb, hml, hown, hts⟩ hK hR hS rfl ⟨fun _ _ _ _ _ => rfl, fun _ _ _ _ _ => rfl⟩ hW.lsV ⟨hW.arV (Nat.lt_of_le_of_lt (Nat.zero_le _) hn_20), (Nat.le_trans hW.nV8 (by decide))⟩ hn_20 (hW.elV hn_20) q359 ⟨Nat.le_of_ble_eq_true rfl, Nat.le_of_ble_eq_true rfl⟩ hl.1 (Nat.le_of_ble_eq_true rfl) dX1_oldStones_20 ⟨(Nat.le_trans (show cells + 0 ≤ C1 from by omega) hC), (Nat.le_trans (show slots + 0 ≤ S1 from by omega) hSl)⟩ (fun H locs hR hS => ?_)
      have hR : Rp κ w y X [(q2, itC y 40 0 (c2 + 1) (nI c2))] H := hR
      refine jr_castS (ci := 6) hx hb hown hK hts (hR.role (hW.vil hn_20)) rfl q496 dX1_oldStones_25 ?_
      refine lv_astore_n (lv' := [(3, .ref (y.2 6 c2)), (0, .ref (y.2 0 0)), (1, .int (v1)), (2, .ref (q2))]) hx hb dX1_oldStones_28 rfl hl (by decide) rfl (fun ls hl => ?_)
      refine lv_iload_n hx hb dX1_oldStones_29 rfl (lv_at hl 2 rfl) ?_
      refine lv_aload_n hx hb dX1_oldStones_30 rfl (lv_at hl 0 rfl) ?_
      refine g6_15 hx hb hts hown hK hR (hW.vil hn_20) q953 dX1_oldStones_31 ?_
      refine lv_aload_n hx hb dX1_oldStones_34 rfl (lv_at hl 1 rfl) ?_
      refine g0_10 hx hb hts hown hK hR l0 q257 dX1_oldStones_35 ?_
      refine lv_icmp_eq (tgt := 45) hx hb dX1_oldStones_38 (by decide) (fun c_38 => ?_) (fun c_38 => ?_)
      · have h := h.1 c_38
        refine lv_iconst (v := (0 : Int32)) hx hb dX1_oldStones_45 (by decide) ?_
        refine ce_qi (fw := fun u => u) (fy := fun _ => y) (cr_S (n := 1) (As := [.int ((0 : Int32))]) (rest := [.int (v1)]) ⟨hx, hb, hml, hown, hts⟩ hK hR (m_X1_one hW h) q548 q549 q74 q550 rfl rfl hds_X1_one ⟨Nat.le_of_ble_eq_true rfl, Nat.le_of_ble_eq_true rfl⟩ rfl rfl hl.1 rfl (lv_room (Nat.le_of_ble_eq_true rfl)) dX1_oldStones_46 ⟨(Nat.le_trans (show cells + 0 ≤ C1 from by omega) hC), (Nat.le_trans (show slots + 0 ≤ S1 from by omega) hSl)⟩) hR hS (fun r_46 w_46 H locs h hR _ hS => ?_)
        refine lv_iadd hx hb dX1_oldStones_49 ?_
        refine lv_topi (fun x_50 ex_50 => ?_)
        have h := h x_50 ex_50
        refine lv_istore_n (lv' := [(1, .int (x_50)), (3, .ref (y.2 6 c2)), (0, .ref (y.2 0 0)), (2, .ref (q2))]) hx hb dX1_oldStones_50 rfl hl (by decide) rfl (fun ls hl => ?_)
        refine lv_goto (tgt := 10) hx hb dX1_oldStones_51 (by decide) ?_
        exact ih w_46 x_50 (c2 + 1) (nI c2) _ _ _ _ _ (by omega) h hR hS (lv_sub hl [2, 0, 3] rfl) (by omega) (by omega)
      · have h := h.2 c_38
        refine lv_iconst (v := (1 : Int32)) hx hb dX1_oldStones_41 (by decide) ?_
        refine lv_goto (tgt := 46) hx hb dX1_oldStones_42 (by decide) ?_
        refine ce_qi (fw := fun u => u) (fy := fun _ => y) (cr_S (n := 1) (As := [.int ((1 : Int32))]) (rest := [.int (v1)]) ⟨hx, hb, hml, hown, hts⟩ hK hR (m_X1_one hW h) q548 q549 q74 q550 rfl rfl hds_X1_one ⟨Nat.le_of_ble_eq_true rfl, Nat.le_of_ble_eq_true rfl⟩ rfl rfl hl.1 rfl (lv_room (Nat.le_of_ble_eq_true rfl)) dX1_oldStones_46 ⟨(Nat.le_trans (show cells + 0 ≤ C1 from by omega) hC), (Nat.le_trans (show slots + 0 ≤ S1 from by omega) hSl)⟩) hR hS (fun r_46_a w_46_a H locs h hR _ hS => ?_)
        refine lv_iadd hx hb dX1_oldStones_49 ?_
        refine lv_topi (fun x_50_a ex_50_a => ?_)
        have h := h x_50_a ex_50_a
        refine lv_istore_n (lv' := [(1, .int (x_50_a)), (3, .ref (y.2 6 c2)), (0, .ref (y.2 0 0)), (2, .ref (q2))]) hx hb dX1_oldStones_50 rfl hl (by decide) rfl (fun ls hl => ?_)
        refine lv_goto (tgt := 10) hx hb dX1_oldStones_51 (by decide) ?_
        exact ih w_46_a x_50_a (c2 + 1) (nI c2) _ _ _ _ _ (by omega) h hR hS (lv_sub hl [2, 0, 3] rfl) (by omega) (by omega)
def sp_X1_oldStones (κ : Kx) (y : Ly) (post : Int32 → Wd → Prop) (w : Wd)  : Prop := sp_X1_oldStones_10 κ y post (fun w_10 y1_10 => post (y1_10) w_10)  9 w (0 : Int32) 0 (-1)
theorem hd_X1_oldStones : yX1_oldStones.cls = RX1 ∧ yX1_oldStones.cls ≠ "java/lang/invoke/MethodHandle" ∧ yX1_oldStones.cls ≠ "java/lang/invoke/VarHandle" ∧ (parseMethodDescriptor yX1_oldStones.desc).map (fun d => d.parameters.length) = some 0 := by decide +kernel
set_option maxHeartbeats 4000000 in
theorem m_X1_oldStones {l : Launch} {κ : Kx} {y : Ly} {X : XR} {post : Int32 → Wd → Prop} {w : Wd}   (hW : WFc κ y) (l0 : live y 0 0) (h : sp_X1_oldStones κ y post w ) : Met l yX1_oldStones (ws_ yX1_oldStones cX1_oldStones 4 (Option.some Jvm.ClassFile.FieldType.int)) rm_X1_oldStones (va_Pc [.ref (y.2 0 0)] (RC κ w y X)) (va_Qi post (fun w t => Rp κ w y X [] t.heap) (Af κ)) 1 4 (Af κ) := by
  unfold sp_X1_oldStones at h
  refine Met.ofW (cc := cX1_oldStones) (maxL := 4) (ret := (Option.some Jvm.ClassFile.FieldType.int)) (by decide) rfl ?_
  intro p e s m args below meth c s₁ B hml hv
  obtain ⟨rfl, hR, hK⟩ := hv
  have hx := B.exec
  have hb := B.bytes
  have hr := B.returns
  have hts := atoms_spec (ws := ws_ yX1_oldStones cX1_oldStones 4 (Option.some Jvm.ClassFile.FieldType.int)) B.pre
  have hts : ∀ w ∈ lw_all, w.before _ s = true := fun w h => hts w (List.mem_cons_of_mem _ h)
  have hown : s.vm.findClass RX1 = some m.cls := findClass_of_methodNamed B.named
  have hlocks := B.notSynchronized
  have hS : va_S (Af κ) s.heap s.heap [] := va_S.rf
  have hl := lv_entry ([.ref (y.2 0 0)]) (n := 4) (Nat.le_of_ble_eq_true rfl)
  rw [lg_entry_eq]
  generalize (lg_sl ([.ref (y.2 0 0)]) ++ List.replicate (4 - (lg_sl ([.ref (y.2 0 0)])).length) Slot.unset).toArray = ls at hl ⊢
  have hl : lv_has ls 4 [(0, .ref (y.2 0 0))] := hl
  refine lv_iconst (v := (0 : Int32)) hx hb dX1_oldStones_0 (by decide) ?_
  refine lv_istore_n (lv' := [(1, .int ((0 : Int32))), (0, .ref (y.2 0 0))]) hx hb dX1_oldStones_1 rfl hl (by decide) rfl (fun ls hl => ?_)
  refine lv_aload_n hx hb dX1_oldStones_2 rfl (lv_at hl 1 rfl) ?_
  refine g0_0 hx hb hts hown hK hR l0 q247 dX1_oldStones_3 ?_
  refine jr_iter ⟨hx, hb, hml, hown, hts⟩ hK hR hS ⟨fun _ _ _ _ _ => rfl, fun _ _ _ _ _ => rfl⟩ hW.lsV q325 ⟨Nat.le_of_ble_eq_true rfl, Nat.le_of_ble_eq_true rfl⟩ hl.1 (Nat.le_of_ble_eq_true rfl) dX1_oldStones_6 ⟨(Nat.le_of_ble_eq_true rfl), (Nat.le_of_ble_eq_true rfl)⟩ (fun q_6 H locs hR hS => ?_)
  have hR : Rp κ w y X [(q_6, itC y 40 0 0 (-1))] H := hR
  refine lv_astore_n (lv' := [(2, .ref (q_6)), (1, .int ((0 : Int32))), (0, .ref (y.2 0 0))]) hx hb dX1_oldStones_9 rfl hl (by decide) rfl (fun ls hl => ?_)
  refine lp_X1_oldStones_10 (C1 := 1) (S1 := 4) hx hb hr hml hown hts hlocks hK hW l0 (Nat.le_of_ble_eq_true rfl) (Nat.le_of_ble_eq_true rfl) (fun w_10 y1_10 H locs ls cells9 slots9 h hR hS hl hc9 hs9 => ?_) 9 w (0 : Int32) 0 (-1) _ _ _ _ _ (by omega) h hR hS (lv_sub hl [2, 1, 0] rfl) (by omega) (by omega)
  refine W.widen (k := 1) (n := 4) hc9 hs9 ?_
  refine lv_iload_n hx hb dX1_oldStones_54 rfl (lv_at hl 0 rfl) ?_
  refine W.widen (k := 1) (n := 4) (Nat.le_of_ble_eq_true rfl) (Nat.le_of_ble_eq_true rfl) ?_
  exact W.iret (v := y1_10) hx hb hr (fun t ht hW9 => ⟨⟨y1_10, w_10, rfl, h, rpt ht hR⟩, hS.F ht⟩) hS.2.2 dX1_oldStones_55
abbrev rm_X1_isLet : Room := { frames := 3, cells := 1, slots := 4, locals := 68 }
def st_X1_isLet_8 (κ : Kx) (y : Ly) (post : Int32 → Wd → Prop) (ex : Wd → Prop) (rec : Wd → Nat → Int32 → Prop) (i1 : Nat) (i2 : Nat) (w : Wd) (c3 : Nat) (z3 : Int32) : Prop := ((¬ (¬ c3 = nL y)) → (ex w )) ∧ (((¬ c3 = nL y)) → (sp_X15_isLeased κ y (fun r_30 w_30 => ((r_30 = 0) → (rec w_30 (c3 + 1) (nI c3))) ∧ ((¬ (r_30 = 0)) → (((gv w_30 11 c3 1).toNatClampNeg < 3) ∧ (((¬ ((gv w_30 11 c3 1).toNatClampNeg = i2)) → (rec w_30 (c3 + 1) (nI c3))) ∧ (((gv w_30 11 c3 1).toNatClampNeg = i2) → (sp_X1_has κ y (fun r_54 w_54 => ((r_54 = 0) → (rec w_54 (c3 + 1) (nI c3))) ∧ ((¬ (r_54 = 0)) → (post ((1 : Int32)) w_54))) w_30 (gv w_30 11 c3 2) (nI i1))))))) w c3))
def sp_X1_isLet_8 (κ : Kx) (y : Ly) (post : Int32 → Wd → Prop) (ex : Wd → Prop) (i1 : Nat) (i2 : Nat) : Nat → Wd → Nat → Int32 → Prop
  | 0 => fun _ _ _ => False
  | n + 1 => fun w c3 z3 => st_X1_isLet_8 κ y post ex (sp_X1_isLet_8 κ y post ex i1 i2 n) i1 i2 w c3 z3
set_option maxHeartbeats 4000000 in
theorem lp_X1_isLet_8 {p : Program} {l : Launch} {e : Env} {s : State} {m : MethodId} {args : Array Value} {below : List Frame} {meth : Method} {c : Code} {κ : Kx} {y : Ly} {X : XR} {post : Int32 → Wd → Prop} {q3 : Nat} {i1 : Nat} {i2 : Nat} (hx : p.tables.exec = Jvm.exec) (hb : c.code = cX1_isLet) (hr : meth.sig.returnType = (Option.some Jvm.ClassFile.FieldType.boolean)) (hml : c.maxLocals = 5) (hown : s.vm.findClass RX1 = some m.cls) (hts : ∀ w ∈ lw_all, w.before args s = true) (hlocks : meth.locks = false) (hK : KK κ s) (hW : WFc κ y) (l1 : live y 6 i1) (l2 : i2 < 3) {C1 S1 : Nat} (hC : C1 ≤ 1) (hSl : S1 ≤ 4) {ex : Wd → Prop}
    (kx : ∀ (w : Wd)  (H : Heap) (locs : List Loc) (ls : Array Slot) (cells slots : Nat) , ex w  → Rp κ w y X [] H → va_S (Af κ) s.heap H locs → lv_has ls 5 [] → cells ≤ C1 → slots ≤ S1 → W p l e (headSpec (ws_ yX1_isLet cX1_isLet 5 (Option.some Jvm.ClassFile.FieldType.boolean)) rm_X1_isLet).room s m args below meth c H locs cells slots (MQ below (va_Qi post (fun w t => Rp κ w y X [] t.heap) (Af κ)) args s 1 4 (Af κ)) (F0 m 65 ls [])) :
    ∀ (f : Nat) (w : Wd) (c3 : Nat) (z3 : Int32) (H : Heap) (locs : List Loc) (ls : Array Slot) (cells slots : Nat)  (hc3 : c3 ≤ nL y), sp_X1_isLet_8 κ y post ex i1 i2 f w c3 z3 → Rp κ w y X [(q3, itC y 44 0 c3 z3)] H → va_S (Af κ) s.heap H locs → lv_has ls 5 [(1, .ref (y.2 6 i1)), (2, .ref (kA κ (20 + i2))), (3, .ref (q3))] → cells + f * 0 ≤ C1 → slots + f * 0 ≤ S1 → W p l e (headSpec (ws_ yX1_isLet cX1_isLet 5 (Option.some Jvm.ClassFile.FieldType.boolean)) rm_X1_isLet).room s m args below meth c H locs cells slots (MQ below (va_Qi post (fun w t => Rp κ w y X [] t.heap) (Af κ)) args s 1 4 (Af κ)) (F0 m 8 ls []) := by
  intro f
  induction f with
  | zero =>
    intro w c3 z3 H locs ls cells slots hc3 h
    exact False.elim h
  | succ f ih =>
    intro w c3 z3 H locs ls cells slots hc3 h hR hS hl hc hs
    have h : st_X1_isLet_8 κ y post ex (sp_X1_isLet_8 κ y post ex i1 i2 f) i1 i2 w c3 z3 := h
    unfold st_X1_isLet_8 at h
    refine lv_aload_n hx hb dX1_isLet_8 rfl (lv_at hl 2 rfl) ?_
    refine jr_hasNext (t := 0) ⟨hx, hb, hml, hown, hts⟩ hK hR rfl ⟨fun _ _ _ _ _ => rfl, fun _ _ _ _ _ => rfl⟩ hW.lsL (by omega) (Nat.le_trans hW.nL8 (by decide)) q349 ⟨Nat.le_of_ble_eq_true rfl, Nat.le_of_ble_eq_true rfl⟩ hl.1 (Nat.le_of_ble_eq_true rfl) dX1_isLet_9 ⟨(Nat.le_trans (show cells + 0 ≤ C1 from by omega) hC), (Nat.le_trans (show slots + 0 ≤ S1 from by omega) hSl)⟩ ?_
    refine lv_if_eq (tgt := 65) hx hb dX1_isLet_14 (by decide) (fun c_14 => ?_) (fun c_14 => ?_)
    · replace c_14 : ¬ (¬ c3 = nL y) := bi_0.mp c_14
      have h := h.1 c_14
      have hR := hR.sub (L' := []) [] rfl rfl
      exact kx w  _ _ _ _ _ h hR hS (lv_sub hl [] rfl) (by omega) (by omega)
    · replace c_14 : (¬ c3 = nL y) := bi_n0.mp c_14
      have h := h.2 c_14
      refine lv_aload_n hx hb dX1_isLet_17 rfl (lv_at hl 2 rfl) ?_
      have hn_18 : c3 < nL y := by omega
      refine jr_next (t := 0) (a := y.2 11 c3) ⟨hx, hb, hml, hown, hts⟩ hK hR hS rfl ⟨fun _ _ _ _ _ => rfl, fun _ _ _ _ _ => rfl⟩ hW.lsL ⟨hW.arL (Nat.lt_of_le_of_lt (Nat.zero_le _) hn_18), (Nat.le_trans hW.nL8 (by decide))⟩ hn_18 (hW.elL hn_18) q359 ⟨Nat.le_of_ble_eq_true rfl, Nat.le_of_ble_eq_true rfl⟩ hl.1 (Nat.le_of_ble_eq_true rfl) dX1_isLet_18 ⟨(Nat.le_trans (show cells + 0 ≤ C1 from by omega) hC), (Nat.le_trans (show slots + 0 ≤ S1 from by omega) hSl)⟩ (fun H locs hR hS => ?_)
      have hR : Rp κ w y X [(q3, itC y 44 0 (c3 + 1) (nI c3))] H := hR
      refine jr_castS (ci := 9) hx hb hown hK hts (hR.role (hW.lot hn_18)) rfl q497 dX1_isLet_23 ?_
      refine lv_astore (lv' := [(4, .ref (y.2 11 c3)), (1, .ref (y.2 6 i1)), (2, .ref (kA κ (20 + i2))), (3, .ref (q3))]) hx hb dX1_isLet_26 hl (by decide) rfl (fun ls hl => ?_)
      refine lv_aload hx hb dX1_isLet_28 (lv_at hl 0 rfl) ?_
      refine ce_qi (fw := fun u => u) (fy := fun _ => y) (cr_V (n := 0) (As := []) (rest := []) ⟨hx, hb, hml, hown, hts⟩ hK hR (m_X15_isLeased hW (hW.lot hn_18) h) q515 q516 q517 q112 q518 rfl rfl hd_X15_isLeased ⟨Nat.le_of_ble_eq_true rfl, Nat.le_of_ble_eq_true rfl⟩ (rv hK hR (hW.lot hn_18) (ci := 9) rfl rfl) rfl rfl hl.1 rfl (lv_room (Nat.le_of_ble_eq_true rfl)) dX1_isLet_30 ⟨(Nat.le_trans (show cells + 0 ≤ C1 from by omega) hC), (Nat.le_trans (show slots + 0 ≤ S1 from by omega) hSl)⟩) hR hS (fun r_30 w_30 H locs h hR _ hS => ?_)
      refine lv_if_eq (tgt := 62) hx hb dX1_isLet_33 (by decide) (fun c_33 => ?_) (fun c_33 => ?_)
      · have h := h.1 c_33
        refine lv_goto (tgt := 8) hx hb dX1_isLet_62 (by decide) ?_
        exact ih w_30 (c3 + 1) (nI c3) _ _ _ _ _ (by omega) h hR hS (lv_sub hl [1, 2, 3] rfl) (by omega) (by omega)
      · have h := h.2 c_33
        refine lv_aload hx hb dX1_isLet_36 (lv_at hl 0 rfl) ?_
        refine g11_1 hx hb hts hown hK hR (hW.lot hn_18) q1255 dX1_isLet_38 ?_
        have o_38 := h.1
        have h := h.2
        refine lv_aload_n hx hb dX1_isLet_41 rfl (lv_at hl 2 rfl) ?_
        refine lv_acmp_ne (rx := some (kA κ (20 + (gv w_30 11 c3 1).toNatClampNeg))) (ry := some (kA κ (20 + i2))) (tgt := 62) hx hb dX1_isLet_42 (by decide) (fun c_42 => ?_) (fun c_42 => ?_)
        · replace c_42 : ¬ ((gv w_30 11 c3 1).toNatClampNeg = i2) := fun q9 => c_42 (congrArg some (congrArg (fun z => kA κ (20 + z)) q9))
          have h := h.1 c_42
          refine lv_goto (tgt := 8) hx hb dX1_isLet_62 (by decide) ?_
          exact ih w_30 (c3 + 1) (nI c3) _ _ _ _ _ (by omega) h hR hS (lv_sub hl [1, 2, 3] rfl) (by omega) (by omega)
        · replace c_42 : (gv w_30 11 c3 1).toNatClampNeg = i2 := hK.2.2.2.2.2.2.2 _ _ o_38 l2 ((Option.some.inj c_42))
          have h := h.2 c_42
          refine lv_aload hx hb dX1_isLet_45 (lv_at hl 0 rfl) ?_
          refine g11_2 hx hb hts hown hK hR (hW.lot hn_18) q1257 dX1_isLet_47 ?_
          refine lv_aload_n hx hb dX1_isLet_50 rfl (lv_at hl 1 rfl) ?_
          refine g6_0 hx hb hts hown hK hR l1 q920 dX1_isLet_51 ?_
          refine ce_qi (fw := fun u => u) (fy := fun _ => y) (cr_S (n := 2) (As := [.int (gv w_30 11 c3 2), .int (nI i1)]) (rest := []) ⟨hx, hb, hml, hown, hts⟩ hK hR (m_X1_has hW h) q614 q615 q74 q616 rfl rfl hds_X1_has ⟨Nat.le_of_ble_eq_true rfl, Nat.le_of_ble_eq_true rfl⟩ rfl rfl hl.1 rfl (lv_room (Nat.le_of_ble_eq_true rfl)) dX1_isLet_54 ⟨(Nat.le_trans (show cells + 0 ≤ C1 from by omega) hC), (Nat.le_trans (show slots + 0 ≤ S1 from by omega) hSl)⟩) hR hS (fun r_54 w_54 H locs h hR _ hS => ?_)
          refine lv_if_eq (tgt := 62) hx hb dX1_isLet_57 (by decide) (fun c_57 => ?_) (fun c_57 => ?_)
          · have h := h.1 c_57
            refine lv_goto (tgt := 8) hx hb dX1_isLet_62 (by decide) ?_
            exact ih w_54 (c3 + 1) (nI c3) _ _ _ _ _ (by omega) h hR hS (lv_sub hl [1, 2, 3] rfl) (by omega) (by omega)
          · have h := h.2 c_57
            refine lv_iconst (v := (1 : Int32)) hx hb dX1_isLet_60 (by decide) ?_
            have hR := hR.sub (L' := []) [] rfl rfl
            refine W.widen (k := 1) (n := 4) (Nat.le_trans (show cells ≤ C1 from by omega) hC) (Nat.le_trans (show slots ≤ S1 from by omega) hSl) ?_
            exact W.zret (v := (1 : Int32)) hx hb hr nbo_1.n (fun t ht hW9 => ⟨⟨(1 : Int32), w_54, rfl, h, rpt ht hR⟩, hS.F ht⟩) hS.2.2 dX1_isLet_61
def sp_X1_isLet (κ : Kx) (y : Ly) (post : Int32 → Wd → Prop) (w : Wd) (a1 : Nat) (a2 : Nat) : Prop := sp_X1_isLet_8 κ y post (fun w_8  => post ((0 : Int32)) w_8) a1 a2 9 w 0 (-1)
theorem hd_X1_isLet : yX1_isLet.cls = RX1 ∧ yX1_isLet.cls ≠ "java/lang/invoke/MethodHandle" ∧ yX1_isLet.cls ≠ "java/lang/invoke/VarHandle" ∧ (parseMethodDescriptor yX1_isLet.desc).map (fun d => d.parameters.length) = some 2 := by decide +kernel
set_option maxHeartbeats 4000000 in
theorem m_X1_isLet {l : Launch} {κ : Kx} {y : Ly} {X : XR} {post : Int32 → Wd → Prop} {w : Wd} {a1 : Nat} {a2 : Nat}  (hW : WFc κ y) (l0 : live y 0 0) (l1 : live y 6 a1) (l2 : a2 < 3) (h : sp_X1_isLet κ y post w a1 a2) : Met l yX1_isLet (ws_ yX1_isLet cX1_isLet 5 (Option.some Jvm.ClassFile.FieldType.boolean)) rm_X1_isLet (va_Pc [.ref (y.2 0 0), .ref (y.2 6 a1), .ref (kA κ (20 + a2))] (RC κ w y X)) (va_Qi post (fun w t => Rp κ w y X [] t.heap) (Af κ)) 1 4 (Af κ) := by
  unfold sp_X1_isLet at h
  refine Met.ofW (cc := cX1_isLet) (maxL := 5) (ret := (Option.some Jvm.ClassFile.FieldType.boolean)) (by decide) rfl ?_
  intro p e s m args below meth c s₁ B hml hv
  obtain ⟨rfl, hR, hK⟩ := hv
  have hx := B.exec
  have hb := B.bytes
  have hr := B.returns
  have hts := atoms_spec (ws := ws_ yX1_isLet cX1_isLet 5 (Option.some Jvm.ClassFile.FieldType.boolean)) B.pre
  have hts : ∀ w ∈ lw_all, w.before _ s = true := fun w h => hts w (List.mem_cons_of_mem _ h)
  have hown : s.vm.findClass RX1 = some m.cls := findClass_of_methodNamed B.named
  have hlocks := B.notSynchronized
  have hS : va_S (Af κ) s.heap s.heap [] := va_S.rf
  have hl := lv_entry ([.ref (y.2 0 0), .ref (y.2 6 a1), .ref (kA κ (20 + a2))]) (n := 5) (Nat.le_of_ble_eq_true rfl)
  rw [lg_entry_eq]
  generalize (lg_sl ([.ref (y.2 0 0), .ref (y.2 6 a1), .ref (kA κ (20 + a2))]) ++ List.replicate (5 - (lg_sl ([.ref (y.2 0 0), .ref (y.2 6 a1), .ref (kA κ (20 + a2))])).length) Slot.unset).toArray = ls at hl ⊢
  have hl : lv_has ls 5 [(0, .ref (y.2 0 0)), (1, .ref (y.2 6 a1)), (2, .ref (kA κ (20 + a2)))] := hl
  refine lv_aload_n hx hb dX1_isLet_0 rfl (lv_at hl 0 rfl) ?_
  refine g0_2 hx hb hts hown hK hR l0 q249 dX1_isLet_1 ?_
  refine jr_iter ⟨hx, hb, hml, hown, hts⟩ hK hR hS ⟨fun _ _ _ _ _ => rfl, fun _ _ _ _ _ => rfl⟩ hW.lsL q325 ⟨Nat.le_of_ble_eq_true rfl, Nat.le_of_ble_eq_true rfl⟩ hl.1 (Nat.le_of_ble_eq_true rfl) dX1_isLet_4 ⟨(Nat.le_of_ble_eq_true rfl), (Nat.le_of_ble_eq_true rfl)⟩ (fun q_4 H locs hR hS => ?_)
  have hR : Rp κ w y X [(q_4, itC y 44 0 0 (-1))] H := hR
  refine lv_astore_n (lv' := [(3, .ref (q_4)), (0, .ref (y.2 0 0)), (1, .ref (y.2 6 a1)), (2, .ref (kA κ (20 + a2)))]) hx hb dX1_isLet_7 rfl hl (by decide) rfl (fun ls hl => ?_)
  refine lp_X1_isLet_8 (C1 := 1) (S1 := 4) hx hb hr hml hown hts hlocks hK hW l1 l2 (Nat.le_of_ble_eq_true rfl) (Nat.le_of_ble_eq_true rfl) (fun w_8  H locs ls cells9 slots9 h hR hS hl hc9 hs9 => ?_) 9 w 0 (-1) _ _ _ _ _ (by omega) h hR hS (lv_sub hl [2, 3, 0] rfl) (by omega) (by omega)
  refine W.widen (k := 1) (n := 4) hc9 hs9 ?_
  refine lv_iconst (v := (0 : Int32)) hx hb dX1_isLet_65 (by decide) ?_
  refine W.widen (k := 1) (n := 4) (Nat.le_of_ble_eq_true rfl) (Nat.le_of_ble_eq_true rfl) ?_
  exact W.zret (v := (0 : Int32)) hx hb hr nbo_0.n (fun t ht hW9 => ⟨⟨(0 : Int32), w_8, rfl, h, rpt ht hR⟩, hS.F ht⟩) hS.2.2 dX1_isLet_66
abbrev rm_X1_dueByLaw : Room := { frames := 1, cells := 0, slots := 0, locals := 22 }
def sp_X1_dueByLaw (κ : Kx) (y : Ly) (post : Int32 → Wd → Prop) (w : Wd) (a1 : Nat) (a2 : Nat) : Prop := (vp_in (nI a2) 3) ∧ (sp_X1_has κ y (fun r_18 w_18 => ((r_18 = 0) → (sp_D_due κ y (fun r_34 w_34 => post (r_34) w_34) w_18 a2 a1 (gv w_18 4 (((nI a2).toNatClampNeg)) 0))) ∧ ((¬ (r_18 = 0)) → (post ((0 : Int32)) w_18))) w (gv w 4 (((nI a2).toNatClampNeg)) 1) (nI a1))
theorem hd_X1_dueByLaw : yX1_dueByLaw.cls = RX1 ∧ yX1_dueByLaw.cls ≠ "java/lang/invoke/MethodHandle" ∧ yX1_dueByLaw.cls ≠ "java/lang/invoke/VarHandle" ∧ (parseMethodDescriptor yX1_dueByLaw.desc).map (fun d => d.parameters.length) = some 2 := by decide +kernel
set_option maxHeartbeats 4000000 in
theorem m_X1_dueByLaw {l : Launch} {κ : Kx} {y : Ly} {X : XR} {post : Int32 → Wd → Prop} {w : Wd} {a1 : Nat} {a2 : Nat}  (hW : WFc κ y) (l0 : live y 0 0) (l1 : live y 6 a1) (l2 : a2 < 3) (h : sp_X1_dueByLaw κ y post w a1 a2) : Met l yX1_dueByLaw (ws_ yX1_dueByLaw cX1_dueByLaw 4 (Option.some Jvm.ClassFile.FieldType.int)) rm_X1_dueByLaw (va_Pc [.ref (y.2 0 0), .ref (y.2 6 a1), .ref (kA κ (20 + a2))] (RC κ w y X)) (va_Qi post (fun w t => Rp κ w y X [] t.heap) (Af κ)) 0 0 (Af κ) := by
  unfold sp_X1_dueByLaw at h
  refine Met.ofW (cc := cX1_dueByLaw) (maxL := 4) (ret := (Option.some Jvm.ClassFile.FieldType.int)) (by decide) rfl ?_
  intro p e s m args below meth c s₁ B hml hv
  obtain ⟨rfl, hR, hK⟩ := hv
  have hx := B.exec
  have hb := B.bytes
  have hr := B.returns
  have hts := atoms_spec (ws := ws_ yX1_dueByLaw cX1_dueByLaw 4 (Option.some Jvm.ClassFile.FieldType.int)) B.pre
  have hts : ∀ w ∈ lw_all, w.before _ s = true := fun w h => hts w (List.mem_cons_of_mem _ h)
  have hown : s.vm.findClass RX1 = some m.cls := findClass_of_methodNamed B.named
  have hlocks := B.notSynchronized
  have hS : va_S (Af κ) s.heap s.heap [] := va_S.rf
  have hl := lv_entry ([.ref (y.2 0 0), .ref (y.2 6 a1), .ref (kA κ (20 + a2))]) (n := 4) (Nat.le_of_ble_eq_true rfl)
  rw [lg_entry_eq]
  generalize (lg_sl ([.ref (y.2 0 0), .ref (y.2 6 a1), .ref (kA κ (20 + a2))]) ++ List.replicate (4 - (lg_sl ([.ref (y.2 0 0), .ref (y.2 6 a1), .ref (kA κ (20 + a2))])).length) Slot.unset).toArray = ls at hl ⊢
  have hl : lv_has ls 4 [(0, .ref (y.2 0 0)), (1, .ref (y.2 6 a1)), (2, .ref (kA κ (20 + a2)))] := hl
  refine lv_aload_n hx hb dX1_dueByLaw_0 rfl (lv_at hl 0 rfl) ?_
  refine g0_3 hx hb hts hown hK hR l0 q250 dX1_dueByLaw_1 ?_
  refine lv_aload_n hx hb dX1_dueByLaw_4 rfl (lv_at hl 2 rfl) ?_
  refine ce_s (cr_oD (rest := [.ref (y.2 5 0)]) ⟨hx, hb, hml, hown, hts⟩ hK hR l2 q595 ⟨Nat.le_of_ble_eq_true rfl, Nat.le_of_ble_eq_true rfl⟩ rfl hl.1 rfl (lv_room (Nat.le_of_ble_eq_true rfl)) dX1_dueByLaw_5 ⟨(Nat.le_of_ble_eq_true rfl), (Nat.le_of_ble_eq_true rfl)⟩) ?_
  have o_8 := h.1
  have h := h.2
  refine a5 hx hb hK hR hW.rla o_8 dX1_dueByLaw_8 ?_
  refine lv_astore_n (lv' := [(3, .ref (y.2 4 ((nI a2).toNatClampNeg))), (0, .ref (y.2 0 0)), (1, .ref (y.2 6 a1)), (2, .ref (kA κ (20 + a2)))]) hx hb dX1_dueByLaw_9 rfl hl (by decide) rfl (fun ls hl => ?_)
  refine lv_aload_n hx hb dX1_dueByLaw_10 rfl (lv_at hl 0 rfl) ?_
  refine g4_1 hx hb hts hown hK hR (hW.rul (vp_lt o_8)) q228 dX1_dueByLaw_11 ?_
  refine lv_aload_n hx hb dX1_dueByLaw_14 rfl (lv_at hl 2 rfl) ?_
  refine g6_0 hx hb hts hown hK hR l1 q920 dX1_dueByLaw_15 ?_
  refine ce_qi (fw := fun u => u) (fy := fun _ => y) (cr_S (n := 2) (As := [.int (gv w 4 (((nI a2).toNatClampNeg)) 1), .int (nI a1)]) (rest := []) ⟨hx, hb, hml, hown, hts⟩ hK hR (m_X1_has hW h) q614 q615 q74 q616 rfl rfl hds_X1_has ⟨Nat.le_of_ble_eq_true rfl, Nat.le_of_ble_eq_true rfl⟩ rfl rfl hl.1 rfl (lv_room (Nat.le_of_ble_eq_true rfl)) dX1_dueByLaw_18 ⟨(Nat.le_of_ble_eq_true rfl), (Nat.le_of_ble_eq_true rfl)⟩) hR hS (fun r_18 w_18 H locs h hR _ hS => ?_)
  refine lv_if_eq (tgt := 28) hx hb dX1_dueByLaw_21 (by decide) (fun c_21 => ?_) (fun c_21 => ?_)
  · have h := h.1 c_21
    refine lv_aload_n hx hb dX1_dueByLaw_28 rfl (lv_at hl 3 rfl) ?_
    refine lv_aload_n hx hb dX1_dueByLaw_29 rfl (lv_at hl 2 rfl) ?_
    refine lv_aload_n hx hb dX1_dueByLaw_30 rfl (lv_at hl 0 rfl) ?_
    refine g4_0 hx hb hts hown hK hR (hW.rul (vp_lt o_8)) q225 dX1_dueByLaw_31 ?_
    refine ce_qi (fw := fun u => u) (fy := fun _ => y) (cr_due (As := [.ref (y.2 6 a1), .int (gv w_18 4 (((nI a2).toNatClampNeg)) 0)]) (rest := []) ⟨hx, hb, hml, hown, hts⟩ hK hR l2 qi_ret (fun e9 => m_X18_due hW l2 l1 (h.1 e9)) ⟨rfl, rfl⟩ ⟨Nat.le_of_ble_eq_true rfl, Nat.le_of_ble_eq_true rfl⟩ (fun e9 => m_X19_due hW l2 l1 (h.2.1 e9)) ⟨rfl, rfl⟩ ⟨Nat.le_of_ble_eq_true rfl, Nat.le_of_ble_eq_true rfl⟩ (fun e9 => m_X20_due hW l2 l1 (h.2.2 e9)) ⟨rfl, rfl⟩ ⟨Nat.le_of_ble_eq_true rfl, Nat.le_of_ble_eq_true rfl⟩ q621 rfl rfl hl.1 rfl (lv_room (Nat.le_of_ble_eq_true rfl)) dX1_dueByLaw_34 ⟨(Nat.le_of_ble_eq_true rfl), (Nat.le_of_ble_eq_true rfl)⟩) hR hS (fun r_34 w_34 H locs h hR _ hS => ?_)
    refine W.widen (k := 0) (n := 0) (Nat.le_of_ble_eq_true rfl) (Nat.le_of_ble_eq_true rfl) ?_
    exact W.iret (v := r_34) hx hb hr (fun t ht hW9 => ⟨⟨r_34, w_34, rfl, h, rpt ht hR⟩, hS.F ht⟩) hS.2.2 dX1_dueByLaw_37
  · have h := h.2 c_21
    refine lv_iconst (v := (0 : Int32)) hx hb dX1_dueByLaw_24 (by decide) ?_
    refine lv_goto (tgt := 37) hx hb dX1_dueByLaw_25 (by decide) ?_
    refine W.widen (k := 0) (n := 0) (Nat.le_of_ble_eq_true rfl) (Nat.le_of_ble_eq_true rfl) ?_
    exact W.iret (v := (0 : Int32)) hx hb hr (fun t ht hW9 => ⟨⟨(0 : Int32), w_18, rfl, h, rpt ht hR⟩, hS.F ht⟩) hS.2.2 dX1_dueByLaw_37
abbrev rm_X1_told_3 : Room := { frames := 1, cells := 0, slots := 0, locals := 20 }
def sp_X1_told_3 (κ : Kx) (y : Ly) (post : Int32 → Wd → Prop) (w : Wd) (a0 : Nat) (p1 : Int32) : Prop := (p1 = (0 : Int32) → (post (gv w 6 a0 6) w)) ∧ (p1 = (1 : Int32) → (post (gv w 6 a0 7) w)) ∧ (p1 = (2 : Int32) → (post (gv w 6 a0 8) w)) ∧ (p1 = (3 : Int32) → (post (gv w 6 a0 1) w)) ∧ (p1 = (4 : Int32) → (post (gv w 6 a0 9) w)) ∧ (p1 = (5 : Int32) → (sp_X2_coins κ y (fun r_97 w_97 => post (r_97) w_97) w (((3 + a0))))) ∧ (p1 = (6 : Int32) → (post (gv w 6 a0 10) w)) ∧ (p1 = (7 : Int32) → (post (gv w 6 a0 11) w)) ∧ (p1 = (8 : Int32) → (post (gv w 6 a0 12) w)) ∧ (p1 = (9 : Int32) → (post (gv w 6 a0 13) w)) ∧ (p1 = (10 : Int32) → (sp_X1_one κ y (fun r_125 w_125 => post (r_125) w_125) w (gv w 6 a0 16))) ∧ (p1 = (11 : Int32) → (sp_X1_one κ y (fun r_133 w_133 => post (r_133) w_133) w (gv w 6 a0 17))) ∧ (p1 = (12 : Int32) → (post (gv w 6 a0 15) w)) ∧ (¬ p1 = (0 : Int32) → ¬ p1 = (1 : Int32) → ¬ p1 = (2 : Int32) → ¬ p1 = (3 : Int32) → ¬ p1 = (4 : Int32) → ¬ p1 = (5 : Int32) → ¬ p1 = (6 : Int32) → ¬ p1 = (7 : Int32) → ¬ p1 = (8 : Int32) → ¬ p1 = (9 : Int32) → ¬ p1 = (10 : Int32) → ¬ p1 = (11 : Int32) → ¬ p1 = (12 : Int32) → (post (gv w 6 a0 14) w))
theorem hds_X1_told_3 : yX1_told_3.cls ≠ "java/lang/invoke/MethodHandle" ∧ yX1_told_3.cls ≠ "java/lang/invoke/VarHandle" ∧ (parseMethodDescriptor yX1_told_3.desc).map (fun d => d.parameters.length) = some 2 := by decide +kernel
set_option maxHeartbeats 4000000 in
theorem m_X1_told_3 {l : Launch} {κ : Kx} {y : Ly} {X : XR} {post : Int32 → Wd → Prop} {w : Wd} {a0 : Nat} {p1 : Int32}  (hW : WFc κ y) (l0 : live y 6 a0) (h : sp_X1_told_3 κ y post w a0 p1) : Met l yX1_told_3 (ws_ yX1_told_3 cX1_told_3 2 (Option.some Jvm.ClassFile.FieldType.int)) rm_X1_told_3 (va_Pc [.ref (y.2 6 a0), .int (p1)] (RC κ w y X)) (va_Qi post (fun w t => Rp κ w y X [] t.heap) (Af κ)) 0 0 (Af κ) := by
  unfold sp_X1_told_3 at h
  refine Met.ofW (cc := cX1_told_3) (maxL := 2) (ret := (Option.some Jvm.ClassFile.FieldType.int)) (by decide) rfl ?_
  intro p e s m args below meth c s₁ B hml hv
  obtain ⟨rfl, hR, hK⟩ := hv
  have hx := B.exec
  have hb := B.bytes
  have hr := B.returns
  have hts := atoms_spec (ws := ws_ yX1_told_3 cX1_told_3 2 (Option.some Jvm.ClassFile.FieldType.int)) B.pre
  have hts : ∀ w ∈ lw_all, w.before _ s = true := fun w h => hts w (List.mem_cons_of_mem _ h)
  have hown : s.vm.findClass RX1 = some m.cls := findClass_of_methodNamed B.named
  have hlocks := B.notSynchronized
  have hS : va_S (Af κ) s.heap s.heap [] := va_S.rf
  have hl := lv_entry ([.ref (y.2 6 a0), .int (p1)]) (n := 2) (Nat.le_of_ble_eq_true rfl)
  rw [lg_entry_eq]
  generalize (lg_sl ([.ref (y.2 6 a0), .int (p1)]) ++ List.replicate (2 - (lg_sl ([.ref (y.2 6 a0), .int (p1)])).length) Slot.unset).toArray = ls at hl ⊢
  have hl : lv_has ls 2 [(0, .ref (y.2 6 a0)), (1, .int (p1))] := hl
  refine lv_iload_n hx hb dX1_told_3_0 rfl (lv_at hl 1 rfl) ?_
  by_cases c_1 : p1 = (0 : Int32)
  · have h := h.1 c_1
    refine lv_tableIn (off := 67) (tgt := 68) hx hb dX1_told_3_1 (by rw [c_1]; decide) (by rw [c_1]; decide) (by rw [c_1]; rfl) (by decide) ?_
    refine lv_aload_n hx hb dX1_told_3_68 rfl (lv_at hl 0 rfl) ?_
    refine g6_6 hx hb hts hown hK hR l0 q932 dX1_told_3_69 ?_
    refine W.widen (k := 0) (n := 0) (Nat.le_of_ble_eq_true rfl) (Nat.le_of_ble_eq_true rfl) ?_
    exact W.iret (v := gv w 6 a0 6) hx hb hr (fun t ht hW9 => ⟨⟨gv w 6 a0 6, w, rfl, h, rpt ht hR⟩, hS.F ht⟩) hS.2.2 dX1_told_3_72
  replace h := h.2
  by_cases c_1_a : p1 = (1 : Int32)
  · have h := h.1 c_1_a
    refine lv_tableIn (off := 72) (tgt := 73) hx hb dX1_told_3_1 (by rw [c_1_a]; decide) (by rw [c_1_a]; decide) (by rw [c_1_a]; rfl) (by decide) ?_
    refine lv_aload_n hx hb dX1_told_3_73 rfl (lv_at hl 0 rfl) ?_
    refine g6_7 hx hb hts hown hK hR l0 q934 dX1_told_3_74 ?_
    refine W.widen (k := 0) (n := 0) (Nat.le_of_ble_eq_true rfl) (Nat.le_of_ble_eq_true rfl) ?_
    exact W.iret (v := gv w 6 a0 7) hx hb hr (fun t ht hW9 => ⟨⟨gv w 6 a0 7, w, rfl, h, rpt ht hR⟩, hS.F ht⟩) hS.2.2 dX1_told_3_77
  replace h := h.2
  by_cases c_1_b : p1 = (2 : Int32)
  · have h := h.1 c_1_b
    refine lv_tableIn (off := 77) (tgt := 78) hx hb dX1_told_3_1 (by rw [c_1_b]; decide) (by rw [c_1_b]; decide) (by rw [c_1_b]; rfl) (by decide) ?_
    refine lv_aload_n hx hb dX1_told_3_78 rfl (lv_at hl 0 rfl) ?_
    refine g6_8 hx hb hts hown hK hR l0 q937 dX1_told_3_79 ?_
    refine W.widen (k := 0) (n := 0) (Nat.le_of_ble_eq_true rfl) (Nat.le_of_ble_eq_true rfl) ?_
    exact W.iret (v := gv w 6 a0 8) hx hb hr (fun t ht hW9 => ⟨⟨gv w 6 a0 8, w, rfl, h, rpt ht hR⟩, hS.F ht⟩) hS.2.2 dX1_told_3_82
  replace h := h.2
  by_cases c_1_c : p1 = (3 : Int32)
  · have h := h.1 c_1_c
    refine lv_tableIn (off := 82) (tgt := 83) hx hb dX1_told_3_1 (by rw [c_1_c]; decide) (by rw [c_1_c]; decide) (by rw [c_1_c]; rfl) (by decide) ?_
    refine lv_aload_n hx hb dX1_told_3_83 rfl (lv_at hl 0 rfl) ?_
    refine g6_1 hx hb hts hown hK hR l0 q922 dX1_told_3_84 ?_
    refine W.widen (k := 0) (n := 0) (Nat.le_of_ble_eq_true rfl) (Nat.le_of_ble_eq_true rfl) ?_
    exact W.iret (v := gv w 6 a0 1) hx hb hr (fun t ht hW9 => ⟨⟨gv w 6 a0 1, w, rfl, h, rpt ht hR⟩, hS.F ht⟩) hS.2.2 dX1_told_3_87
  replace h := h.2
  by_cases c_1_d : p1 = (4 : Int32)
  · have h := h.1 c_1_d
    refine lv_tableIn (off := 87) (tgt := 88) hx hb dX1_told_3_1 (by rw [c_1_d]; decide) (by rw [c_1_d]; decide) (by rw [c_1_d]; rfl) (by decide) ?_
    refine lv_aload_n hx hb dX1_told_3_88 rfl (lv_at hl 0 rfl) ?_
    refine g6_9 hx hb hts hown hK hR l0 q940 dX1_told_3_89 ?_
    refine W.widen (k := 0) (n := 0) (Nat.le_of_ble_eq_true rfl) (Nat.le_of_ble_eq_true rfl) ?_
    exact W.iret (v := gv w 6 a0 9) hx hb hr (fun t ht hW9 => ⟨⟨gv w 6 a0 9, w, rfl, h, rpt ht hR⟩, hS.F ht⟩) hS.2.2 dX1_told_3_92
  replace h := h.2
  by_cases c_1_e : p1 = (5 : Int32)
  · have h := h.1 c_1_e
    refine lv_tableIn (off := 92) (tgt := 93) hx hb dX1_told_3_1 (by rw [c_1_e]; decide) (by rw [c_1_e]; decide) (by rw [c_1_e]; rfl) (by decide) ?_
    refine lv_aload_n hx hb dX1_told_3_93 rfl (lv_at hl 0 rfl) ?_
    refine g6_2 hx hb hts hown hK hR l0 q925 dX1_told_3_94 ?_
    refine ce_qi (fw := fun u => u) (fy := fun _ => y) (cr_V (n := 0) (As := []) (rest := []) ⟨hx, hb, hml, hown, hts⟩ hK hR (m_X2_coins hW (hW.vch l0) h) q300 q301 q302 q78 q305 rfl rfl hd_X2_coins ⟨Nat.le_of_ble_eq_true rfl, Nat.le_of_ble_eq_true rfl⟩ (rv_ch1 hK hR (hW.vch l0) (by omega)) rfl rfl hl.1 rfl (lv_room (Nat.le_of_ble_eq_true rfl)) dX1_told_3_97 ⟨(Nat.le_of_ble_eq_true rfl), (Nat.le_of_ble_eq_true rfl)⟩) hR hS (fun r_97 w_97 H locs h hR _ hS => ?_)
    refine W.widen (k := 0) (n := 0) (Nat.le_of_ble_eq_true rfl) (Nat.le_of_ble_eq_true rfl) ?_
    exact W.iret (v := r_97) hx hb hr (fun t ht hW9 => ⟨⟨r_97, w_97, rfl, h, rpt ht hR⟩, hS.F ht⟩) hS.2.2 dX1_told_3_100
  replace h := h.2
  by_cases c_1_f : p1 = (6 : Int32)
  · have h := h.1 c_1_f
    refine lv_tableIn (off := 100) (tgt := 101) hx hb dX1_told_3_1 (by rw [c_1_f]; decide) (by rw [c_1_f]; decide) (by rw [c_1_f]; rfl) (by decide) ?_
    refine lv_aload_n hx hb dX1_told_3_101 rfl (lv_at hl 0 rfl) ?_
    refine g6_10 hx hb hts hown hK hR l0 q942 dX1_told_3_102 ?_
    refine W.widen (k := 0) (n := 0) (Nat.le_of_ble_eq_true rfl) (Nat.le_of_ble_eq_true rfl) ?_
    exact W.iret (v := gv w 6 a0 10) hx hb hr (fun t ht hW9 => ⟨⟨gv w 6 a0 10, w, rfl, h, rpt ht hR⟩, hS.F ht⟩) hS.2.2 dX1_told_3_105
  replace h := h.2
  by_cases c_1_g : p1 = (7 : Int32)
  · have h := h.1 c_1_g
    refine lv_tableIn (off := 105) (tgt := 106) hx hb dX1_told_3_1 (by rw [c_1_g]; decide) (by rw [c_1_g]; decide) (by rw [c_1_g]; rfl) (by decide) ?_
    refine lv_aload_n hx hb dX1_told_3_106 rfl (lv_at hl 0 rfl) ?_
    refine g6_11 hx hb hts hown hK hR l0 q944 dX1_told_3_107 ?_
    refine W.widen (k := 0) (n := 0) (Nat.le_of_ble_eq_true rfl) (Nat.le_of_ble_eq_true rfl) ?_
    exact W.iret (v := gv w 6 a0 11) hx hb hr (fun t ht hW9 => ⟨⟨gv w 6 a0 11, w, rfl, h, rpt ht hR⟩, hS.F ht⟩) hS.2.2 dX1_told_3_110
  replace h := h.2
  by_cases c_1_h : p1 = (8 : Int32)
  · have h := h.1 c_1_h
    refine lv_tableIn (off := 110) (tgt := 111) hx hb dX1_told_3_1 (by rw [c_1_h]; decide) (by rw [c_1_h]; decide) (by rw [c_1_h]; rfl) (by decide) ?_
    refine lv_aload_n hx hb dX1_told_3_111 rfl (lv_at hl 0 rfl) ?_
    refine g6_12 hx hb hts hown hK hR l0 q946 dX1_told_3_112 ?_
    refine W.widen (k := 0) (n := 0) (Nat.le_of_ble_eq_true rfl) (Nat.le_of_ble_eq_true rfl) ?_
    exact W.iret (v := gv w 6 a0 12) hx hb hr (fun t ht hW9 => ⟨⟨gv w 6 a0 12, w, rfl, h, rpt ht hR⟩, hS.F ht⟩) hS.2.2 dX1_told_3_115
  replace h := h.2
  by_cases c_1_i : p1 = (9 : Int32)
  · have h := h.1 c_1_i
    refine lv_tableIn (off := 115) (tgt := 116) hx hb dX1_told_3_1 (by rw [c_1_i]; decide) (by rw [c_1_i]; decide) (by rw [c_1_i]; rfl) (by decide) ?_
    refine lv_aload_n hx hb dX1_told_3_116 rfl (lv_at hl 0 rfl) ?_
    refine g6_13 hx hb hts hown hK hR l0 q949 dX1_told_3_117 ?_
    refine W.widen (k := 0) (n := 0) (Nat.le_of_ble_eq_true rfl) (Nat.le_of_ble_eq_true rfl) ?_
    exact W.iret (v := gv w 6 a0 13) hx hb hr (fun t ht hW9 => ⟨⟨gv w 6 a0 13, w, rfl, h, rpt ht hR⟩, hS.F ht⟩) hS.2.2 dX1_told_3_120
  replace h := h.2
  by_cases c_1_j : p1 = (10 : Int32)
  · have h := h.1 c_1_j
    refine lv_tableIn (off := 120) (tgt := 121) hx hb dX1_told_3_1 (by rw [c_1_j]; decide) (by rw [c_1_j]; decide) (by rw [c_1_j]; rfl) (by decide) ?_
    refine lv_aload_n hx hb dX1_told_3_121 rfl (lv_at hl 0 rfl) ?_
    refine g6_16 hx hb hts hown hK hR l0 q955 dX1_told_3_122 ?_
    refine ce_qi (fw := fun u => u) (fy := fun _ => y) (cr_S (n := 1) (As := [.int (gv w 6 a0 16)]) (rest := []) ⟨hx, hb, hml, hown, hts⟩ hK hR (m_X1_one hW h) q548 q549 q74 q550 rfl rfl hds_X1_one ⟨Nat.le_of_ble_eq_true rfl, Nat.le_of_ble_eq_true rfl⟩ rfl rfl hl.1 rfl (lv_room (Nat.le_of_ble_eq_true rfl)) dX1_told_3_125 ⟨(Nat.le_of_ble_eq_true rfl), (Nat.le_of_ble_eq_true rfl)⟩) hR hS (fun r_125 w_125 H locs h hR _ hS => ?_)
    refine W.widen (k := 0) (n := 0) (Nat.le_of_ble_eq_true rfl) (Nat.le_of_ble_eq_true rfl) ?_
    exact W.iret (v := r_125) hx hb hr (fun t ht hW9 => ⟨⟨r_125, w_125, rfl, h, rpt ht hR⟩, hS.F ht⟩) hS.2.2 dX1_told_3_128
  replace h := h.2
  by_cases c_1_k : p1 = (11 : Int32)
  · have h := h.1 c_1_k
    refine lv_tableIn (off := 128) (tgt := 129) hx hb dX1_told_3_1 (by rw [c_1_k]; decide) (by rw [c_1_k]; decide) (by rw [c_1_k]; rfl) (by decide) ?_
    refine lv_aload_n hx hb dX1_told_3_129 rfl (lv_at hl 0 rfl) ?_
    refine g6_17 hx hb hts hown hK hR l0 q957 dX1_told_3_130 ?_
    refine ce_qi (fw := fun u => u) (fy := fun _ => y) (cr_S (n := 1) (As := [.int (gv w 6 a0 17)]) (rest := []) ⟨hx, hb, hml, hown, hts⟩ hK hR (m_X1_one hW h) q548 q549 q74 q550 rfl rfl hds_X1_one ⟨Nat.le_of_ble_eq_true rfl, Nat.le_of_ble_eq_true rfl⟩ rfl rfl hl.1 rfl (lv_room (Nat.le_of_ble_eq_true rfl)) dX1_told_3_133 ⟨(Nat.le_of_ble_eq_true rfl), (Nat.le_of_ble_eq_true rfl)⟩) hR hS (fun r_133 w_133 H locs h hR _ hS => ?_)
    refine W.widen (k := 0) (n := 0) (Nat.le_of_ble_eq_true rfl) (Nat.le_of_ble_eq_true rfl) ?_
    exact W.iret (v := r_133) hx hb hr (fun t ht hW9 => ⟨⟨r_133, w_133, rfl, h, rpt ht hR⟩, hS.F ht⟩) hS.2.2 dX1_told_3_136
  replace h := h.2
  by_cases c_1_l : p1 = (12 : Int32)
  · have h := h.1 c_1_l
    refine lv_tableIn (off := 136) (tgt := 137) hx hb dX1_told_3_1 (by rw [c_1_l]; decide) (by rw [c_1_l]; decide) (by rw [c_1_l]; rfl) (by decide) ?_
    refine lv_aload_n hx hb dX1_told_3_137 rfl (lv_at hl 0 rfl) ?_
    refine g6_15 hx hb hts hown hK hR l0 q953 dX1_told_3_138 ?_
    refine W.widen (k := 0) (n := 0) (Nat.le_of_ble_eq_true rfl) (Nat.le_of_ble_eq_true rfl) ?_
    exact W.iret (v := gv w 6 a0 15) hx hb hr (fun t ht hW9 => ⟨⟨gv w 6 a0 15, w, rfl, h, rpt ht hR⟩, hS.F ht⟩) hS.2.2 dX1_told_3_141
  replace h := h.2
  replace h := h c_1 c_1_a c_1_b c_1_c c_1_d c_1_e c_1_f c_1_g c_1_h c_1_i c_1_j c_1_k c_1_l
  refine lv_tableOut (tgt := 142) hx hb dX1_told_3_1 (tb_out (lo := 0) (hi := 12) (fun v h1 h2 => by
    have h3 : v = 0 ∨ v = 1 ∨ v = 2 ∨ v = 3 ∨ v = 4 ∨ v = 5 ∨ v = 6 ∨ v = 7 ∨ v = 8 ∨ v = 9 ∨ v = 10 ∨ v = 11 ∨ v = 12 := by omega
    rcases h3 with rfl | rfl | rfl | rfl | rfl | rfl | rfl | rfl | rfl | rfl | rfl | rfl | rfl
    · exact c_1
    · exact c_1_a
    · exact c_1_b
    · exact c_1_c
    · exact c_1_d
    · exact c_1_e
    · exact c_1_f
    · exact c_1_g
    · exact c_1_h
    · exact c_1_i
    · exact c_1_j
    · exact c_1_k
    · exact c_1_l
    )) (by decide) ?_
  refine lv_aload_n hx hb dX1_told_3_142 rfl (lv_at hl 0 rfl) ?_
  refine g6_14 hx hb hts hown hK hR l0 q951 dX1_told_3_143 ?_
  refine W.widen (k := 0) (n := 0) (Nat.le_of_ble_eq_true rfl) (Nat.le_of_ble_eq_true rfl) ?_
  exact W.iret (v := gv w 6 a0 14) hx hb hr (fun t ht hW9 => ⟨⟨gv w 6 a0 14, w, rfl, h, rpt ht hR⟩, hS.F ht⟩) hS.2.2 dX1_told_3_146
abbrev rm_X1_told_4 : Room := { frames := 2, cells := 0, slots := 0, locals := 41 }
def sp_X1_told_4 (κ : Kx) (y : Ly) (post : Int32 → Wd → Prop) (w : Wd) (a0 : Nat) (p1 : Int32) : Prop := ((¬ (y.1 15 (a0) = 1)) → (((¬ p1 = (5 : Int32)) → (post ((-1 : Int32)) w)) ∧ ((p1 = (5 : Int32)) → (post ((0 : Int32)) w)))) ∧ (((y.1 15 (a0) = 1)) → ((y.1 15 (a0) = 1) ∧ (sp_X17_told κ y (fun r_15 w_15 => post (r_15) w_15) w a0 p1)))
theorem hds_X1_told_4 : yX1_told_4.cls ≠ "java/lang/invoke/MethodHandle" ∧ yX1_told_4.cls ≠ "java/lang/invoke/VarHandle" ∧ (parseMethodDescriptor yX1_told_4.desc).map (fun d => d.parameters.length) = some 2 := by decide +kernel
set_option maxHeartbeats 4000000 in
theorem m_X1_told_4 {l : Launch} {κ : Kx} {y : Ly} {X : XR} {post : Int32 → Wd → Prop} {w : Wd} {a0 : Nat} {p1 : Int32}  (hW : WFc κ y)  (h : sp_X1_told_4 κ y post w a0 p1) : Met l yX1_told_4 (ws_ yX1_told_4 cX1_told_4 2 (Option.some Jvm.ClassFile.FieldType.int)) rm_X1_told_4 (va_Pc [.ref (if y.1 15 (a0) = 1 then y.2 15 (a0) else kA κ 0), .int (p1)] (RC κ w y X)) (va_Qi post (fun w t => Rp κ w y X [] t.heap) (Af κ)) 0 0 (Af κ) := by
  unfold sp_X1_told_4 at h
  refine Met.ofW (cc := cX1_told_4) (maxL := 2) (ret := (Option.some Jvm.ClassFile.FieldType.int)) (by decide) rfl ?_
  intro p e s m args below meth c s₁ B hml hv
  obtain ⟨rfl, hR, hK⟩ := hv
  have hx := B.exec
  have hb := B.bytes
  have hr := B.returns
  have hts := atoms_spec (ws := ws_ yX1_told_4 cX1_told_4 2 (Option.some Jvm.ClassFile.FieldType.int)) B.pre
  have hts : ∀ w ∈ lw_all, w.before _ s = true := fun w h => hts w (List.mem_cons_of_mem _ h)
  have hown : s.vm.findClass RX1 = some m.cls := findClass_of_methodNamed B.named
  have hlocks := B.notSynchronized
  have hS : va_S (Af κ) s.heap s.heap [] := va_S.rf
  have hl := lv_entry ([.ref (if y.1 15 (a0) = 1 then y.2 15 (a0) else kA κ 0), .int (p1)]) (n := 2) (Nat.le_of_ble_eq_true rfl)
  rw [lg_entry_eq]
  generalize (lg_sl ([.ref (if y.1 15 (a0) = 1 then y.2 15 (a0) else kA κ 0), .int (p1)]) ++ List.replicate (2 - (lg_sl ([.ref (if y.1 15 (a0) = 1 then y.2 15 (a0) else kA κ 0), .int (p1)])).length) Slot.unset).toArray = ls at hl ⊢
  have hl : lv_has ls 2 [(0, .ref (if y.1 15 (a0) = 1 then y.2 15 (a0) else kA κ 0)), (1, .int (p1))] := hl
  refine lv_aload_n hx hb dX1_told_4_0 rfl (lv_at hl 0 rfl) ?_
  refine jr_oisPresent ⟨hx, hb, hml, hown, hts⟩ hK (op_at hK hR (a0)) q703 ⟨Nat.le_of_ble_eq_true rfl, Nat.le_of_ble_eq_true rfl⟩ hl.1 (Nat.le_of_ble_eq_true rfl) dX1_told_4_1 ⟨(Nat.le_of_ble_eq_true rfl), (Nat.le_of_ble_eq_true rfl)⟩ ?_
  rw [op_pre]
  refine lv_if_eq (tgt := 21) hx hb dX1_told_4_4 (by decide) (fun c_4 => ?_) (fun c_4 => ?_)
  · replace c_4 : ¬ (y.1 15 (a0) = 1) := bi_0.mp c_4
    have h := h.1 c_4
    refine lv_iload_n hx hb dX1_told_4_21 rfl (lv_at hl 1 rfl) ?_
    refine lv_iconst (v := (5 : Int32)) hx hb dX1_told_4_22 (by decide) ?_
    refine lv_icmp_ne (tgt := 30) hx hb dX1_told_4_23 (by decide) (fun c_23 => ?_) (fun c_23 => ?_)
    · have h := h.1 c_23
      refine lv_iconst (v := (-1 : Int32)) hx hb dX1_told_4_30 (by decide) ?_
      refine W.widen (k := 0) (n := 0) (Nat.le_of_ble_eq_true rfl) (Nat.le_of_ble_eq_true rfl) ?_
      exact W.iret (v := (-1 : Int32)) hx hb hr (fun t ht hW9 => ⟨⟨(-1 : Int32), w, rfl, h, rpt ht hR⟩, hS.F ht⟩) hS.2.2 dX1_told_4_31
    · have h := h.2 c_23
      refine lv_iconst (v := (0 : Int32)) hx hb dX1_told_4_26 (by decide) ?_
      refine lv_goto (tgt := 31) hx hb dX1_told_4_27 (by decide) ?_
      refine W.widen (k := 0) (n := 0) (Nat.le_of_ble_eq_true rfl) (Nat.le_of_ble_eq_true rfl) ?_
      exact W.iret (v := (0 : Int32)) hx hb hr (fun t ht hW9 => ⟨⟨(0 : Int32), w, rfl, h, rpt ht hR⟩, hS.F ht⟩) hS.2.2 dX1_told_4_31
  · replace c_4 : (y.1 15 (a0) = 1) := bi_n0.mp c_4
    have h := h.2 c_4
    refine lv_aload_n hx hb dX1_told_4_7 rfl (lv_at hl 0 rfl) ?_
    have o_8 := h.1
    have h := h.2
    refine jr_oget (z := y.2 16 a0) ⟨hx, hb, hml, hown, hts⟩ hK (op_at hK hR (a0)) (if_pos o_8) q519 ⟨Nat.le_of_ble_eq_true rfl, Nat.le_of_ble_eq_true rfl⟩ hl.1 (Nat.le_of_ble_eq_true rfl) dX1_told_4_8 ⟨(Nat.le_of_ble_eq_true rfl), (Nat.le_of_ble_eq_true rfl)⟩ ?_
    refine jr_castS (ci := 10) hx hb hown hK hts (hR.role (hW.lev ⟨o_8, by decide⟩)) rfl q707 dX1_told_4_11 ?_
    refine lv_iload_n hx hb dX1_told_4_14 rfl (lv_at hl 1 rfl) ?_
    refine ce_qi (fw := fun u => u) (fy := fun _ => y) (cr_V (n := 1) (As := [.int (p1)]) (rest := []) ⟨hx, hb, hml, hown, hts⟩ hK hR (m_X17_told hW (hW.lev ⟨o_8, by decide⟩) h) q708 q709 q710 q115 q711 rfl rfl hd_X17_told ⟨Nat.le_of_ble_eq_true rfl, Nat.le_of_ble_eq_true rfl⟩ (rv hK hR (hW.lev ⟨o_8, by decide⟩) (ci := 10) rfl rfl) rfl rfl hl.1 rfl (lv_room (Nat.le_of_ble_eq_true rfl)) dX1_told_4_15 ⟨(Nat.le_of_ble_eq_true rfl), (Nat.le_of_ble_eq_true rfl)⟩) hR hS (fun r_15 w_15 H locs h hR _ hS => ?_)
    refine lv_goto (tgt := 31) hx hb dX1_told_4_18 (by decide) ?_
    refine W.widen (k := 0) (n := 0) (Nat.le_of_ble_eq_true rfl) (Nat.le_of_ble_eq_true rfl) ?_
    exact W.iret (v := r_15) hx hb hr (fun t ht hW9 => ⟨⟨r_15, w_15, rfl, h, rpt ht hR⟩, hS.F ht⟩) hS.2.2 dX1_told_4_31
abbrev rm_X1_lotsOf : Room := { frames := 3, cells := 1, slots := 4, locals := 68 }
def st_X1_lotsOf_10 (κ : Kx) (y : Ly) (post : Int32 → Wd → Prop) (ex : Wd → (Int32) → Prop) (rec : Wd → Int32 → Nat → Int32 → Prop) (i1 : Nat) (w : Wd) (v2 : Int32) (c3 : Nat) (z3 : Int32) : Prop := ((¬ (¬ c3 = nL y)) → (ex w v2)) ∧ (((¬ c3 = nL y)) → (sp_X15_isLeased κ y (fun r_33 w_33 => ((r_33 = 0) → (sp_X1_one κ y (fun r_56 w_56 => ∀ x_60 : Int32, x_60 = v2 + r_56 → rec w_56 x_60 (c3 + 1) (nI c3)) w_33 (0 : Int32))) ∧ ((¬ (r_33 = 0)) → ((y.1 14 c3 = 1 ∧ live y 9 (gv w_33 14 c3 0).toNatClampNeg) ∧ (((¬ (((gv w_33 14 c3 0).toNatClampNeg) = i1)) → (sp_X1_one κ y (fun r_56_a w_56_a => ∀ x_60_a : Int32, x_60_a = v2 + r_56_a → rec w_56_a x_60_a (c3 + 1) (nI c3)) w_33 (0 : Int32))) ∧ ((((gv w_33 14 c3 0).toNatClampNeg) = i1) → (sp_X1_one κ y (fun r_56_b w_56_b => ∀ x_60_b : Int32, x_60_b = v2 + r_56_b → rec w_56_b x_60_b (c3 + 1) (nI c3)) w_33 (1 : Int32))))))) w c3))
def sp_X1_lotsOf_10 (κ : Kx) (y : Ly) (post : Int32 → Wd → Prop) (ex : Wd → (Int32) → Prop) (i1 : Nat) : Nat → Wd → Int32 → Nat → Int32 → Prop
  | 0 => fun _ _ _ _ => False
  | n + 1 => fun w v2 c3 z3 => st_X1_lotsOf_10 κ y post ex (sp_X1_lotsOf_10 κ y post ex i1 n) i1 w v2 c3 z3
set_option maxHeartbeats 4000000 in
theorem lp_X1_lotsOf_10 {p : Program} {l : Launch} {e : Env} {s : State} {m : MethodId} {args : Array Value} {below : List Frame} {meth : Method} {c : Code} {κ : Kx} {y : Ly} {X : XR} {post : Int32 → Wd → Prop} {q3 : Nat} {i1 : Nat} (hx : p.tables.exec = Jvm.exec) (hb : c.code = cX1_lotsOf) (hr : meth.sig.returnType = (Option.some Jvm.ClassFile.FieldType.int)) (hml : c.maxLocals = 5) (hown : s.vm.findClass RX1 = some m.cls) (hts : ∀ w ∈ lw_all, w.before args s = true) (hlocks : meth.locks = false) (hK : KK κ s) (hW : WFc κ y) (l1 : live y 9 i1) {C1 S1 : Nat} (hC : C1 ≤ 1) (hSl : S1 ≤ 4) {ex : Wd → (Int32) → Prop}
    (kx : ∀ (w : Wd) (v2 : Int32) (H : Heap) (locs : List Loc) (ls : Array Slot) (cells slots : Nat) , ex w v2 → Rp κ w y X [] H → va_S (Af κ) s.heap H locs → lv_has ls 5 [(2, .int (v2))] → cells ≤ C1 → slots ≤ S1 → W p l e (headSpec (ws_ yX1_lotsOf cX1_lotsOf 5 (Option.some Jvm.ClassFile.FieldType.int)) rm_X1_lotsOf).room s m args below meth c H locs cells slots (MQ below (va_Qi post (fun w t => Rp κ w y X [] t.heap) (Af κ)) args s 1 4 (Af κ)) (F0 m 64 ls [])) :
    ∀ (f : Nat) (w : Wd) (v2 : Int32) (c3 : Nat) (z3 : Int32) (H : Heap) (locs : List Loc) (ls : Array Slot) (cells slots : Nat)  (hc3 : c3 ≤ nL y), sp_X1_lotsOf_10 κ y post ex i1 f w v2 c3 z3 → Rp κ w y X [(q3, itC y 44 0 c3 z3)] H → va_S (Af κ) s.heap H locs → lv_has ls 5 [(1, .ref (y.2 9 i1)), (2, .int (v2)), (3, .ref (q3))] → cells + f * 0 ≤ C1 → slots + f * 0 ≤ S1 → W p l e (headSpec (ws_ yX1_lotsOf cX1_lotsOf 5 (Option.some Jvm.ClassFile.FieldType.int)) rm_X1_lotsOf).room s m args below meth c H locs cells slots (MQ below (va_Qi post (fun w t => Rp κ w y X [] t.heap) (Af κ)) args s 1 4 (Af κ)) (F0 m 10 ls []) := by
  intro f
  induction f with
  | zero =>
    intro w v2 c3 z3 H locs ls cells slots hc3 h
    exact False.elim h
  | succ f ih =>
    intro w v2 c3 z3 H locs ls cells slots hc3 h hR hS hl hc hs
    have h : st_X1_lotsOf_10 κ y post ex (sp_X1_lotsOf_10 κ y post ex i1 f) i1 w v2 c3 z3 := h
    unfold st_X1_lotsOf_10 at h
    refine lv_aload_n hx hb dX1_lotsOf_10 rfl (lv_at hl 2 rfl) ?_
    refine jr_hasNext (t := 0) ⟨hx, hb, hml, hown, hts⟩ hK hR rfl ⟨fun _ _ _ _ _ => rfl, fun _ _ _ _ _ => rfl⟩ hW.lsL (by omega) (Nat.le_trans hW.nL8 (by decide)) q349 ⟨Nat.le_of_ble_eq_true rfl, Nat.le_of_ble_eq_true rfl⟩ hl.1 (Nat.le_of_ble_eq_true rfl) dX1_lotsOf_11 ⟨(Nat.le_trans (show cells + 0 ≤ C1 from by omega) hC), (Nat.le_trans (show slots + 0 ≤ S1 from by omega) hSl)⟩ ?_
    refine lv_if_eq (tgt := 64) hx hb dX1_lotsOf_16 (by decide) (fun c_16 => ?_) (fun c_16 => ?_)
    · replace c_16 : ¬ (¬ c3 = nL y) := bi_0.mp c_16
      have h := h.1 c_16
      have hR := hR.sub (L' := []) [] rfl rfl
      exact kx w v2 _ _ _ _ _ h hR hS (lv_sub hl [1] rfl) (by omega) (by omega)
    · replace c_16 : (¬ c3 = nL y) := bi_n0.mp c_16
      have h := h.2 c_16
      refine lv_aload_n hx hb dX1_lotsOf_19 rfl (lv_at hl 2 rfl) ?_
      have hn_20 : c3 < nL y := by omega
      refine jr_next (t := 0) (a := y.2 11 c3) ⟨hx, hb, hml, hown, hts⟩ hK hR hS rfl ⟨fun _ _ _ _ _ => rfl, fun _ _ _ _ _ => rfl⟩ hW.lsL ⟨hW.arL (Nat.lt_of_le_of_lt (Nat.zero_le _) hn_20), (Nat.le_trans hW.nL8 (by decide))⟩ hn_20 (hW.elL hn_20) q359 ⟨Nat.le_of_ble_eq_true rfl, Nat.le_of_ble_eq_true rfl⟩ hl.1 (Nat.le_of_ble_eq_true rfl) dX1_lotsOf_20 ⟨(Nat.le_trans (show cells + 0 ≤ C1 from by omega) hC), (Nat.le_trans (show slots + 0 ≤ S1 from by omega) hSl)⟩ (fun H locs hR hS => ?_)
      have hR : Rp κ w y X [(q3, itC y 44 0 (c3 + 1) (nI c3))] H := hR
      refine jr_castS (ci := 9) hx hb hown hK hts (hR.role (hW.lot hn_20)) rfl q497 dX1_lotsOf_25 ?_
      refine lv_astore (lv' := [(4, .ref (y.2 11 c3)), (1, .ref (y.2 9 i1)), (2, .int (v2)), (3, .ref (q3))]) hx hb dX1_lotsOf_28 hl (by decide) rfl (fun ls hl => ?_)
      refine lv_iload_n hx hb dX1_lotsOf_30 rfl (lv_at hl 2 rfl) ?_
      refine lv_aload hx hb dX1_lotsOf_31 (lv_at hl 0 rfl) ?_
      refine ce_qi (fw := fun u => u) (fy := fun _ => y) (cr_V (n := 0) (As := []) (rest := [.int (v2)]) ⟨hx, hb, hml, hown, hts⟩ hK hR (m_X15_isLeased hW (hW.lot hn_20) h) q515 q516 q517 q112 q518 rfl rfl hd_X15_isLeased ⟨Nat.le_of_ble_eq_true rfl, Nat.le_of_ble_eq_true rfl⟩ (rv hK hR (hW.lot hn_20) (ci := 9) rfl rfl) rfl rfl hl.1 rfl (lv_room (Nat.le_of_ble_eq_true rfl)) dX1_lotsOf_33 ⟨(Nat.le_trans (show cells + 0 ≤ C1 from by omega) hC), (Nat.le_trans (show slots + 0 ≤ S1 from by omega) hSl)⟩) hR hS (fun r_33 w_33 H locs h hR _ hS => ?_)
      refine lv_if_eq (tgt := 55) hx hb dX1_lotsOf_36 (by decide) (fun c_36 => ?_) (fun c_36 => ?_)
      · have h := h.1 c_36
        refine lv_iconst (v := (0 : Int32)) hx hb dX1_lotsOf_55 (by decide) ?_
        refine ce_qi (fw := fun u => u) (fy := fun _ => y) (cr_S (n := 1) (As := [.int ((0 : Int32))]) (rest := [.int (v2)]) ⟨hx, hb, hml, hown, hts⟩ hK hR (m_X1_one hW h) q548 q549 q74 q550 rfl rfl hds_X1_one ⟨Nat.le_of_ble_eq_true rfl, Nat.le_of_ble_eq_true rfl⟩ rfl rfl hl.1 rfl (lv_room (Nat.le_of_ble_eq_true rfl)) dX1_lotsOf_56 ⟨(Nat.le_trans (show cells + 0 ≤ C1 from by omega) hC), (Nat.le_trans (show slots + 0 ≤ S1 from by omega) hSl)⟩) hR hS (fun r_56 w_56 H locs h hR _ hS => ?_)
        refine lv_iadd hx hb dX1_lotsOf_59 ?_
        refine lv_topi (fun x_60 ex_60 => ?_)
        have h := h x_60 ex_60
        refine lv_istore_n (lv' := [(2, .int (x_60)), (4, .ref (y.2 11 c3)), (1, .ref (y.2 9 i1)), (3, .ref (q3))]) hx hb dX1_lotsOf_60 rfl hl (by decide) rfl (fun ls hl => ?_)
        refine lv_goto (tgt := 10) hx hb dX1_lotsOf_61 (by decide) ?_
        exact ih w_56 x_60 (c3 + 1) (nI c3) _ _ _ _ _ (by omega) h hR hS (lv_sub hl [2, 0, 3] rfl) (by omega) (by omega)
      · have h := h.2 c_36
        refine lv_aload hx hb dX1_lotsOf_39 (lv_at hl 0 rfl) ?_
        refine g11_8 hx hb hts hown hK hR (hW.lot hn_20) q1269 dX1_lotsOf_41 ?_
        have o_44 := h.1
        have h := h.2
        refine jr_oget (z := y.2 9 ((gv w_33 14 c3 0).toNatClampNeg)) ⟨hx, hb, hml, hown, hts⟩ hK (ho_at hK hR c3) (if_pos o_44.1) q519 ⟨Nat.le_of_ble_eq_true rfl, Nat.le_of_ble_eq_true rfl⟩ hl.1 (Nat.le_of_ble_eq_true rfl) dX1_lotsOf_44 ⟨(Nat.le_trans (show cells + 0 ≤ C1 from by omega) hC), (Nat.le_trans (show slots + 0 ≤ S1 from by omega) hSl)⟩ ?_
        refine lv_aload_n hx hb dX1_lotsOf_47 rfl (lv_at hl 1 rfl) ?_
        refine lv_acmp_ne (rx := some (y.2 9 ((gv w_33 14 c3 0).toNatClampNeg))) (ry := some (y.2 9 i1)) (tgt := 55) hx hb dX1_lotsOf_48 (by decide) (fun c_48 => ?_) (fun c_48 => ?_)
        · replace c_48 : ¬ (((gv w_33 14 c3 0).toNatClampNeg) = i1) := fun q9 => c_48 (congrArg some (congrArg (y.2 9) q9))
          have h := h.1 c_48
          refine lv_iconst (v := (0 : Int32)) hx hb dX1_lotsOf_55 (by decide) ?_
          refine ce_qi (fw := fun u => u) (fy := fun _ => y) (cr_S (n := 1) (As := [.int ((0 : Int32))]) (rest := [.int (v2)]) ⟨hx, hb, hml, hown, hts⟩ hK hR (m_X1_one hW h) q548 q549 q74 q550 rfl rfl hds_X1_one ⟨Nat.le_of_ble_eq_true rfl, Nat.le_of_ble_eq_true rfl⟩ rfl rfl hl.1 rfl (lv_room (Nat.le_of_ble_eq_true rfl)) dX1_lotsOf_56 ⟨(Nat.le_trans (show cells + 0 ≤ C1 from by omega) hC), (Nat.le_trans (show slots + 0 ≤ S1 from by omega) hSl)⟩) hR hS (fun r_56_a w_56_a H locs h hR _ hS => ?_)
          refine lv_iadd hx hb dX1_lotsOf_59 ?_
          refine lv_topi (fun x_60_a ex_60_a => ?_)
          have h := h x_60_a ex_60_a
          refine lv_istore_n (lv' := [(2, .int (x_60_a)), (4, .ref (y.2 11 c3)), (1, .ref (y.2 9 i1)), (3, .ref (q3))]) hx hb dX1_lotsOf_60 rfl hl (by decide) rfl (fun ls hl => ?_)
          refine lv_goto (tgt := 10) hx hb dX1_lotsOf_61 (by decide) ?_
          exact ih w_56_a x_60_a (c3 + 1) (nI c3) _ _ _ _ _ (by omega) h hR hS (lv_sub hl [2, 0, 3] rfl) (by omega) (by omega)
        · replace c_48 : ((gv w_33 14 c3 0).toNatClampNeg) = i1 := (hR.inj o_44.2 l1 ((Option.some.inj c_48))).2
          have h := h.2 c_48
          refine lv_iconst (v := (1 : Int32)) hx hb dX1_lotsOf_51 (by decide) ?_
          refine lv_goto (tgt := 56) hx hb dX1_lotsOf_52 (by decide) ?_
          refine ce_qi (fw := fun u => u) (fy := fun _ => y) (cr_S (n := 1) (As := [.int ((1 : Int32))]) (rest := [.int (v2)]) ⟨hx, hb, hml, hown, hts⟩ hK hR (m_X1_one hW h) q548 q549 q74 q550 rfl rfl hds_X1_one ⟨Nat.le_of_ble_eq_true rfl, Nat.le_of_ble_eq_true rfl⟩ rfl rfl hl.1 rfl (lv_room (Nat.le_of_ble_eq_true rfl)) dX1_lotsOf_56 ⟨(Nat.le_trans (show cells + 0 ≤ C1 from by omega) hC), (Nat.le_trans (show slots + 0 ≤ S1 from by omega) hSl)⟩) hR hS (fun r_56_b w_56_b H locs h hR _ hS => ?_)
          refine lv_iadd hx hb dX1_lotsOf_59 ?_
          refine lv_topi (fun x_60_b ex_60_b => ?_)
          have h := h x_60_b ex_60_b
          refine lv_istore_n (lv' := [(2, .int (x_60_b)), (4, .ref (y.2 11 c3)), (1, .ref (y.2 9 i1)), (3, .ref (q3))]) hx hb dX1_lotsOf_60 rfl hl (by decide) rfl (fun ls hl => ?_)
          refine lv_goto (tgt := 10) hx hb dX1_lotsOf_61 (by decide) ?_
          exact ih w_56_b x_60_b (c3 + 1) (nI c3) _ _ _ _ _ (by omega) h hR hS (lv_sub hl [2, 0, 3] rfl) (by omega) (by omega)
def sp_X1_lotsOf (κ : Kx) (y : Ly) (post : Int32 → Wd → Prop) (w : Wd) (a1 : Nat) : Prop := sp_X1_lotsOf_10 κ y post (fun w_10 y2_10 => post (y2_10) w_10) a1 9 w (0 : Int32) 0 (-1)
theorem hd_X1_lotsOf : yX1_lotsOf.cls = RX1 ∧ yX1_lotsOf.cls ≠ "java/lang/invoke/MethodHandle" ∧ yX1_lotsOf.cls ≠ "java/lang/invoke/VarHandle" ∧ (parseMethodDescriptor yX1_lotsOf.desc).map (fun d => d.parameters.length) = some 1 := by decide +kernel
set_option maxHeartbeats 4000000 in
theorem m_X1_lotsOf {l : Launch} {κ : Kx} {y : Ly} {X : XR} {post : Int32 → Wd → Prop} {w : Wd} {a1 : Nat}  (hW : WFc κ y) (l0 : live y 0 0) (l1 : live y 9 a1) (h : sp_X1_lotsOf κ y post w a1) : Met l yX1_lotsOf (ws_ yX1_lotsOf cX1_lotsOf 5 (Option.some Jvm.ClassFile.FieldType.int)) rm_X1_lotsOf (va_Pc [.ref (y.2 0 0), .ref (y.2 9 a1)] (RC κ w y X)) (va_Qi post (fun w t => Rp κ w y X [] t.heap) (Af κ)) 1 4 (Af κ) := by
  unfold sp_X1_lotsOf at h
  refine Met.ofW (cc := cX1_lotsOf) (maxL := 5) (ret := (Option.some Jvm.ClassFile.FieldType.int)) (by decide) rfl ?_
  intro p e s m args below meth c s₁ B hml hv
  obtain ⟨rfl, hR, hK⟩ := hv
  have hx := B.exec
  have hb := B.bytes
  have hr := B.returns
  have hts := atoms_spec (ws := ws_ yX1_lotsOf cX1_lotsOf 5 (Option.some Jvm.ClassFile.FieldType.int)) B.pre
  have hts : ∀ w ∈ lw_all, w.before _ s = true := fun w h => hts w (List.mem_cons_of_mem _ h)
  have hown : s.vm.findClass RX1 = some m.cls := findClass_of_methodNamed B.named
  have hlocks := B.notSynchronized
  have hS : va_S (Af κ) s.heap s.heap [] := va_S.rf
  have hl := lv_entry ([.ref (y.2 0 0), .ref (y.2 9 a1)]) (n := 5) (Nat.le_of_ble_eq_true rfl)
  rw [lg_entry_eq]
  generalize (lg_sl ([.ref (y.2 0 0), .ref (y.2 9 a1)]) ++ List.replicate (5 - (lg_sl ([.ref (y.2 0 0), .ref (y.2 9 a1)])).length) Slot.unset).toArray = ls at hl ⊢
  have hl : lv_has ls 5 [(0, .ref (y.2 0 0)), (1, .ref (y.2 9 a1))] := hl
  refine lv_iconst (v := (0 : Int32)) hx hb dX1_lotsOf_0 (by decide) ?_
  refine lv_istore_n (lv' := [(2, .int ((0 : Int32))), (0, .ref (y.2 0 0)), (1, .ref (y.2 9 a1))]) hx hb dX1_lotsOf_1 rfl hl (by decide) rfl (fun ls hl => ?_)
  refine lv_aload_n hx hb dX1_lotsOf_2 rfl (lv_at hl 1 rfl) ?_
  refine g0_2 hx hb hts hown hK hR l0 q249 dX1_lotsOf_3 ?_
  refine jr_iter ⟨hx, hb, hml, hown, hts⟩ hK hR hS ⟨fun _ _ _ _ _ => rfl, fun _ _ _ _ _ => rfl⟩ hW.lsL q325 ⟨Nat.le_of_ble_eq_true rfl, Nat.le_of_ble_eq_true rfl⟩ hl.1 (Nat.le_of_ble_eq_true rfl) dX1_lotsOf_6 ⟨(Nat.le_of_ble_eq_true rfl), (Nat.le_of_ble_eq_true rfl)⟩ (fun q_6 H locs hR hS => ?_)
  have hR : Rp κ w y X [(q_6, itC y 44 0 0 (-1))] H := hR
  refine lv_astore_n (lv' := [(3, .ref (q_6)), (2, .int ((0 : Int32))), (0, .ref (y.2 0 0)), (1, .ref (y.2 9 a1))]) hx hb dX1_lotsOf_9 rfl hl (by decide) rfl (fun ls hl => ?_)
  refine lp_X1_lotsOf_10 (C1 := 1) (S1 := 4) hx hb hr hml hown hts hlocks hK hW l1 (Nat.le_of_ble_eq_true rfl) (Nat.le_of_ble_eq_true rfl) (fun w_10 y2_10 H locs ls cells9 slots9 h hR hS hl hc9 hs9 => ?_) 9 w (0 : Int32) 0 (-1) _ _ _ _ _ (by omega) h hR hS (lv_sub hl [3, 1, 0] rfl) (by omega) (by omega)
  refine W.widen (k := 1) (n := 4) hc9 hs9 ?_
  refine lv_iload_n hx hb dX1_lotsOf_64 rfl (lv_at hl 0 rfl) ?_
  refine W.widen (k := 1) (n := 4) (Nat.le_of_ble_eq_true rfl) (Nat.le_of_ble_eq_true rfl) ?_
  exact W.iret (v := y2_10) hx hb hr (fun t ht hW9 => ⟨⟨y2_10, w_10, rfl, h, rpt ht hR⟩, hS.F ht⟩) hS.2.2 dX1_lotsOf_65
abbrev rm_X1_told_6 : Room := { frames := 2, cells := 0, slots := 0, locals := 49 }
def sp_X1_told_6 (κ : Kx) (y : Ly) (post : Int32 → Wd → Prop) (w : Wd) (a0 : Nat) (p1 : Int32) : Prop := (p1 = (0 : Int32) → (((gv w 11 a0 1).toNatClampNeg < 3) ∧ (post (nI ((gv w 11 a0 1).toNatClampNeg)) w))) ∧ (p1 = (1 : Int32) → (post (gv w 11 a0 2) w)) ∧ (p1 = (2 : Int32) → (post (gv w 11 a0 3) w)) ∧ (p1 = (3 : Int32) → (post (gv w 11 a0 4) w)) ∧ (p1 = (4 : Int32) → (((gv w 11 a0 7).toNatClampNeg < 4) ∧ (post (nI ((gv w 11 a0 7).toNatClampNeg)) w))) ∧ (p1 = (5 : Int32) → (sp_X15_highest κ y (fun r_92 w_92 => post (r_92) w_92) w a0)) ∧ (p1 = (6 : Int32) → (((¬ (y.1 14 a0 = 1)) → (post ((-1 : Int32)) w)) ∧ (((y.1 14 a0 = 1)) → ((y.1 14 a0 = 1 ∧ live y 9 (gv w 14 a0 0).toNatClampNeg) ∧ (post (nI (((gv w 14 a0 0).toNatClampNeg))) w))))) ∧ (p1 = (7 : Int32) → (post (gv w 11 a0 9) w)) ∧ (p1 = (8 : Int32) → (post (gv w 11 a0 10) w)) ∧ (p1 = (9 : Int32) → (post (gv w 11 a0 13) w)) ∧ (p1 = (10 : Int32) → (sp_X15_letOn κ y (fun r_140 w_140 => post (r_140) w_140) w a0)) ∧ (¬ p1 = (0 : Int32) → ¬ p1 = (1 : Int32) → ¬ p1 = (2 : Int32) → ¬ p1 = (3 : Int32) → ¬ p1 = (4 : Int32) → ¬ p1 = (5 : Int32) → ¬ p1 = (6 : Int32) → ¬ p1 = (7 : Int32) → ¬ p1 = (8 : Int32) → ¬ p1 = (9 : Int32) → ¬ p1 = (10 : Int32) → (post (gv w 11 a0 11) w))
theorem hds_X1_told_6 : yX1_told_6.cls ≠ "java/lang/invoke/MethodHandle" ∧ yX1_told_6.cls ≠ "java/lang/invoke/VarHandle" ∧ (parseMethodDescriptor yX1_told_6.desc).map (fun d => d.parameters.length) = some 2 := by decide +kernel
set_option maxHeartbeats 4000000 in
theorem m_X1_told_6 {l : Launch} {κ : Kx} {y : Ly} {X : XR} {post : Int32 → Wd → Prop} {w : Wd} {a0 : Nat} {p1 : Int32}  (hW : WFc κ y) (l0 : live y 11 a0) (h : sp_X1_told_6 κ y post w a0 p1) : Met l yX1_told_6 (ws_ yX1_told_6 cX1_told_6 2 (Option.some Jvm.ClassFile.FieldType.int)) rm_X1_told_6 (va_Pc [.ref (y.2 11 a0), .int (p1)] (RC κ w y X)) (va_Qi post (fun w t => Rp κ w y X [] t.heap) (Af κ)) 0 0 (Af κ) := by
  unfold sp_X1_told_6 at h
  refine Met.ofW (cc := cX1_told_6) (maxL := 2) (ret := (Option.some Jvm.ClassFile.FieldType.int)) (by decide) rfl ?_
  intro p e s m args below meth c s₁ B hml hv
  obtain ⟨rfl, hR, hK⟩ := hv
  have hx := B.exec
  have hb := B.bytes
  have hr := B.returns
  have hts := atoms_spec (ws := ws_ yX1_told_6 cX1_told_6 2 (Option.some Jvm.ClassFile.FieldType.int)) B.pre
  have hts : ∀ w ∈ lw_all, w.before _ s = true := fun w h => hts w (List.mem_cons_of_mem _ h)
  have hown : s.vm.findClass RX1 = some m.cls := findClass_of_methodNamed B.named
  have hlocks := B.notSynchronized
  have hS : va_S (Af κ) s.heap s.heap [] := va_S.rf
  have hl := lv_entry ([.ref (y.2 11 a0), .int (p1)]) (n := 2) (Nat.le_of_ble_eq_true rfl)
  rw [lg_entry_eq]
  generalize (lg_sl ([.ref (y.2 11 a0), .int (p1)]) ++ List.replicate (2 - (lg_sl ([.ref (y.2 11 a0), .int (p1)])).length) Slot.unset).toArray = ls at hl ⊢
  have hl : lv_has ls 2 [(0, .ref (y.2 11 a0)), (1, .int (p1))] := hl
  refine lv_iload_n hx hb dX1_told_6_0 rfl (lv_at hl 1 rfl) ?_
  by_cases c_1 : p1 = (0 : Int32)
  · have h := h.1 c_1
    refine lv_tableIn (off := 59) (tgt := 60) hx hb dX1_told_6_1 (by rw [c_1]; decide) (by rw [c_1]; decide) (by rw [c_1]; rfl) (by decide) ?_
    refine lv_aload_n hx hb dX1_told_6_60 rfl (lv_at hl 0 rfl) ?_
    refine g11_1 hx hb hts hown hK hR l0 q1255 dX1_told_6_61 ?_
    have o_61 := h.1
    have h := h.2
    refine ce_s (cr_oD (rest := []) ⟨hx, hb, hml, hown, hts⟩ hK hR o_61 q595 ⟨Nat.le_of_ble_eq_true rfl, Nat.le_of_ble_eq_true rfl⟩ rfl hl.1 rfl (lv_room (Nat.le_of_ble_eq_true rfl)) dX1_told_6_64 ⟨(Nat.le_of_ble_eq_true rfl), (Nat.le_of_ble_eq_true rfl)⟩) ?_
    refine W.widen (k := 0) (n := 0) (Nat.le_of_ble_eq_true rfl) (Nat.le_of_ble_eq_true rfl) ?_
    exact W.iret (v := nI ((gv w 11 a0 1).toNatClampNeg)) hx hb hr (fun t ht hW9 => ⟨⟨nI ((gv w 11 a0 1).toNatClampNeg), w, rfl, h, rpt ht hR⟩, hS.F ht⟩) hS.2.2 dX1_told_6_67
  replace h := h.2
  by_cases c_1_a : p1 = (1 : Int32)
  · have h := h.1 c_1_a
    refine lv_tableIn (off := 67) (tgt := 68) hx hb dX1_told_6_1 (by rw [c_1_a]; decide) (by rw [c_1_a]; decide) (by rw [c_1_a]; rfl) (by decide) ?_
    refine lv_aload_n hx hb dX1_told_6_68 rfl (lv_at hl 0 rfl) ?_
    refine g11_2 hx hb hts hown hK hR l0 q1257 dX1_told_6_69 ?_
    refine W.widen (k := 0) (n := 0) (Nat.le_of_ble_eq_true rfl) (Nat.le_of_ble_eq_true rfl) ?_
    exact W.iret (v := gv w 11 a0 2) hx hb hr (fun t ht hW9 => ⟨⟨gv w 11 a0 2, w, rfl, h, rpt ht hR⟩, hS.F ht⟩) hS.2.2 dX1_told_6_72
  replace h := h.2
  by_cases c_1_b : p1 = (2 : Int32)
  · have h := h.1 c_1_b
    refine lv_tableIn (off := 72) (tgt := 73) hx hb dX1_told_6_1 (by rw [c_1_b]; decide) (by rw [c_1_b]; decide) (by rw [c_1_b]; rfl) (by decide) ?_
    refine lv_aload_n hx hb dX1_told_6_73 rfl (lv_at hl 0 rfl) ?_
    refine g11_3 hx hb hts hown hK hR l0 q1259 dX1_told_6_74 ?_
    refine W.widen (k := 0) (n := 0) (Nat.le_of_ble_eq_true rfl) (Nat.le_of_ble_eq_true rfl) ?_
    exact W.iret (v := gv w 11 a0 3) hx hb hr (fun t ht hW9 => ⟨⟨gv w 11 a0 3, w, rfl, h, rpt ht hR⟩, hS.F ht⟩) hS.2.2 dX1_told_6_77
  replace h := h.2
  by_cases c_1_c : p1 = (3 : Int32)
  · have h := h.1 c_1_c
    refine lv_tableIn (off := 77) (tgt := 78) hx hb dX1_told_6_1 (by rw [c_1_c]; decide) (by rw [c_1_c]; decide) (by rw [c_1_c]; rfl) (by decide) ?_
    refine lv_aload_n hx hb dX1_told_6_78 rfl (lv_at hl 0 rfl) ?_
    refine g11_4 hx hb hts hown hK hR l0 q1261 dX1_told_6_79 ?_
    refine W.widen (k := 0) (n := 0) (Nat.le_of_ble_eq_true rfl) (Nat.le_of_ble_eq_true rfl) ?_
    exact W.iret (v := gv w 11 a0 4) hx hb hr (fun t ht hW9 => ⟨⟨gv w 11 a0 4, w, rfl, h, rpt ht hR⟩, hS.F ht⟩) hS.2.2 dX1_told_6_82
  replace h := h.2
  by_cases c_1_d : p1 = (4 : Int32)
  · have h := h.1 c_1_d
    refine lv_tableIn (off := 82) (tgt := 83) hx hb dX1_told_6_1 (by rw [c_1_d]; decide) (by rw [c_1_d]; decide) (by rw [c_1_d]; rfl) (by decide) ?_
    refine lv_aload_n hx hb dX1_told_6_83 rfl (lv_at hl 0 rfl) ?_
    refine g11_7 hx hb hts hown hK hR l0 q1267 dX1_told_6_84 ?_
    have o_87 := h.1
    have h := h.2
    refine ce_s (cr_oS (rest := []) ⟨hx, hb, hml, hown, hts⟩ hK hR o_87 q744 ⟨Nat.le_of_ble_eq_true rfl, Nat.le_of_ble_eq_true rfl⟩ rfl hl.1 rfl (lv_room (Nat.le_of_ble_eq_true rfl)) dX1_told_6_87 ⟨(Nat.le_of_ble_eq_true rfl), (Nat.le_of_ble_eq_true rfl)⟩) ?_
    refine W.widen (k := 0) (n := 0) (Nat.le_of_ble_eq_true rfl) (Nat.le_of_ble_eq_true rfl) ?_
    exact W.iret (v := nI ((gv w 11 a0 7).toNatClampNeg)) hx hb hr (fun t ht hW9 => ⟨⟨nI ((gv w 11 a0 7).toNatClampNeg), w, rfl, h, rpt ht hR⟩, hS.F ht⟩) hS.2.2 dX1_told_6_90
  replace h := h.2
  by_cases c_1_e : p1 = (5 : Int32)
  · have h := h.1 c_1_e
    refine lv_tableIn (off := 90) (tgt := 91) hx hb dX1_told_6_1 (by rw [c_1_e]; decide) (by rw [c_1_e]; decide) (by rw [c_1_e]; rfl) (by decide) ?_
    refine lv_aload_n hx hb dX1_told_6_91 rfl (lv_at hl 0 rfl) ?_
    refine ce_qi (fw := fun u => u) (fy := fun _ => y) (cr_V (n := 0) (As := []) (rest := []) ⟨hx, hb, hml, hown, hts⟩ hK hR (m_X15_highest hW l0 h) q747 q748 q749 q112 q750 rfl rfl hd_X15_highest ⟨Nat.le_of_ble_eq_true rfl, Nat.le_of_ble_eq_true rfl⟩ (rv hK hR l0 (ci := 9) rfl rfl) rfl rfl hl.1 rfl (lv_room (Nat.le_of_ble_eq_true rfl)) dX1_told_6_92 ⟨(Nat.le_of_ble_eq_true rfl), (Nat.le_of_ble_eq_true rfl)⟩) hR hS (fun r_92 w_92 H locs h hR _ hS => ?_)
    refine W.widen (k := 0) (n := 0) (Nat.le_of_ble_eq_true rfl) (Nat.le_of_ble_eq_true rfl) ?_
    exact W.iret (v := r_92) hx hb hr (fun t ht hW9 => ⟨⟨r_92, w_92, rfl, h, rpt ht hR⟩, hS.F ht⟩) hS.2.2 dX1_told_6_95
  replace h := h.2
  by_cases c_1_f : p1 = (6 : Int32)
  · have h := h.1 c_1_f
    refine lv_tableIn (off := 95) (tgt := 96) hx hb dX1_told_6_1 (by rw [c_1_f]; decide) (by rw [c_1_f]; decide) (by rw [c_1_f]; rfl) (by decide) ?_
    refine lv_aload_n hx hb dX1_told_6_96 rfl (lv_at hl 0 rfl) ?_
    refine g11_8 hx hb hts hown hK hR l0 q1269 dX1_told_6_97 ?_
    refine jr_oisPresent ⟨hx, hb, hml, hown, hts⟩ hK (ho_at hK hR a0) q703 ⟨Nat.le_of_ble_eq_true rfl, Nat.le_of_ble_eq_true rfl⟩ hl.1 (Nat.le_of_ble_eq_true rfl) dX1_told_6_100 ⟨(Nat.le_of_ble_eq_true rfl), (Nat.le_of_ble_eq_true rfl)⟩ ?_
    rw [op_pre]
    refine lv_if_eq (tgt := 122) hx hb dX1_told_6_103 (by decide) (fun c_103 => ?_) (fun c_103 => ?_)
    · replace c_103 : ¬ (y.1 14 a0 = 1) := bi_0.mp c_103
      have h := h.1 c_103
      refine lv_iconst (v := (-1 : Int32)) hx hb dX1_told_6_122 (by decide) ?_
      refine W.widen (k := 0) (n := 0) (Nat.le_of_ble_eq_true rfl) (Nat.le_of_ble_eq_true rfl) ?_
      exact W.iret (v := (-1 : Int32)) hx hb hr (fun t ht hW9 => ⟨⟨(-1 : Int32), w, rfl, h, rpt ht hR⟩, hS.F ht⟩) hS.2.2 dX1_told_6_123
    · replace c_103 : (y.1 14 a0 = 1) := bi_n0.mp c_103
      have h := h.2 c_103
      refine lv_aload_n hx hb dX1_told_6_106 rfl (lv_at hl 0 rfl) ?_
      refine g11_8 hx hb hts hown hK hR l0 q1269 dX1_told_6_107 ?_
      have o_110 := h.1
      have h := h.2
      refine jr_oget (z := y.2 9 ((gv w 14 a0 0).toNatClampNeg)) ⟨hx, hb, hml, hown, hts⟩ hK (ho_at hK hR a0) (if_pos o_110.1) q519 ⟨Nat.le_of_ble_eq_true rfl, Nat.le_of_ble_eq_true rfl⟩ hl.1 (Nat.le_of_ble_eq_true rfl) dX1_told_6_110 ⟨(Nat.le_of_ble_eq_true rfl), (Nat.le_of_ble_eq_true rfl)⟩ ?_
      refine jr_castS (ci := 7) hx hb hown hK hts (hR.role o_110.2) rfl q371 dX1_told_6_113 ?_
      refine g9_0 hx hb hts hown hK hR o_110.2 q1122 dX1_told_6_116 ?_
      refine lv_goto (tgt := 123) hx hb dX1_told_6_119 (by decide) ?_
      refine W.widen (k := 0) (n := 0) (Nat.le_of_ble_eq_true rfl) (Nat.le_of_ble_eq_true rfl) ?_
      exact W.iret (v := nI (((gv w 14 a0 0).toNatClampNeg))) hx hb hr (fun t ht hW9 => ⟨⟨nI (((gv w 14 a0 0).toNatClampNeg)), w, rfl, h, rpt ht hR⟩, hS.F ht⟩) hS.2.2 dX1_told_6_123
  replace h := h.2
  by_cases c_1_g : p1 = (7 : Int32)
  · have h := h.1 c_1_g
    refine lv_tableIn (off := 123) (tgt := 124) hx hb dX1_told_6_1 (by rw [c_1_g]; decide) (by rw [c_1_g]; decide) (by rw [c_1_g]; rfl) (by decide) ?_
    refine lv_aload_n hx hb dX1_told_6_124 rfl (lv_at hl 0 rfl) ?_
    refine g11_9 hx hb hts hown hK hR l0 q1271 dX1_told_6_125 ?_
    refine W.widen (k := 0) (n := 0) (Nat.le_of_ble_eq_true rfl) (Nat.le_of_ble_eq_true rfl) ?_
    exact W.iret (v := gv w 11 a0 9) hx hb hr (fun t ht hW9 => ⟨⟨gv w 11 a0 9, w, rfl, h, rpt ht hR⟩, hS.F ht⟩) hS.2.2 dX1_told_6_128
  replace h := h.2
  by_cases c_1_h : p1 = (8 : Int32)
  · have h := h.1 c_1_h
    refine lv_tableIn (off := 128) (tgt := 129) hx hb dX1_told_6_1 (by rw [c_1_h]; decide) (by rw [c_1_h]; decide) (by rw [c_1_h]; rfl) (by decide) ?_
    refine lv_aload_n hx hb dX1_told_6_129 rfl (lv_at hl 0 rfl) ?_
    refine g11_10 hx hb hts hown hK hR l0 q1273 dX1_told_6_130 ?_
    refine W.widen (k := 0) (n := 0) (Nat.le_of_ble_eq_true rfl) (Nat.le_of_ble_eq_true rfl) ?_
    exact W.iret (v := gv w 11 a0 10) hx hb hr (fun t ht hW9 => ⟨⟨gv w 11 a0 10, w, rfl, h, rpt ht hR⟩, hS.F ht⟩) hS.2.2 dX1_told_6_133
  replace h := h.2
  by_cases c_1_i : p1 = (9 : Int32)
  · have h := h.1 c_1_i
    refine lv_tableIn (off := 133) (tgt := 134) hx hb dX1_told_6_1 (by rw [c_1_i]; decide) (by rw [c_1_i]; decide) (by rw [c_1_i]; rfl) (by decide) ?_
    refine lv_aload_n hx hb dX1_told_6_134 rfl (lv_at hl 0 rfl) ?_
    refine g11_13 hx hb hts hown hK hR l0 q1276 dX1_told_6_135 ?_
    refine W.widen (k := 0) (n := 0) (Nat.le_of_ble_eq_true rfl) (Nat.le_of_ble_eq_true rfl) ?_
    exact W.iret (v := gv w 11 a0 13) hx hb hr (fun t ht hW9 => ⟨⟨gv w 11 a0 13, w, rfl, h, rpt ht hR⟩, hS.F ht⟩) hS.2.2 dX1_told_6_138
  replace h := h.2
  by_cases c_1_j : p1 = (10 : Int32)
  · have h := h.1 c_1_j
    refine lv_tableIn (off := 138) (tgt := 139) hx hb dX1_told_6_1 (by rw [c_1_j]; decide) (by rw [c_1_j]; decide) (by rw [c_1_j]; rfl) (by decide) ?_
    refine lv_aload_n hx hb dX1_told_6_139 rfl (lv_at hl 0 rfl) ?_
    refine ce_qi (fw := fun u => u) (fy := fun _ => y) (cr_V (n := 0) (As := []) (rest := []) ⟨hx, hb, hml, hown, hts⟩ hK hR (m_X15_letOn hW l0 h) q752 q753 q754 q112 q755 rfl rfl hd_X15_letOn ⟨Nat.le_of_ble_eq_true rfl, Nat.le_of_ble_eq_true rfl⟩ (rv hK hR l0 (ci := 9) rfl rfl) rfl rfl hl.1 rfl (lv_room (Nat.le_of_ble_eq_true rfl)) dX1_told_6_140 ⟨(Nat.le_of_ble_eq_true rfl), (Nat.le_of_ble_eq_true rfl)⟩) hR hS (fun r_140 w_140 H locs h hR _ hS => ?_)
    refine W.widen (k := 0) (n := 0) (Nat.le_of_ble_eq_true rfl) (Nat.le_of_ble_eq_true rfl) ?_
    exact W.iret (v := r_140) hx hb hr (fun t ht hW9 => ⟨⟨r_140, w_140, rfl, h, rpt ht hR⟩, hS.F ht⟩) hS.2.2 dX1_told_6_143
  replace h := h.2
  replace h := h c_1 c_1_a c_1_b c_1_c c_1_d c_1_e c_1_f c_1_g c_1_h c_1_i c_1_j
  refine lv_tableOut (tgt := 144) hx hb dX1_told_6_1 (tb_out (lo := 0) (hi := 10) (fun v h1 h2 => by
    have h3 : v = 0 ∨ v = 1 ∨ v = 2 ∨ v = 3 ∨ v = 4 ∨ v = 5 ∨ v = 6 ∨ v = 7 ∨ v = 8 ∨ v = 9 ∨ v = 10 := by omega
    rcases h3 with rfl | rfl | rfl | rfl | rfl | rfl | rfl | rfl | rfl | rfl | rfl
    · exact c_1
    · exact c_1_a
    · exact c_1_b
    · exact c_1_c
    · exact c_1_d
    · exact c_1_e
    · exact c_1_f
    · exact c_1_g
    · exact c_1_h
    · exact c_1_i
    · exact c_1_j
    )) (by decide) ?_
  refine lv_aload_n hx hb dX1_told_6_144 rfl (lv_at hl 0 rfl) ?_
  refine g11_11 hx hb hts hown hK hR l0 q1274 dX1_told_6_145 ?_
  refine W.widen (k := 0) (n := 0) (Nat.le_of_ble_eq_true rfl) (Nat.le_of_ble_eq_true rfl) ?_
  exact W.iret (v := gv w 11 a0 11) hx hb hr (fun t ht hW9 => ⟨⟨gv w 11 a0 11, w, rfl, h, rpt ht hR⟩, hS.F ht⟩) hS.2.2 dX1_told_6_148
abbrev rm_X1_villageOf : Room := { frames := 7, cells := 1, slots := 6, locals := 112 }
def sp_X1_villageOf (κ : Kx) (y : Ly) (post : Nat → Wd → Prop) (px : String → Wd → Prop) (w : Wd) (p1 : Int32) : Prop := sp_X1_index κ y (fun r_14 w_14 => (vp_in (r_14) (nV y)) ∧ (post (((r_14).toNatClampNeg)) w_14)) px w p1 (nI (nV y))
theorem hd_X1_villageOf : yX1_villageOf.cls = RX1 ∧ yX1_villageOf.cls ≠ "java/lang/invoke/MethodHandle" ∧ yX1_villageOf.cls ≠ "java/lang/invoke/VarHandle" ∧ (parseMethodDescriptor yX1_villageOf.desc).map (fun d => d.parameters.length) = some 1 := by decide +kernel
set_option maxHeartbeats 4000000 in
theorem m_X1_villageOf {l : Launch} {κ : Kx} {y : Ly} {X : XR} {post : Nat → Wd → Prop} {px : String → Wd → Prop} {w : Wd} {p1 : Int32}  (hfl : l.stackTraces = false) (hW : WFc κ y) (l0 : live y 0 0) (h : sp_X1_villageOf κ y post px w p1) : vx_Met l yX1_villageOf (ws_ yX1_villageOf cX1_villageOf 2 (Option.some (Jvm.ClassFile.FieldType.object "Publicanry$Village"))) rm_X1_villageOf (va_Pc [.ref (y.2 0 0), .int (p1)] (RC κ w y X)) (va_Qr (fun u : Nat × Wd => post u.1 u.2) (fun u ra t => Rp κ u.2 y X [] t.heap ∧ (ra = y.2 6 u.1 ∧ live y 6 u.1)) (Af κ)) (XCk κ y X px) 1 6 (Af κ) := by
  unfold sp_X1_villageOf at h
  refine vx_ofW (cc := cX1_villageOf) (maxL := 2) (ret := (Option.some (Jvm.ClassFile.FieldType.object "Publicanry$Village"))) (by decide) rfl ?_
  intro p e s m args below meth c s₁ B hml ht hv
  obtain ⟨rfl, hR, hK⟩ := hv
  have hx := B.exec
  have hb := B.bytes
  have hr := B.returns
  have hts := atoms_spec (ws := ws_ yX1_villageOf cX1_villageOf 2 (Option.some (Jvm.ClassFile.FieldType.object "Publicanry$Village"))) B.pre
  have hts : ∀ w ∈ lw_all, w.before _ s = true := fun w h => hts w (List.mem_cons_of_mem _ h)
  have hown : s.vm.findClass RX1 = some m.cls := findClass_of_methodNamed B.named
  have hlocks := B.notSynchronized
  have hR0 := hR
  have hS : va_S (Af κ) s.heap s.heap [] := va_S.rf
  have hl := lv_entry ([.ref (y.2 0 0), .int (p1)]) (n := 2) (Nat.le_of_ble_eq_true rfl)
  rw [lg_entry_eq]
  generalize (lg_sl ([.ref (y.2 0 0), .int (p1)]) ++ List.replicate (2 - (lg_sl ([.ref (y.2 0 0), .int (p1)])).length) Slot.unset).toArray = ls at hl ⊢
  have hl : lv_has ls 2 [(0, .ref (y.2 0 0)), (1, .int (p1))] := hl
  refine lv_aload_n hx hb dX1_villageOf_0 rfl (lv_at hl 0 rfl) ?_
  refine g0_0 hx hb hts hown hK hR l0 q247 dX1_villageOf_1 ?_
  refine lv_iload_n hx hb dX1_villageOf_4 rfl (lv_at hl 1 rfl) ?_
  refine lv_aload_n hx hb dX1_villageOf_5 rfl (lv_at hl 0 rfl) ?_
  refine g0_0 hx hb hts hown hK hR l0 q247 dX1_villageOf_6 ?_
  refine jr_size ⟨hx, hb, hml, hown, hts⟩ hK hR ⟨fun _ _ _ _ _ => rfl, fun _ _ _ _ _ => rfl⟩ hW.lsV q536 ⟨Nat.le_of_ble_eq_true rfl, Nat.le_of_ble_eq_true rfl⟩ hl.1 (Nat.le_of_ble_eq_true rfl) dX1_villageOf_9 ⟨(Nat.le_of_ble_eq_true rfl), (Nat.le_of_ble_eq_true rfl)⟩ ?_
  refine jr_ldcS (own := "Publicanry") (k := 98) (tx := "village") (n := 1098) hx hb hown hK (List.mem_of_getElem? (i := 0) rfl) dX1_villageOf_12 ?_
  refine cex_qi (fw := fun u => u) (fy := fun _ => y) (crx_S (n := 3) (As := [.int (p1), .int (nI (nV y)), .ref (kA κ 1098)]) (rest := [.ref (y.2 40 0)]) ⟨hx, hb, hml, hown, hts⟩ hK hR (m_X1_index hfl hW h) q1033 q1034 q74 q1035 rfl rfl hds_X1_index ⟨Nat.le_of_ble_eq_true rfl, Nat.le_of_ble_eq_true rfl⟩ rfl rfl hl.1 rfl (lv_room (Nat.le_of_ble_eq_true rfl)) dX1_villageOf_14 ⟨(Nat.le_of_ble_eq_true rfl), (Nat.le_of_ble_eq_true rfl)⟩) hR hS ht hlocks (Nat.le_of_ble_eq_true rfl) (Nat.le_of_ble_eq_true rfl) (fun r_14 w_14 H locs h hR _ hS => ?_)
  have o_17 := h.1
  have h := h.2
  refine jr_get (a := y.2 6 ((r_14).toNatClampNeg)) ⟨hx, hb, hml, hown, hts⟩ hK hR ⟨fun _ _ _ _ _ => rfl, fun _ _ _ _ _ => rfl⟩ hW.lsV ⟨hW.arV (Nat.lt_of_le_of_lt (Nat.zero_le _) (vp_lt o_17)), (Nat.le_trans hW.nV8 (by decide))⟩ o_17 (hW.elV (vp_lt o_17)) q685 ⟨Nat.le_of_ble_eq_true rfl, Nat.le_of_ble_eq_true rfl⟩ hl.1 (Nat.le_of_ble_eq_true rfl) dX1_villageOf_17 ⟨(Nat.le_of_ble_eq_true rfl), (Nat.le_of_ble_eq_true rfl)⟩ ?_
  refine jr_castS (ci := 6) hx hb hown hK hts (hR.role (hW.vil (vp_lt o_17))) rfl q496 dX1_villageOf_20 ?_
  refine W.widen (k := 1) (n := 6) (Nat.le_of_ble_eq_true rfl) (Nat.le_of_ble_eq_true rfl) ?_
  refine vx_ret ?_; exact W.aret hx hb hr (Or.inl ⟨_, rfl⟩) (Or.inr ⟨_, rfl⟩) (fun t ht hW9 => ⟨⟨(((r_14).toNatClampNeg), w_14), _, rfl, h, rpt ht hR, rfl, (hW.vil (vp_lt o_17))⟩, hS.F ht⟩) hS.2.2 dX1_villageOf_23
abbrev rm_X1_survey : Room := { frames := 8, cells := 1, slots := 6, locals := 133 }
def sp_X1_survey (κ : Kx) (y : Ly) (post : Int32 → Wd → Prop) (px : String → Wd → Prop) (w : Wd) (p1 : Int32) : Prop := sp_X1_villageOf κ y (fun i_2 w_2 => ∀ x_10 : Int32, x_10 = gv w_2 6 i_2 12 → sp_X2_pay κ y (fun r_28 w_28 => ∀ w_37 : Wd, w_37 = sv w_28 6 i_2 12 (gv w_28 6 i_2 7) → post (x_10) w_37) w_2 1 0 ((2 : Int32) + ((gv w_2 6 i_2 7) / (50 : Int32)))) px w p1
theorem hd_X1_survey : yX1_survey.cls = RX1 ∧ yX1_survey.cls ≠ "java/lang/invoke/MethodHandle" ∧ yX1_survey.cls ≠ "java/lang/invoke/VarHandle" ∧ (parseMethodDescriptor yX1_survey.desc).map (fun d => d.parameters.length) = some 1 := by decide +kernel
set_option maxHeartbeats 4000000 in
theorem m_X1_survey {l : Launch} {κ : Kx} {y : Ly} {X : XR} {post : Int32 → Wd → Prop} {px : String → Wd → Prop} {w : Wd} {p1 : Int32}  (hfl : l.stackTraces = false) (hW : WFc κ y) (l0 : live y 0 0) (h : sp_X1_survey κ y post px w p1) : vx_Met l yX1_survey (ws_ yX1_survey cX1_survey 4 (Option.some Jvm.ClassFile.FieldType.int)) rm_X1_survey (va_Pc [.ref (y.2 0 0), .int (p1)] (RC κ w y X)) (va_Qi post (fun w t => Rp κ w y X [] t.heap) (Af κ)) (XCk κ y X px) 1 6 (Af κ) := by
  unfold sp_X1_survey at h
  refine vx_ofW (cc := cX1_survey) (maxL := 4) (ret := (Option.some Jvm.ClassFile.FieldType.int)) (by decide) rfl ?_
  intro p e s m args below meth c s₁ B hml ht hv
  obtain ⟨rfl, hR, hK⟩ := hv
  have hx := B.exec
  have hb := B.bytes
  have hr := B.returns
  have hts := atoms_spec (ws := ws_ yX1_survey cX1_survey 4 (Option.some Jvm.ClassFile.FieldType.int)) B.pre
  have hts : ∀ w ∈ lw_all, w.before _ s = true := fun w h => hts w (List.mem_cons_of_mem _ h)
  have hown : s.vm.findClass RX1 = some m.cls := findClass_of_methodNamed B.named
  have hlocks := B.notSynchronized
  have hR0 := hR
  have hS : va_S (Af κ) s.heap s.heap [] := va_S.rf
  have hl := lv_entry ([.ref (y.2 0 0), .int (p1)]) (n := 4) (Nat.le_of_ble_eq_true rfl)
  rw [lg_entry_eq]
  generalize (lg_sl ([.ref (y.2 0 0), .int (p1)]) ++ List.replicate (4 - (lg_sl ([.ref (y.2 0 0), .int (p1)])).length) Slot.unset).toArray = ls at hl ⊢
  have hl : lv_has ls 4 [(0, .ref (y.2 0 0)), (1, .int (p1))] := hl
  refine lv_aload_n hx hb dX1_survey_0 rfl (lv_at hl 0 rfl) ?_
  refine lv_iload_n hx hb dX1_survey_1 rfl (lv_at hl 1 rfl) ?_
  refine cex_qr (fw := fun u : Nat × Wd => u.2) (fy := fun _ => y) (P := (fun (u : Nat × Wd) ra => ra = y.2 6 u.1 ∧ live y 6 u.1)) (crx_V (n := 1) (As := [.int (p1)]) (rest := []) ⟨hx, hb, hml, hown, hts⟩ hK hR (m_X1_villageOf hfl hW l0 h) q1029 q1031 qs20 q74 q1032 rfl rfl hd_X1_villageOf ⟨Nat.le_of_ble_eq_true rfl, Nat.le_of_ble_eq_true rfl⟩ (rv hK hR l0 (ci := 0) rfl rfl) rfl rfl hl.1 rfl (lv_room (Nat.le_of_ble_eq_true rfl)) dX1_survey_2 ⟨(Nat.le_of_ble_eq_true rfl), (Nat.le_of_ble_eq_true rfl)⟩) hR hS ht hlocks (Nat.le_of_ble_eq_true rfl) (Nat.le_of_ble_eq_true rfl) (fun u9 a_2 H locs h p9 hR _ hS => ?_)
  obtain ⟨i_2, w_2⟩ := u9
  obtain ⟨e9, lv_2⟩ := p9
  dsimp only at e9 lv_2
  subst e9
  refine lv_astore_n (lv' := [(2, .ref (y.2 6 i_2)), (0, .ref (y.2 0 0)), (1, .int (p1))]) hx hb dX1_survey_5 rfl hl (by decide) rfl (fun ls hl => ?_)
  refine lv_aload_n hx hb dX1_survey_6 rfl (lv_at hl 0 rfl) ?_
  refine g6_12 hx hb hts hown hK hR lv_2 q946 dX1_survey_7 ?_
  refine lv_topi (fun x_10 ex_10 => ?_)
  have h := h x_10 ex_10
  refine lv_istore_n (lv' := [(3, .int (x_10)), (2, .ref (y.2 6 i_2)), (0, .ref (y.2 0 0)), (1, .int (p1))]) hx hb dX1_survey_10 rfl hl (by decide) rfl (fun ls hl => ?_)
  refine lv_aload_n hx hb dX1_survey_11 rfl (lv_at hl 2 rfl) ?_
  refine g0_5 hx hb hts hown hK hR l0 q252 dX1_survey_12 ?_
  refine lv_aload_n hx hb dX1_survey_15 rfl (lv_at hl 2 rfl) ?_
  refine g0_4 hx hb hts hown hK hR l0 q251 dX1_survey_16 ?_
  refine lv_iconst (v := (2 : Int32)) hx hb dX1_survey_19 (by decide) ?_
  refine lv_aload_n hx hb dX1_survey_20 rfl (lv_at hl 1 rfl) ?_
  refine g6_7 hx hb hts hown hK hR lv_2 q934 dX1_survey_21 ?_
  refine lv_bipush (v := (50 : Int32)) hx hb dX1_survey_24 (by decide) ?_
  refine lv_idiv hx hb dX1_survey_26 (by decide) ?_
  refine lv_iadd hx hb dX1_survey_27 ?_
  refine ce_qi (fw := fun u => u) (fy := fun _ => y) (cr_V (n := 2) (As := [.ref (y.2 1 0), .int ((2 : Int32) + ((gv w_2 6 i_2 7) / (50 : Int32)))]) (rest := []) ⟨hx, hb, hml, hown, hts⟩ hK hR (m_X2_pay hW hW.tre hW.wor (by first | omega | assumption) h) q306 q307 q308 q78 q320 rfl rfl hd_X2_pay ⟨Nat.le_of_ble_eq_true rfl, Nat.le_of_ble_eq_true rfl⟩ (rv_ch1 hK hR hW.tre (by omega)) rfl rfl hl.1 rfl (lv_room (Nat.le_of_ble_eq_true rfl)) dX1_survey_28 ⟨(Nat.le_of_ble_eq_true rfl), (Nat.le_of_ble_eq_true rfl)⟩) hR hS (fun r_28 w_28 H locs h hR _ hS => ?_)
  refine lv_pop hx hb dX1_survey_31 rfl ?_
  refine lv_aload_n hx hb dX1_survey_32 rfl (lv_at hl 1 rfl) ?_
  refine lv_aload_n hx hb dX1_survey_33 rfl (lv_at hl 1 rfl) ?_
  refine g6_7 hx hb hts hown hK hR lv_2 q934 dX1_survey_34 ?_
  refine p6_12 hx hb hts hown hK hR hS lv_2 q946 dX1_survey_37 (fun H locs w_37 ew_37 hR hS => ?_)
  have h := h w_37 ew_37
  refine lv_iload_n hx hb dX1_survey_40 rfl (lv_at hl 0 rfl) ?_
  refine W.widen (k := 1) (n := 6) (Nat.le_of_ble_eq_true rfl) (Nat.le_of_ble_eq_true rfl) ?_
  refine vx_ret ?_; exact W.iret (v := x_10) hx hb hr (fun t ht hW9 => ⟨⟨x_10, w_37, rfl, h, rpt ht hR⟩, hS.F ht⟩) hS.2.2 dX1_survey_41
abbrev rm_X1_war : Room := { frames := 7, cells := 2, slots := 10, locals := 111 }
def st_X1_war_20 (κ : Kx) (y : Ly) (post : Int32 → Wd → Prop) (px : String → Wd → Prop) (ex : Wd → (Int32) → Prop) (rec : Wd → Int32 → Nat → Int32 → Prop) (v1 : Int32) (w : Wd) (v2 : Int32) (c3 : Nat) (z3 : Int32) : Prop := ((¬ (¬ c3 = nV y)) → (ex w v2)) ∧ (((¬ c3 = nV y)) → (sp_X1_has κ y (fun r_52 w_52 => (nbo ((gv w 6 c3 17) ||| r_52)) ∧ (∀ w_56 : Wd, w_56 = sv w_52 6 c3 17 ((gv w 6 c3 17) ||| r_52) → sp_X1_one κ y (fun r_65 w_65 => ∀ x_69 : Int32, x_69 = v2 + r_65 → rec w_65 x_69 (c3 + 1) (nI c3)) w_56 (gv w_56 6 c3 17))) w v1 (nI c3)))
def sp_X1_war_20 (κ : Kx) (y : Ly) (post : Int32 → Wd → Prop) (px : String → Wd → Prop) (ex : Wd → (Int32) → Prop) (v1 : Int32) : Nat → Wd → Int32 → Nat → Int32 → Prop
  | 0 => fun _ _ _ _ => False
  | n + 1 => fun w v2 c3 z3 => st_X1_war_20 κ y post px ex (sp_X1_war_20 κ y post px ex v1 n) v1 w v2 c3 z3
set_option maxHeartbeats 4000000 in
theorem lp_X1_war_20 {p : Program} {l : Launch} {e : Env} {s : State} {m : MethodId} {args : Array Value} {below : List Frame} {meth : Method} {c : Code} {κ : Kx} {y : Ly} {X : XR} {post : Int32 → Wd → Prop} {px : String → Wd → Prop} {q3 : Nat} {v1 : Int32} (hx : p.tables.exec = Jvm.exec) (hb : c.code = cX1_war) (hr : meth.sig.returnType = (Option.some Jvm.ClassFile.FieldType.int)) (hml : c.maxLocals = 5) (hown : s.vm.findClass RX1 = some m.cls) (hts : ∀ w ∈ lw_all, w.before args s = true) (hlocks : meth.locks = false) (hK : KK κ s) (hW : WFc κ y) (hfl : l.stackTraces = false) (ht : ∀ x ∈ c.exceptionTable.toList, False) {w0 : Wd} (hR0 : Rp κ w0 y X [] s.heap)  {C1 S1 : Nat} (hC : C1 ≤ 2) (hSl : S1 ≤ 10) {ex : Wd → (Int32) → Prop}
    (kx : ∀ (w : Wd) (v2 : Int32) (H : Heap) (locs : List Loc) (ls : Array Slot) (cells slots : Nat) , ex w v2 → Rp κ w y X [] H → va_S (Af κ) s.heap H locs → lv_has ls 5 [(2, .int (v2))] → cells ≤ C1 → slots ≤ S1 → W p l e (headSpec (ws_ yX1_war cX1_war 5 (Option.some Jvm.ClassFile.FieldType.int)) rm_X1_war).room s m args below meth c H locs cells slots (vx_MQ below (va_Qi post (fun w t => Rp κ w y X [] t.heap) (Af κ)) (XCk κ y X px) args s 2 10 (Af κ)) (F0 m 73 ls [])) :
    ∀ (f : Nat) (w : Wd) (v2 : Int32) (c3 : Nat) (z3 : Int32) (H : Heap) (locs : List Loc) (ls : Array Slot) (cells slots : Nat)  (hc3 : c3 ≤ nV y), sp_X1_war_20 κ y post px ex v1 f w v2 c3 z3 → Rp κ w y X [(q3, itC y 40 0 c3 z3)] H → va_S (Af κ) s.heap H locs → lv_has ls 5 [(1, .int (v1)), (2, .int (v2)), (3, .ref (q3))] → cells + f * 0 ≤ C1 → slots + f * 0 ≤ S1 → W p l e (headSpec (ws_ yX1_war cX1_war 5 (Option.some Jvm.ClassFile.FieldType.int)) rm_X1_war).room s m args below meth c H locs cells slots (vx_MQ below (va_Qi post (fun w t => Rp κ w y X [] t.heap) (Af κ)) (XCk κ y X px) args s 2 10 (Af κ)) (F0 m 20 ls []) := by
  intro f
  induction f with
  | zero =>
    intro w v2 c3 z3 H locs ls cells slots hc3 h
    exact False.elim h
  | succ f ih =>
    intro w v2 c3 z3 H locs ls cells slots hc3 h hR hS hl hc hs
    have h : st_X1_war_20 κ y post px ex (sp_X1_war_20 κ y post px ex v1 f) v1 w v2 c3 z3 := h
    unfold st_X1_war_20 at h
    refine lv_aload_n hx hb dX1_war_20 rfl (lv_at hl 2 rfl) ?_
    refine jr_hasNext (t := 0) ⟨hx, hb, hml, hown, hts⟩ hK hR rfl ⟨fun _ _ _ _ _ => rfl, fun _ _ _ _ _ => rfl⟩ hW.lsV (by omega) (Nat.le_trans hW.nV8 (by decide)) q349 ⟨Nat.le_of_ble_eq_true rfl, Nat.le_of_ble_eq_true rfl⟩ hl.1 (Nat.le_of_ble_eq_true rfl) dX1_war_21 ⟨(Nat.le_trans (show cells + 0 ≤ C1 from by omega) hC), (Nat.le_trans (show slots + 0 ≤ S1 from by omega) hSl)⟩ ?_
    refine lv_if_eq (tgt := 73) hx hb dX1_war_26 (by decide) (fun c_26 => ?_) (fun c_26 => ?_)
    · replace c_26 : ¬ (¬ c3 = nV y) := bi_0.mp c_26
      have h := h.1 c_26
      have hR := hR.sub (L' := []) [] rfl rfl
      exact kx w v2 _ _ _ _ _ h hR hS (lv_sub hl [1] rfl) (by omega) (by omega)
    · replace c_26 : (¬ c3 = nV y) := bi_n0.mp c_26
      have h := h.2 c_26
      refine lv_aload_n hx hb dX1_war_29 rfl (lv_at hl 2 rfl) ?_
      have hn_30 : c3 < nV y := by omega
      refine jr_next (t := 0) (a := y.2 6 c3) ⟨hx, hb, hml, hown, hts⟩ hK hR hS rfl ⟨fun _ _ _ _ _ => rfl, fun _ _ _ _ _ => rfl⟩ hW.lsV ⟨hW.arV (Nat.lt_of_le_of_lt (Nat.zero_le _) hn_30), (Nat.le_trans hW.nV8 (by decide))⟩ hn_30 (hW.elV hn_30) q359 ⟨Nat.le_of_ble_eq_true rfl, Nat.le_of_ble_eq_true rfl⟩ hl.1 (Nat.le_of_ble_eq_true rfl) dX1_war_30 ⟨(Nat.le_trans (show cells + 0 ≤ C1 from by omega) hC), (Nat.le_trans (show slots + 0 ≤ S1 from by omega) hSl)⟩ (fun H locs hR hS => ?_)
      have hR : Rp κ w y X [(q3, itC y 40 0 (c3 + 1) (nI c3))] H := hR
      refine jr_castS (ci := 6) hx hb hown hK hts (hR.role (hW.vil hn_30)) rfl q496 dX1_war_35 ?_
      refine lv_astore (lv' := [(4, .ref (y.2 6 c3)), (1, .int (v1)), (2, .int (v2)), (3, .ref (q3))]) hx hb dX1_war_38 hl (by decide) rfl (fun ls hl => ?_)
      refine lv_aload hx hb dX1_war_40 (lv_at hl 0 rfl) ?_
      refine lv_dup hx hb dX1_war_42 rfl ?_
      refine g6_17 hx hb hts hown hK hR (hW.vil hn_30) q957 dX1_war_43 ?_
      refine lv_iload_n hx hb dX1_war_46 rfl (lv_at hl 1 rfl) ?_
      refine lv_aload hx hb dX1_war_47 (lv_at hl 0 rfl) ?_
      refine g6_0 hx hb hts hown hK hR (hW.vil hn_30) q920 dX1_war_49 ?_
      refine ce_qi (fw := fun u => u) (fy := fun _ => y) (cr_S (n := 2) (As := [.int (v1), .int (nI c3)]) (rest := [.int (gv w 6 c3 17), .ref (y.2 6 c3)]) ⟨hx, hb, hml, hown, hts⟩ hK hR (m_X1_has hW h) q614 q615 q74 q616 rfl rfl hds_X1_has ⟨Nat.le_of_ble_eq_true rfl, Nat.le_of_ble_eq_true rfl⟩ rfl rfl hl.1 rfl (lv_room (Nat.le_of_ble_eq_true rfl)) dX1_war_52 ⟨(Nat.le_trans (show cells + 0 ≤ C1 from by omega) hC), (Nat.le_trans (show slots + 0 ≤ S1 from by omega) hSl)⟩) hR hS (fun r_52 w_52 H locs h hR _ hS => ?_)
      refine lv_ior hx hb dX1_war_55 ?_
      have o_56 := h.1
      have h := h.2
      refine p6_17 hx hb hts hown hK hR hS (hW.vil hn_30) o_56 q957 dX1_war_56 (fun H locs w_56 ew_56 hR hS => ?_)
      have h := h w_56 ew_56
      refine lv_iload_n hx hb dX1_war_59 rfl (lv_at hl 2 rfl) ?_
      refine lv_aload hx hb dX1_war_60 (lv_at hl 0 rfl) ?_
      refine g6_17 hx hb hts hown hK hR (hW.vil hn_30) q957 dX1_war_62 ?_
      refine ce_qi (fw := fun u => u) (fy := fun _ => y) (cr_S (n := 1) (As := [.int (gv w_56 6 c3 17)]) (rest := [.int (v2)]) ⟨hx, hb, hml, hown, hts⟩ hK hR (m_X1_one hW h) q548 q549 q74 q550 rfl rfl hds_X1_one ⟨Nat.le_of_ble_eq_true rfl, Nat.le_of_ble_eq_true rfl⟩ rfl rfl hl.1 rfl (lv_room (Nat.le_of_ble_eq_true rfl)) dX1_war_65 ⟨(Nat.le_trans (show cells + 0 ≤ C1 from by omega) hC), (Nat.le_trans (show slots + 0 ≤ S1 from by omega) hSl)⟩) hR hS (fun r_65 w_65 H locs h hR _ hS => ?_)
      refine lv_iadd hx hb dX1_war_68 ?_
      refine lv_topi (fun x_69 ex_69 => ?_)
      have h := h x_69 ex_69
      refine lv_istore_n (lv' := [(2, .int (x_69)), (4, .ref (y.2 6 c3)), (1, .int (v1)), (3, .ref (q3))]) hx hb dX1_war_69 rfl hl (by decide) rfl (fun ls hl => ?_)
      refine lv_goto (tgt := 20) hx hb dX1_war_70 (by decide) ?_
      exact ih w_65 x_69 (c3 + 1) (nI c3) _ _ _ _ _ (by omega) h hR hS (lv_sub hl [2, 0, 3] rfl) (by omega) (by omega)
def sp_X1_war (κ : Kx) (y : Ly) (post : Int32 → Wd → Prop) (px : String → Wd → Prop) (w : Wd) (p1 : Int32) : Prop := sp_X1_areVillages κ y (fun r_2 w_2 => sp_X1_check κ y (fun w_7 => sp_X1_war_20 κ y post px (fun w_20 y2_20 => post (y2_20) w_20) p1 9 w_7 (0 : Int32) 0 (-1)) px w_2 r_2) w p1
theorem hd_X1_war : yX1_war.cls = RX1 ∧ yX1_war.cls ≠ "java/lang/invoke/MethodHandle" ∧ yX1_war.cls ≠ "java/lang/invoke/VarHandle" ∧ (parseMethodDescriptor yX1_war.desc).map (fun d => d.parameters.length) = some 1 := by decide +kernel
set_option maxHeartbeats 4000000 in
theorem m_X1_war {l : Launch} {κ : Kx} {y : Ly} {X : XR} {post : Int32 → Wd → Prop} {px : String → Wd → Prop} {w : Wd} {p1 : Int32}  (hfl : l.stackTraces = false) (hW : WFc κ y) (l0 : live y 0 0) (h : sp_X1_war κ y post px w p1) : vx_Met l yX1_war (ws_ yX1_war cX1_war 5 (Option.some Jvm.ClassFile.FieldType.int)) rm_X1_war (va_Pc [.ref (y.2 0 0), .int (p1)] (RC κ w y X)) (va_Qi post (fun w t => Rp κ w y X [] t.heap) (Af κ)) (XCk κ y X px) 2 10 (Af κ) := by
  unfold sp_X1_war at h
  refine vx_ofW (cc := cX1_war) (maxL := 5) (ret := (Option.some Jvm.ClassFile.FieldType.int)) (by decide) rfl ?_
  intro p e s m args below meth c s₁ B hml ht hv
  obtain ⟨rfl, hR, hK⟩ := hv
  have hx := B.exec
  have hb := B.bytes
  have hr := B.returns
  have hts := atoms_spec (ws := ws_ yX1_war cX1_war 5 (Option.some Jvm.ClassFile.FieldType.int)) B.pre
  have hts : ∀ w ∈ lw_all, w.before _ s = true := fun w h => hts w (List.mem_cons_of_mem _ h)
  have hown : s.vm.findClass RX1 = some m.cls := findClass_of_methodNamed B.named
  have hlocks := B.notSynchronized
  have hR0 := hR
  have hS : va_S (Af κ) s.heap s.heap [] := va_S.rf
  have hl := lv_entry ([.ref (y.2 0 0), .int (p1)]) (n := 5) (Nat.le_of_ble_eq_true rfl)
  rw [lg_entry_eq]
  generalize (lg_sl ([.ref (y.2 0 0), .int (p1)]) ++ List.replicate (5 - (lg_sl ([.ref (y.2 0 0), .int (p1)])).length) Slot.unset).toArray = ls at hl ⊢
  have hl : lv_has ls 5 [(0, .ref (y.2 0 0)), (1, .int (p1))] := hl
  refine lv_aload_n hx hb dX1_war_0 rfl (lv_at hl 0 rfl) ?_
  refine lv_iload_n hx hb dX1_war_1 rfl (lv_at hl 1 rfl) ?_
  refine ce_qi (fw := fun u => u) (fy := fun _ => y) (cr_V (n := 1) (As := [.int (p1)]) (rest := []) ⟨hx, hb, hml, hown, hts⟩ hK hR (m_X1_areVillages hW l0 h) q1063 q1065 qs21 q74 q1066 rfl rfl hd_X1_areVillages ⟨Nat.le_of_ble_eq_true rfl, Nat.le_of_ble_eq_true rfl⟩ (rv hK hR l0 (ci := 0) rfl rfl) rfl rfl hl.1 rfl (lv_room (Nat.le_of_ble_eq_true rfl)) dX1_war_2 ⟨(Nat.le_of_ble_eq_true rfl), (Nat.le_of_ble_eq_true rfl)⟩) hR hS (fun r_2 w_2 H locs h hR _ hS => ?_)
  refine jr_ldcS (own := "Publicanry") (k := 190) (tx := "villages") (n := 1190) hx hb hown hK (List.mem_of_getElem? (i := 3) rfl) dX1_war_5 ?_
  refine cex_qv (fw := fun u => u) (fy := fun _ => y) (crx_S (n := 2) (As := [.int (r_2), .ref (kA κ 1190)]) (rest := []) ⟨hx, hb, hml, hown, hts⟩ hK hR (m_X1_check hfl hW h) q794 q795 q74 q796 rfl rfl hds_X1_check ⟨Nat.le_of_ble_eq_true rfl, Nat.le_of_ble_eq_true rfl⟩ rfl rfl hl.1 rfl (lv_room (Nat.le_of_ble_eq_true rfl)) dX1_war_7 ⟨(Nat.le_of_ble_eq_true rfl), (Nat.le_of_ble_eq_true rfl)⟩) hR hS ht hlocks (Nat.le_of_ble_eq_true rfl) (Nat.le_of_ble_eq_true rfl) (fun w_7 H locs h hR _ hS => ?_)
  refine lv_iconst (v := (0 : Int32)) hx hb dX1_war_10 (by decide) ?_
  refine lv_istore_n (lv' := [(2, .int ((0 : Int32))), (0, .ref (y.2 0 0)), (1, .int (p1))]) hx hb dX1_war_11 rfl hl (by decide) rfl (fun ls hl => ?_)
  refine lv_aload_n hx hb dX1_war_12 rfl (lv_at hl 1 rfl) ?_
  refine g0_0 hx hb hts hown hK hR l0 q247 dX1_war_13 ?_
  refine jr_iter ⟨hx, hb, hml, hown, hts⟩ hK hR hS ⟨fun _ _ _ _ _ => rfl, fun _ _ _ _ _ => rfl⟩ hW.lsV q325 ⟨Nat.le_of_ble_eq_true rfl, Nat.le_of_ble_eq_true rfl⟩ hl.1 (Nat.le_of_ble_eq_true rfl) dX1_war_16 ⟨(Nat.le_of_ble_eq_true rfl), (Nat.le_of_ble_eq_true rfl)⟩ (fun q_16 H locs hR hS => ?_)
  have hR : Rp κ w_7 y X [(q_16, itC y 40 0 0 (-1))] H := hR
  refine lv_astore_n (lv' := [(3, .ref (q_16)), (2, .int ((0 : Int32))), (0, .ref (y.2 0 0)), (1, .int (p1))]) hx hb dX1_war_19 rfl hl (by decide) rfl (fun ls hl => ?_)
  refine lp_X1_war_20 (C1 := 2) (S1 := 10) hx hb hr hml hown hts hlocks hK hW hfl ht hR0  (Nat.le_of_ble_eq_true rfl) (Nat.le_of_ble_eq_true rfl) (fun w_20 y2_20 H locs ls cells9 slots9 h hR hS hl hc9 hs9 => ?_) 9 w_7 (0 : Int32) 0 (-1) _ _ _ _ _ (by omega) h hR hS (lv_sub hl [3, 1, 0] rfl) (by omega) (by omega)
  refine W.widen (k := 2) (n := 10) hc9 hs9 ?_
  refine lv_iload_n hx hb dX1_war_73 rfl (lv_at hl 0 rfl) ?_
  refine W.widen (k := 2) (n := 10) (Nat.le_of_ble_eq_true rfl) (Nat.le_of_ble_eq_true rfl) ?_
  refine vx_ret ?_; exact W.iret (v := y2_20) hx hb hr (fun t ht hW9 => ⟨⟨y2_20, w_20, rfl, h, rpt ht hR⟩, hS.F ht⟩) hS.2.2 dX1_war_74
abbrev rm_X1_edict : Room := { frames := 8, cells := 3, slots := 15, locals := 132 }
def sp_X1_edict (κ : Kx) (y : Ly) (post : Int32 → Wd → Prop) (px : String → Wd → Prop) (w : Wd) (p1 : Int32) (p2 : Int32) (p3 : Int32) : Prop := sp_X1_dutyOf κ y (fun i_1 w_1 => sp_D_mostRate κ y (fun r_10 w_10 => sp_X1_isIn κ y (fun r_13 w_13 => ((r_13 = 0) → (sp_X1_check κ y (fun w_37 => (vp_in (p1) 3) ∧ (sp_X6_tell κ y (fun w_48 => post ((gv w_48 0 0 10) + (1 : Int32)) w_48) w_37 (((p1).toNatClampNeg)) p2 p3)) px w_13 (0 : Int32))) ∧ ((¬ (r_13 = 0)) → (sp_X1_isIn κ y (fun r_24 w_24 => ((r_24 = 0) → (sp_X1_check κ y (fun w_37_a => (vp_in (p1) 3) ∧ (sp_X6_tell κ y (fun w_48_a => post ((gv w_48_a 0 0 10) + (1 : Int32)) w_48_a) w_37_a (((p1).toNatClampNeg)) p2 p3)) px w_24 (0 : Int32))) ∧ ((¬ (r_24 = 0)) → (sp_X1_check κ y (fun w_37_b => (vp_in (p1) 3) ∧ (sp_X6_tell κ y (fun w_48_b => post ((gv w_48_b 0 0 10) + (1 : Int32)) w_48_b) w_37_b (((p1).toNatClampNeg)) p2 p3)) px w_24 (1 : Int32)))) w_13 p3 (0 : Int32) (255 : Int32)))) w_10 p2 (0 : Int32) r_10) w_1 i_1) px w p1
theorem hd_X1_edict : yX1_edict.cls = RX1 ∧ yX1_edict.cls ≠ "java/lang/invoke/MethodHandle" ∧ yX1_edict.cls ≠ "java/lang/invoke/VarHandle" ∧ (parseMethodDescriptor yX1_edict.desc).map (fun d => d.parameters.length) = some 3 := by decide +kernel
set_option maxHeartbeats 4000000 in
theorem m_X1_edict {l : Launch} {κ : Kx} {y : Ly} {X : XR} {post : Int32 → Wd → Prop} {px : String → Wd → Prop} {w : Wd} {p1 : Int32} {p2 : Int32} {p3 : Int32}  (hfl : l.stackTraces = false) (hW : WFc κ y) (l0 : live y 0 0) (h : sp_X1_edict κ y post px w p1 p2 p3) : vx_Met l yX1_edict (ws_ yX1_edict cX1_edict 5 (Option.some Jvm.ClassFile.FieldType.int)) rm_X1_edict (va_Pc [.ref (y.2 0 0), .int (p1), .int (p2), .int (p3)] (RC κ w y X)) (va_Qi post (fun w t => Rp κ w y X [] t.heap) (Af κ)) (XCk κ y X px) 3 15 (Af κ) := by
  unfold sp_X1_edict at h
  refine vx_ofW (cc := cX1_edict) (maxL := 5) (ret := (Option.some Jvm.ClassFile.FieldType.int)) (by decide) rfl ?_
  intro p e s m args below meth c s₁ B hml ht hv
  obtain ⟨rfl, hR, hK⟩ := hv
  have hx := B.exec
  have hb := B.bytes
  have hr := B.returns
  have hts := atoms_spec (ws := ws_ yX1_edict cX1_edict 5 (Option.some Jvm.ClassFile.FieldType.int)) B.pre
  have hts : ∀ w ∈ lw_all, w.before _ s = true := fun w h => hts w (List.mem_cons_of_mem _ h)
  have hown : s.vm.findClass RX1 = some m.cls := findClass_of_methodNamed B.named
  have hlocks := B.notSynchronized
  have hR0 := hR
  have hS : va_S (Af κ) s.heap s.heap [] := va_S.rf
  have hl := lv_entry ([.ref (y.2 0 0), .int (p1), .int (p2), .int (p3)]) (n := 5) (Nat.le_of_ble_eq_true rfl)
  rw [lg_entry_eq]
  generalize (lg_sl ([.ref (y.2 0 0), .int (p1), .int (p2), .int (p3)]) ++ List.replicate (5 - (lg_sl ([.ref (y.2 0 0), .int (p1), .int (p2), .int (p3)])).length) Slot.unset).toArray = ls at hl ⊢
  have hl : lv_has ls 5 [(0, .ref (y.2 0 0)), (1, .int (p1)), (2, .int (p2)), (3, .int (p3))] := hl
  refine lv_iload_n hx hb dX1_edict_0 rfl (lv_at hl 1 rfl) ?_
  refine cex_qr (fw := fun u : Nat × Wd => u.2) (fy := fun _ => y) (P := (fun (u : Nat × Wd) ra => ra = kA κ (20 + u.1) ∧ u.1 < 3)) (crx_S (n := 1) (As := [.int (p1)]) (rest := []) ⟨hx, hb, hml, hown, hts⟩ hK hR (m_X1_dutyOf hfl hW h) q1075 q1076 q74 q1077 rfl rfl hds_X1_dutyOf ⟨Nat.le_of_ble_eq_true rfl, Nat.le_of_ble_eq_true rfl⟩ rfl rfl hl.1 rfl (lv_room (Nat.le_of_ble_eq_true rfl)) dX1_edict_1 ⟨(Nat.le_of_ble_eq_true rfl), (Nat.le_of_ble_eq_true rfl)⟩) hR hS ht hlocks (Nat.le_of_ble_eq_true rfl) (Nat.le_of_ble_eq_true rfl) (fun u9 a_1 H locs h p9 hR _ hS => ?_)
  obtain ⟨i_1, w_1⟩ := u9
  obtain ⟨e9, lv_1⟩ := p9
  dsimp only at e9 lv_1
  subst e9
  refine lv_astore (lv' := [(4, .ref (kA κ (20 + i_1))), (0, .ref (y.2 0 0)), (1, .int (p1)), (2, .int (p2)), (3, .int (p3))]) hx hb dX1_edict_4 hl (by decide) rfl (fun ls hl => ?_)
  refine lv_iload_n hx hb dX1_edict_6 rfl (lv_at hl 3 rfl) ?_
  refine lv_iconst (v := (0 : Int32)) hx hb dX1_edict_7 (by decide) ?_
  refine lv_aload hx hb dX1_edict_8 (lv_at hl 0 rfl) ?_
  refine ce_qi (fw := fun u => u) (fy := fun _ => y) (cr_mostRate (As := []) (rest := [.int ((0 : Int32)), .int (p2)]) ⟨hx, hb, hml, hown, hts⟩ hK hR lv_1 qi_ret (fun e9 => m_X18_mostRate hW lv_1 (h.1 e9)) ⟨rfl, rfl⟩ ⟨Nat.le_of_ble_eq_true rfl, Nat.le_of_ble_eq_true rfl⟩ (fun e9 => m_X19_mostRate hW lv_1 (h.2.1 e9)) ⟨rfl, rfl⟩ ⟨Nat.le_of_ble_eq_true rfl, Nat.le_of_ble_eq_true rfl⟩ (fun e9 => m_X20_mostRate hW lv_1 (h.2.2 e9)) ⟨rfl, rfl⟩ ⟨Nat.le_of_ble_eq_true rfl, Nat.le_of_ble_eq_true rfl⟩ q1079 rfl rfl hl.1 rfl (lv_room (Nat.le_of_ble_eq_true rfl)) dX1_edict_10 ⟨(Nat.le_of_ble_eq_true rfl), (Nat.le_of_ble_eq_true rfl)⟩) hR hS (fun r_10 w_10 H locs h hR _ hS => ?_)
  refine ce_qi (fw := fun u => u) (fy := fun _ => y) (cr_S (n := 3) (As := [.int (p2), .int ((0 : Int32)), .int (r_10)]) (rest := []) ⟨hx, hb, hml, hown, hts⟩ hK hR (m_X1_isIn hW h) q790 q791 q74 q792 rfl rfl hds_X1_isIn ⟨Nat.le_of_ble_eq_true rfl, Nat.le_of_ble_eq_true rfl⟩ rfl rfl hl.1 rfl (lv_room (Nat.le_of_ble_eq_true rfl)) dX1_edict_13 ⟨(Nat.le_of_ble_eq_true rfl), (Nat.le_of_ble_eq_true rfl)⟩) hR hS (fun r_13 w_13 H locs h hR _ hS => ?_)
  refine lv_if_eq (tgt := 34) hx hb dX1_edict_16 (by decide) (fun c_16 => ?_) (fun c_16 => ?_)
  · have h := h.1 c_16
    refine lv_iconst (v := (0 : Int32)) hx hb dX1_edict_34 (by decide) ?_
    refine jr_ldcS (own := "Publicanry") (k := 220) (tx := "edict") (n := 1220) hx hb hown hK (List.mem_of_getElem? (i := 5) rfl) dX1_edict_35 ?_
    refine cex_qv (fw := fun u => u) (fy := fun _ => y) (crx_S (n := 2) (As := [.int ((0 : Int32)), .ref (kA κ 1220)]) (rest := []) ⟨hx, hb, hml, hown, hts⟩ hK hR (m_X1_check hfl hW h) q794 q795 q74 q796 rfl rfl hds_X1_check ⟨Nat.le_of_ble_eq_true rfl, Nat.le_of_ble_eq_true rfl⟩ rfl rfl hl.1 rfl (lv_room (Nat.le_of_ble_eq_true rfl)) dX1_edict_37 ⟨(Nat.le_of_ble_eq_true rfl), (Nat.le_of_ble_eq_true rfl)⟩) hR hS ht hlocks (Nat.le_of_ble_eq_true rfl) (Nat.le_of_ble_eq_true rfl) (fun w_37 H locs h hR _ hS => ?_)
    refine lv_aload_n hx hb dX1_edict_40 rfl (lv_at hl 1 rfl) ?_
    refine g0_3 hx hb hts hown hK hR l0 q250 dX1_edict_41 ?_
    refine lv_iload_n hx hb dX1_edict_44 rfl (lv_at hl 2 rfl) ?_
    have o_45 := h.1
    have h := h.2
    refine a5 hx hb hK hR hW.rla o_45 dX1_edict_45 ?_
    refine lv_iload_n hx hb dX1_edict_46 rfl (lv_at hl 3 rfl) ?_
    refine lv_iload_n hx hb dX1_edict_47 rfl (lv_at hl 4 rfl) ?_
    refine ce_qv (fw := fun u => u) (fy := fun _ => y) (cr_V (n := 2) (As := [.int (p2), .int (p3)]) (rest := []) ⟨hx, hb, hml, hown, hts⟩ hK hR (m_X6_tell hW (hW.rul (vp_lt o_45)) h) q1092 q1093 q1094 q82 q1095 rfl rfl hd_X6_tell ⟨Nat.le_of_ble_eq_true rfl, Nat.le_of_ble_eq_true rfl⟩ (rv hK hR (hW.rul (vp_lt o_45)) (ci := 5) rfl rfl) rfl rfl hl.1 rfl (lv_room (Nat.le_of_ble_eq_true rfl)) dX1_edict_48 ⟨(Nat.le_of_ble_eq_true rfl), (Nat.le_of_ble_eq_true rfl)⟩) hR hS (fun w_48 H locs h hR _ hS => ?_)
    refine lv_aload_n hx hb dX1_edict_51 rfl (lv_at hl 1 rfl) ?_
    refine g0_10 hx hb hts hown hK hR l0 q257 dX1_edict_52 ?_
    refine lv_iconst (v := (1 : Int32)) hx hb dX1_edict_55 (by decide) ?_
    refine lv_iadd hx hb dX1_edict_56 ?_
    refine W.widen (k := 3) (n := 15) (Nat.le_of_ble_eq_true rfl) (Nat.le_of_ble_eq_true rfl) ?_
    refine vx_ret ?_; exact W.iret (v := (gv w_48 0 0 10) + (1 : Int32)) hx hb hr (fun t ht hW9 => ⟨⟨(gv w_48 0 0 10) + (1 : Int32), w_48, rfl, h, rpt ht hR⟩, hS.F ht⟩) hS.2.2 dX1_edict_57
  · have h := h.2 c_16
    refine lv_iload_n hx hb dX1_edict_19 rfl (lv_at hl 4 rfl) ?_
    refine lv_iconst (v := (0 : Int32)) hx hb dX1_edict_20 (by decide) ?_
    refine lv_sipush (v := (255 : Int32)) hx hb dX1_edict_21 (by decide) ?_
    refine ce_qi (fw := fun u => u) (fy := fun _ => y) (cr_S (n := 3) (As := [.int (p3), .int ((0 : Int32)), .int ((255 : Int32))]) (rest := []) ⟨hx, hb, hml, hown, hts⟩ hK hR (m_X1_isIn hW h) q790 q791 q74 q792 rfl rfl hds_X1_isIn ⟨Nat.le_of_ble_eq_true rfl, Nat.le_of_ble_eq_true rfl⟩ rfl rfl hl.1 rfl (lv_room (Nat.le_of_ble_eq_true rfl)) dX1_edict_24 ⟨(Nat.le_of_ble_eq_true rfl), (Nat.le_of_ble_eq_true rfl)⟩) hR hS (fun r_24 w_24 H locs h hR _ hS => ?_)
    refine lv_if_eq (tgt := 34) hx hb dX1_edict_27 (by decide) (fun c_27 => ?_) (fun c_27 => ?_)
    · have h := h.1 c_27
      refine lv_iconst (v := (0 : Int32)) hx hb dX1_edict_34 (by decide) ?_
      refine jr_ldcS (own := "Publicanry") (k := 220) (tx := "edict") (n := 1220) hx hb hown hK (List.mem_of_getElem? (i := 5) rfl) dX1_edict_35 ?_
      refine cex_qv (fw := fun u => u) (fy := fun _ => y) (crx_S (n := 2) (As := [.int ((0 : Int32)), .ref (kA κ 1220)]) (rest := []) ⟨hx, hb, hml, hown, hts⟩ hK hR (m_X1_check hfl hW h) q794 q795 q74 q796 rfl rfl hds_X1_check ⟨Nat.le_of_ble_eq_true rfl, Nat.le_of_ble_eq_true rfl⟩ rfl rfl hl.1 rfl (lv_room (Nat.le_of_ble_eq_true rfl)) dX1_edict_37 ⟨(Nat.le_of_ble_eq_true rfl), (Nat.le_of_ble_eq_true rfl)⟩) hR hS ht hlocks (Nat.le_of_ble_eq_true rfl) (Nat.le_of_ble_eq_true rfl) (fun w_37_a H locs h hR _ hS => ?_)
      refine lv_aload_n hx hb dX1_edict_40 rfl (lv_at hl 1 rfl) ?_
      refine g0_3 hx hb hts hown hK hR l0 q250 dX1_edict_41 ?_
      refine lv_iload_n hx hb dX1_edict_44 rfl (lv_at hl 2 rfl) ?_
      have o_45_a := h.1
      have h := h.2
      refine a5 hx hb hK hR hW.rla o_45_a dX1_edict_45 ?_
      refine lv_iload_n hx hb dX1_edict_46 rfl (lv_at hl 3 rfl) ?_
      refine lv_iload_n hx hb dX1_edict_47 rfl (lv_at hl 4 rfl) ?_
      refine ce_qv (fw := fun u => u) (fy := fun _ => y) (cr_V (n := 2) (As := [.int (p2), .int (p3)]) (rest := []) ⟨hx, hb, hml, hown, hts⟩ hK hR (m_X6_tell hW (hW.rul (vp_lt o_45_a)) h) q1092 q1093 q1094 q82 q1095 rfl rfl hd_X6_tell ⟨Nat.le_of_ble_eq_true rfl, Nat.le_of_ble_eq_true rfl⟩ (rv hK hR (hW.rul (vp_lt o_45_a)) (ci := 5) rfl rfl) rfl rfl hl.1 rfl (lv_room (Nat.le_of_ble_eq_true rfl)) dX1_edict_48 ⟨(Nat.le_of_ble_eq_true rfl), (Nat.le_of_ble_eq_true rfl)⟩) hR hS (fun w_48_a H locs h hR _ hS => ?_)
      refine lv_aload_n hx hb dX1_edict_51 rfl (lv_at hl 1 rfl) ?_
      refine g0_10 hx hb hts hown hK hR l0 q257 dX1_edict_52 ?_
      refine lv_iconst (v := (1 : Int32)) hx hb dX1_edict_55 (by decide) ?_
      refine lv_iadd hx hb dX1_edict_56 ?_
      refine W.widen (k := 3) (n := 15) (Nat.le_of_ble_eq_true rfl) (Nat.le_of_ble_eq_true rfl) ?_
      refine vx_ret ?_; exact W.iret (v := (gv w_48_a 0 0 10) + (1 : Int32)) hx hb hr (fun t ht hW9 => ⟨⟨(gv w_48_a 0 0 10) + (1 : Int32), w_48_a, rfl, h, rpt ht hR⟩, hS.F ht⟩) hS.2.2 dX1_edict_57
    · have h := h.2 c_27
      refine lv_iconst (v := (1 : Int32)) hx hb dX1_edict_30 (by decide) ?_
      refine lv_goto (tgt := 35) hx hb dX1_edict_31 (by decide) ?_
      refine jr_ldcS (own := "Publicanry") (k := 220) (tx := "edict") (n := 1220) hx hb hown hK (List.mem_of_getElem? (i := 5) rfl) dX1_edict_35 ?_
      refine cex_qv (fw := fun u => u) (fy := fun _ => y) (crx_S (n := 2) (As := [.int ((1 : Int32)), .ref (kA κ 1220)]) (rest := []) ⟨hx, hb, hml, hown, hts⟩ hK hR (m_X1_check hfl hW h) q794 q795 q74 q796 rfl rfl hds_X1_check ⟨Nat.le_of_ble_eq_true rfl, Nat.le_of_ble_eq_true rfl⟩ rfl rfl hl.1 rfl (lv_room (Nat.le_of_ble_eq_true rfl)) dX1_edict_37 ⟨(Nat.le_of_ble_eq_true rfl), (Nat.le_of_ble_eq_true rfl)⟩) hR hS ht hlocks (Nat.le_of_ble_eq_true rfl) (Nat.le_of_ble_eq_true rfl) (fun w_37_b H locs h hR _ hS => ?_)
      refine lv_aload_n hx hb dX1_edict_40 rfl (lv_at hl 1 rfl) ?_
      refine g0_3 hx hb hts hown hK hR l0 q250 dX1_edict_41 ?_
      refine lv_iload_n hx hb dX1_edict_44 rfl (lv_at hl 2 rfl) ?_
      have o_45_b := h.1
      have h := h.2
      refine a5 hx hb hK hR hW.rla o_45_b dX1_edict_45 ?_
      refine lv_iload_n hx hb dX1_edict_46 rfl (lv_at hl 3 rfl) ?_
      refine lv_iload_n hx hb dX1_edict_47 rfl (lv_at hl 4 rfl) ?_
      refine ce_qv (fw := fun u => u) (fy := fun _ => y) (cr_V (n := 2) (As := [.int (p2), .int (p3)]) (rest := []) ⟨hx, hb, hml, hown, hts⟩ hK hR (m_X6_tell hW (hW.rul (vp_lt o_45_b)) h) q1092 q1093 q1094 q82 q1095 rfl rfl hd_X6_tell ⟨Nat.le_of_ble_eq_true rfl, Nat.le_of_ble_eq_true rfl⟩ (rv hK hR (hW.rul (vp_lt o_45_b)) (ci := 5) rfl rfl) rfl rfl hl.1 rfl (lv_room (Nat.le_of_ble_eq_true rfl)) dX1_edict_48 ⟨(Nat.le_of_ble_eq_true rfl), (Nat.le_of_ble_eq_true rfl)⟩) hR hS (fun w_48_b H locs h hR _ hS => ?_)
      refine lv_aload_n hx hb dX1_edict_51 rfl (lv_at hl 1 rfl) ?_
      refine g0_10 hx hb hts hown hK hR l0 q257 dX1_edict_52 ?_
      refine lv_iconst (v := (1 : Int32)) hx hb dX1_edict_55 (by decide) ?_
      refine lv_iadd hx hb dX1_edict_56 ?_
      refine W.widen (k := 3) (n := 15) (Nat.le_of_ble_eq_true rfl) (Nat.le_of_ble_eq_true rfl) ?_
      refine vx_ret ?_; exact W.iret (v := (gv w_48_b 0 0 10) + (1 : Int32)) hx hb hr (fun t ht hW9 => ⟨⟨(gv w_48_b 0 0 10) + (1 : Int32), w_48_b, rfl, h, rpt ht hR⟩, hS.F ht⟩) hS.2.2 dX1_edict_57
