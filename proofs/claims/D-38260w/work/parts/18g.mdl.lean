/-! printed by wip gen: X8_company, X8_join, X8_lot, X8_bid, X8_best, X8_collect_2, X8_clerk -/
set_option maxRecDepth 100000
abbrev rm_X8_company : Room := { frames := 6, cells := 4, slots := 27, locals := 171 }
def sp_X8_company (κ : Kx) (y : Ly) (post : Int32 → Wd → Ly → Prop) (w : Wd) (p1 : Int32) (p2 : Int32) : Prop := sp_X8_isIn κ y (fun r_6 w_6 => ∀ j26 : Wd → Int32 → Prop, (j26 = fun (w26 : Wd) (s0_26 : Int32) => sp_X8_start κ y (fun r_27 w_27 => ((¬ r_27 = 0) → (post ((0 : Int32)) w_27 y)) ∧ ((r_27 = 0) → (∀ j50 : Wd → Int32 → Prop, (j50 = fun (w50 : Wd) (s0_50 : Int32) => sp_X8_refuse κ y (fun r_51 w_51 => ((r_51 = 0) → ((mC y < 4) ∧ (∀ n_63 : Nat, n_63 = mC y → ∀ w_63 : Wd, w_63 = wMkMC w_51 n_63  → ∀ (y_63 : Ly) (q9a q9b q9c : Nat), y_63 = yMkMC y n_63 q9a q9b q9c → ∀ w_69 : Wd, w_69 = sv w_63 26 n_63 0 (p1) → ∀ w_74 : Wd, w_74 = sv w_69 26 n_63 2 (p2) → ∀ y_82 : Ly, YAdd y_63 52 0 (y_63.2 26 n_63) y_82 → post ((nI (mC y_82)) - (1 : Int32)) w_74 y_82))) ∧ ((¬ (r_51 = 0)) → (post ((0 : Int32)) w_51 y))) w50 s0_50 (2 : Int32)) → (((¬ nI (mC y) = (4 : Int32)) → (j50 w_27 (0 : Int32))) ∧ ((nI (mC y) = (4 : Int32)) → (j50 w_27 (1 : Int32))))))) w26 s0_26 (1 : Int32)) → (((r_6 = 0) → (j26 w_6 (1 : Int32))) ∧ ((¬ (r_6 = 0)) → (sp_X8_isIn κ y (fun r_15 w_15 => ((¬ r_15 = 0) → (j26 w_15 (0 : Int32))) ∧ ((r_15 = 0) → (j26 w_15 (1 : Int32)))) w_6 p2 (0 : Int32) (3 : Int32))))) w p1 (0 : Int32) (2000 : Int32)
theorem hd_X8_company : yX8_company.cls = RX8 ∧ yX8_company.cls ≠ "java/lang/invoke/MethodHandle" ∧ yX8_company.cls ≠ "java/lang/invoke/VarHandle" ∧ (parseMethodDescriptor yX8_company.desc).map (fun d => d.parameters.length) = some 2 := by decide +kernel
set_option maxHeartbeats 4000000 in
theorem m_X8_company {l : Launch} {κ : Kx} {y : Ly} {X : XR} {post : Int32 → Wd → Ly → Prop} {w : Wd} {p1 : Int32} {p2 : Int32}  (hM : WFm κ y) (l0 : live y 20 0) (h : sp_X8_company κ y post w p1 p2) : Met l yX8_company (ws_ yX8_company cX8_company 4 (Option.some Jvm.ClassFile.FieldType.int)) rm_X8_company (va_Pc [.ref (y.2 20 0), .int (p1), .int (p2)] (RC κ w y X)) (va_Qi (fun r (u : Wd × Ly) => post r u.1 u.2) (fun (u : Wd × Ly) t => Rp κ u.1 u.2 X [] t.heap ∧ WFm κ u.2) (Af κ)) 4 27 (Af κ) := by
  unfold sp_X8_company at h
  refine Met.ofW (cc := cX8_company) (maxL := 4) (ret := (Option.some Jvm.ClassFile.FieldType.int)) (by decide) rfl ?_
  intro p e s m args below meth c s₁ B hml hv
  obtain ⟨rfl, hR, hK⟩ := hv
  have hx := B.exec
  have hb := B.bytes
  have hr := B.returns
  have hts := atoms_spec (ws := ws_ yX8_company cX8_company 4 (Option.some Jvm.ClassFile.FieldType.int)) B.pre
  have hts : ∀ w ∈ lw_all, w.before _ s = true := fun w h => hts w (List.mem_cons_of_mem _ h)
  have hown : s.vm.findClass RX8 = some m.cls := findClass_of_methodNamed B.named
  have hlocks := B.notSynchronized
  have hLe : LeS y y := LeS.rf
  have hS : va_S (Af κ) s.heap s.heap [] := va_S.rf
  have hl := lv_entry ([.ref (y.2 20 0), .int (p1), .int (p2)]) (n := 4) (Nat.le_of_ble_eq_true rfl)
  rw [lg_entry_eq]
  generalize (lg_sl ([.ref (y.2 20 0), .int (p1), .int (p2)]) ++ List.replicate (4 - (lg_sl ([.ref (y.2 20 0), .int (p1), .int (p2)])).length) Slot.unset).toArray = ls at hl ⊢
  have hl : lv_has ls 4 [(0, .ref (y.2 20 0)), (1, .int (p1)), (2, .int (p2))] := hl
  refine lv_aload_n hx hb dX8_company_0 rfl (lv_at hl 0 rfl) ?_
  refine lv_iload_n hx hb dX8_company_1 rfl (lv_at hl 1 rfl) ?_
  refine lv_iconst (v := (0 : Int32)) hx hb dX8_company_2 (by decide) ?_
  refine lv_sipush (v := (2000 : Int32)) hx hb dX8_company_3 (by decide) ?_
  refine ce_qi (fw := fun u => u) (fy := fun _ => y) (cr_S (n := 3) (As := [.int (p1), .int ((0 : Int32)), .int ((2000 : Int32))]) (rest := [.ref (y.2 20 0)]) ⟨hx, hb, hml, hown, hts⟩ hK hR (m_X8_isIn hM h) q2020 q2021 q85 q2022 rfl rfl hds_X8_isIn ⟨Nat.le_of_ble_eq_true rfl, Nat.le_of_ble_eq_true rfl⟩ rfl rfl hl.1 rfl (lv_room (Nat.le_of_ble_eq_true rfl)) dX8_company_6 ⟨(Nat.le_of_ble_eq_true rfl), (Nat.le_of_ble_eq_true rfl)⟩) hR hS (fun r_6 w_6 H locs h hR _ hS => ?_)
  refine jn_elim h (fun j26 ej26 h => ?_)
  have Jj26 : ∀ (w26 : Wd) (s0_26 : Int32) (H : Heap) (locs : List Loc) (ls : Array Slot), j26 w26 s0_26 → Rp κ w26 y X [] H → va_S (Af κ) s.heap H locs → lv_has ls 4 [(0, .ref (y.2 20 0)), (1, .int (p1)), (2, .int (p2))] → W p l e (headSpec (ws_ yX8_company cX8_company 4 (Option.some Jvm.ClassFile.FieldType.int)) rm_X8_company).room s m ([.ref (y.2 20 0), .int (p1), .int (p2)] : List Value).toArray below meth c H locs (0) (0) (MQ below (va_Qi (fun r (u : Wd × Ly) => post r u.1 u.2) (fun (u : Wd × Ly) t => Rp κ u.1 u.2 X [] t.heap ∧ WFm κ u.2) (Af κ)) ([.ref (y.2 20 0), .int (p1), .int (p2)] : List Value).toArray s 4 27 (Af κ)) (F0 m 26 ls [.int (s0_26), .ref (y.2 20 0)]) := by
    clear h
    intro w26 s0_26 H locs ls h hR hS hl
    subst ej26
    refine lv_iconst (v := (1 : Int32)) hx hb dX8_company_26 (by decide) ?_
    refine ce_qi (fw := fun u => u) (fy := fun _ => y) (cr_V (n := 2) (As := [.int (s0_26), .int ((1 : Int32))]) (rest := []) ⟨hx, hb, hml, hown, hts⟩ hK hR (m_X8_start hM l0 h) q2023 q2025 qs37 q85 q2026 rfl rfl hd_X8_start ⟨Nat.le_of_ble_eq_true rfl, Nat.le_of_ble_eq_true rfl⟩ (rv hK hR l0 (ci := 11) rfl rfl) rfl rfl hl.1 rfl (lv_room (Nat.le_of_ble_eq_true rfl)) dX8_company_27 ⟨(Nat.le_of_ble_eq_true rfl), (Nat.le_of_ble_eq_true rfl)⟩) hR hS (fun r_27 w_27 H locs h hR _ hS => ?_)
    refine lv_if_ne (tgt := 57) hx hb dX8_company_30 (by decide) (fun c_30 => ?_) (fun c_30 => ?_)
    · have h := h.1 c_30
      refine lv_iconst (v := (0 : Int32)) hx hb dX8_company_57 (by decide) ?_
      refine W.widen (k := 4) (n := 27) (Nat.le_of_ble_eq_true rfl) (Nat.le_of_ble_eq_true rfl) ?_
      exact W.iret (v := (0 : Int32)) hx hb hr (fun t ht hW9 => ⟨⟨(0 : Int32), (w_27, y), rfl, h, ⟨rpt ht hR, hM⟩⟩, hS.F ht⟩) hS.2.2 dX8_company_58
    · have h := h.2 c_30
      refine lv_aload_n hx hb dX8_company_33 rfl (lv_at hl 0 rfl) ?_
      refine lv_aload_n hx hb dX8_company_34 rfl (lv_at hl 0 rfl) ?_
      refine g20_4 hx hb hts hown hK hR l0 q1949 dX8_company_35 ?_
      refine jr_size ⟨hx, hb, hml, hown, hts⟩ hK hR ⟨fun _ _ _ _ _ => rfl, fun _ _ _ _ _ => rfl⟩ hM.lsC q2031 ⟨Nat.le_of_ble_eq_true rfl, Nat.le_of_ble_eq_true rfl⟩ hl.1 (Nat.le_of_ble_eq_true rfl) dX8_company_38 ⟨(Nat.le_of_ble_eq_true rfl), (Nat.le_of_ble_eq_true rfl)⟩ ?_
      refine lv_iconst (v := (4 : Int32)) hx hb dX8_company_41 (by decide) ?_
      refine jn_elim h (fun j50 ej50 h => ?_)
      have Jj50 : ∀ (w50 : Wd) (s0_50 : Int32) (H : Heap) (locs : List Loc) (ls : Array Slot), j50 w50 s0_50 → Rp κ w50 y X [] H → va_S (Af κ) s.heap H locs → lv_has ls 4 [(0, .ref (y.2 20 0)), (1, .int (p1)), (2, .int (p2))] → W p l e (headSpec (ws_ yX8_company cX8_company 4 (Option.some Jvm.ClassFile.FieldType.int)) rm_X8_company).room s m ([.ref (y.2 20 0), .int (p1), .int (p2)] : List Value).toArray below meth c H locs (0) (0) (MQ below (va_Qi (fun r (u : Wd × Ly) => post r u.1 u.2) (fun (u : Wd × Ly) t => Rp κ u.1 u.2 X [] t.heap ∧ WFm κ u.2) (Af κ)) ([.ref (y.2 20 0), .int (p1), .int (p2)] : List Value).toArray s 4 27 (Af κ)) (F0 m 50 ls [.int (s0_50), .ref (y.2 20 0)]) := by
        clear h
        intro w50 s0_50 H locs ls h hR hS hl
        subst ej50
        refine lv_iconst (v := (2 : Int32)) hx hb dX8_company_50 (by decide) ?_
        refine ce_qi (fw := fun u => u) (fy := fun _ => y) (cr_V (n := 2) (As := [.int (s0_50), .int ((2 : Int32))]) (rest := []) ⟨hx, hb, hml, hown, hts⟩ hK hR (m_X8_refuse hM l0 h) q2027 q2029 qs38 q85 q2030 rfl rfl hd_X8_refuse ⟨Nat.le_of_ble_eq_true rfl, Nat.le_of_ble_eq_true rfl⟩ (rv hK hR l0 (ci := 11) rfl rfl) rfl rfl hl.1 rfl (lv_room (Nat.le_of_ble_eq_true rfl)) dX8_company_51 ⟨(Nat.le_of_ble_eq_true rfl), (Nat.le_of_ble_eq_true rfl)⟩) hR hS (fun r_51 w_51 H locs h hR _ hS => ?_)
        refine lv_if_eq (tgt := 59) hx hb dX8_company_54 (by decide) (fun c_54 => ?_) (fun c_54 => ?_)
        · have h := h.1 c_54
          refine xa_new (C := RX13) (T := TX13) (N := 11) (ci := 13) (fs := [.int 0, .int 0, .int 0, .int 0, .int 0, .int 0, .int 0, .int 0, .int 0, .null, .null]) hx hb hts in_X13 tyX13 tyX13_ok hown q2141 q2142 q107 hK.1 hS rfl (fun j hj => by rcases (show j = 0 ∨ j = 1 ∨ j = 2 ∨ j = 3 ∨ j = 4 ∨ j = 5 ∨ j = 6 ∨ j = 7 ∨ j = 8 ∨ j = 9 ∨ j = 10 by omega) with rfl | rfl | rfl | rfl | rfl | rfl | rfl | rfl | rfl | rfl | rfl <;> rfl) (Nat.le_of_ble_eq_true rfl) (Nat.le_of_ble_eq_true rfl) dX8_company_59 (fun q_59 H1 hq h1 hz ho hS => ?_)
          have hR := hR.newL hq h1 (by omega) ho
          clear hq h1 hz ho
          generalize H1 = H at hR hS ⊢
          have hR : Rp κ w_51 y X [(q_59, .inr (13, [.int 0, .int 0, .int 0, .int 0, .int 0, .int 0, .int 0, .int 0, .int 0, .null, .null]))] H := hR
          refine lv_dup hx hb dX8_company_62 rfl ?_
          have o_63 := h.1
          have h := h.2
          obtain ⟨n_63, en_n_63⟩ : ∃ z : Nat, z = mC y := ⟨_, rfl⟩
          have h := h n_63 en_n_63
          refine va_callv (va_runIN (As := []) (rest := [.ref (q_59)]) ⟨hx, hb, hml, hown, hts⟩ (m_X13_init (X := xl X [(q_59, .inr (13, [.int 0, .int 0, .int 0, .int 0, .int 0, .int 0, .int 0, .int 0, .int 0, .null, .null]))]) (Or.inr ⟨0, rfl⟩)) ⟨va_cnB 0 hts (lw_meth q2145) rfl rfl rfl (hK.2.1.1 _ (List.mem_of_getElem? (i := 14) rfl)) (hts _ q107) (by decide +kernel) ⟨Nat.le_of_ble_eq_true rfl, Nat.le_of_ble_eq_true rfl⟩, rfl, hts _ q2144⟩ ⟨RC.blind, RC.pre hR hK⟩ rfl rfl hl.1 rfl (lv_room (Nat.le_of_ble_eq_true rfl)) dX8_company_63 ⟨(Nat.le_of_ble_eq_true rfl), (Nat.le_of_ble_eq_true rfl)⟩) hS (fun _ _ h => h) (fun _ h => h) (fun u_63 t9 H locs ht9 _ hp9 hB9 hz9 _ hS => ?_)
          rw [ht9] at hB9
          have hR := hR.wroteLs (t := 0) rfl hB9
          clear hB9 hz9 hp9
          have hR := hR.mkMC (n := n_63)
          obtain ⟨w_63, ew_63⟩ : ∃ z, z = wMkMC w_51 n_63  := ⟨_, rfl⟩
          obtain ⟨y_63, ey_63⟩ : ∃ z, z = yMkMC y n_63 q_59 u_63.1 u_63.2 := ⟨_, rfl⟩
          have h := h w_63 ew_63 y_63 _ _ _ ey_63
          have hR : Rp κ w_63 y_63 X [] H := by
            rw [ew_63, ey_63]
            exact hR
          have lv_y_63 : live y_63 26 n_63 := ⟨by rw [ey_63]; exact yMkMC_f0, by decide⟩
          have hq_y_63 : q_59 = y_63.2 26 n_63 := by rw [ey_63]; exact yMkMC_a0.symm
          have hM_y_63 : WFm κ y_63 := by rw [ey_63]; exact WFm.mkMC hM en_n_63 (by rw [en_n_63]; exact o_63)
          rw [hq_y_63]
          have lv_63 := l0
          have ea_63 : y_63.2 20 0 = y.2 20 0 := by rw [ey_63]; exact yMkMC_2 (by omega)
          have lw_63 : live y_63 20 0 := ⟨by rw [ey_63, yMkMC_1 (by omega)]; exact lv_63.1, lv_63.2⟩
          have hl : lv_has ls 4 [(0, .ref (y_63.2 20 0)), (1, .int (p1)), (2, .int (p2))] := by
            rw [ea_63]
            exact hl
          have cn_63 : n_63 = mC y_63 := by rw [en_n_63, ey_63]; exact (show (yMkMC y n_63 q_59 u_63.1 u_63.2).1 152 0 = y.1 152 0 from yMkMC_1 (by omega)).symm
          refine lv_astore_n (lv' := [(3, .ref (y_63.2 26 n_63)), (0, .ref (y_63.2 20 0)), (1, .int (p1)), (2, .int (p2))]) hx hb dX8_company_66 rfl hl (by decide) rfl (fun ls hl => ?_)
          refine lv_aload_n hx hb dX8_company_67 rfl (lv_at hl 0 rfl) ?_
          refine lv_iload_n hx hb dX8_company_68 rfl (lv_at hl 2 rfl) ?_
          refine p26_0 hx hb hts hown hK hR hS lv_y_63 q2149 dX8_company_69 (fun H locs w_69 ew_69 hR hS => ?_)
          have h := h w_69 ew_69
          refine lv_aload_n hx hb dX8_company_72 rfl (lv_at hl 0 rfl) ?_
          refine lv_iload_n hx hb dX8_company_73 rfl (lv_at hl 3 rfl) ?_
          refine p26_2 hx hb hts hown hK hR hS lv_y_63 q2151 dX8_company_74 (fun H locs w_74 ew_74 hR hS => ?_)
          have h := h w_74 ew_74
          refine lv_aload_n hx hb dX8_company_77 rfl (lv_at hl 1 rfl) ?_
          refine g20_4 hx hb hts hown hK hR lw_63 q1949 dX8_company_78 ?_
          refine lv_aload_n hx hb dX8_company_81 rfl (lv_at hl 0 rfl) ?_
          have lv_82 := lv_y_63
          have lv_82_a := lw_63
          refine jr_add ⟨hx, hb, hml, hown, hts⟩ hK hR hS ⟨fun _ _ _ _ _ => rfl, fun _ _ _ _ _ => rfl⟩ (by decide) (by decide) (by decide) hM_y_63.lsC (Nat.lt_of_le_of_lt hM_y_63.mC4 (by decide)) (fun hp9 => hM_y_63.arC hp9) (fun X1 L1 H1 hR1 => ⟨13, _, _, rfl, List.mem_of_getElem? (i := 23) rfl, hR1.role (live_off lv_y_63 (by omega) (by omega))⟩) q2096 ⟨Nat.le_of_ble_eq_true rfl, Nat.le_of_ble_eq_true rfl⟩ hl.1 (Nat.le_of_ble_eq_true rfl) dX8_company_82 ⟨(Nat.le_of_ble_eq_true rfl), (Nat.le_of_ble_eq_true rfl)⟩ (fun H locs y_82 hY_y_82 hR hS => ?_)
          have h := h y_82 hY_y_82
          have hM_y_82 : WFm κ y_82 := WFm.addMC hM_y_63 hY_y_82 cn_63 (by rw [en_n_63]; exact o_63) lv_y_63
          have ea_82 : y_82.2 26 n_63 = y_63.2 26 n_63 := hY_y_82.2.2 26 n_63 (by omega) (by omega)
          have lw_82 : live y_82 26 n_63 := ⟨by rw [hY_y_82.2.1 26 n_63 (by omega) (by omega) (by omega)]; exact lv_82.1, lv_82.2⟩
          have ea_82_a : y_82.2 20 0 = y_63.2 20 0 := hY_y_82.2.2 20 0 (by omega) (by omega)
          have lw_82_a : live y_82 20 0 := ⟨by rw [hY_y_82.2.1 20 0 (by omega) (by omega) (by omega)]; exact lv_82_a.1, lv_82_a.2⟩
          have hl : lv_has ls 4 [(3, .ref (y_82.2 26 n_63)), (0, .ref (y_82.2 20 0)), (1, .int (p1)), (2, .int (p2))] := by
            rw [ea_82, ea_82_a]
            exact hl
          refine lv_pop hx hb dX8_company_85 rfl ?_
          refine lv_aload_n hx hb dX8_company_86 rfl (lv_at hl 1 rfl) ?_
          refine g20_4 hx hb hts hown hK hR lw_82_a q1949 dX8_company_87 ?_
          refine jr_size ⟨hx, hb, hml, hown, hts⟩ hK hR ⟨fun _ _ _ _ _ => rfl, fun _ _ _ _ _ => rfl⟩ hM_y_82.lsC q2031 ⟨Nat.le_of_ble_eq_true rfl, Nat.le_of_ble_eq_true rfl⟩ hl.1 (Nat.le_of_ble_eq_true rfl) dX8_company_90 ⟨(Nat.le_of_ble_eq_true rfl), (Nat.le_of_ble_eq_true rfl)⟩ ?_
          refine lv_iconst (v := (1 : Int32)) hx hb dX8_company_93 (by decide) ?_
          refine lv_isub hx hb dX8_company_94 ?_
          refine W.widen (k := 4) (n := 27) (Nat.le_of_ble_eq_true rfl) (Nat.le_of_ble_eq_true rfl) ?_
          exact W.iret (v := (nI (mC y_82)) - (1 : Int32)) hx hb hr (fun t ht hW9 => ⟨⟨(nI (mC y_82)) - (1 : Int32), (w_74, y_82), rfl, h, ⟨rpt ht hR, hM_y_82⟩⟩, hS.F ht⟩) hS.2.2 dX8_company_95
        · have h := h.2 c_54
          refine lv_iconst (v := (0 : Int32)) hx hb dX8_company_57 (by decide) ?_
          refine W.widen (k := 4) (n := 27) (Nat.le_of_ble_eq_true rfl) (Nat.le_of_ble_eq_true rfl) ?_
          exact W.iret (v := (0 : Int32)) hx hb hr (fun t ht hW9 => ⟨⟨(0 : Int32), (w_51, y), rfl, h, ⟨rpt ht hR, hM⟩⟩, hS.F ht⟩) hS.2.2 dX8_company_58
      refine lv_icmp_ne (tgt := 49) hx hb dX8_company_42 (by decide) (fun c_42 => ?_) (fun c_42 => ?_)
      · have h := h.1 c_42
        refine lv_iconst (v := (0 : Int32)) hx hb dX8_company_49 (by decide) ?_
        refine W.widen (k := 0) (n := 0) (Nat.le_of_ble_eq_true rfl) (Nat.le_of_ble_eq_true rfl) ?_
        exact Jj50 w_27 (0 : Int32) _ _ _ h hR hS (lv_sub hl [0, 1, 2] rfl)
      · have h := h.2 c_42
        refine lv_iconst (v := (1 : Int32)) hx hb dX8_company_45 (by decide) ?_
        refine lv_goto (tgt := 50) hx hb dX8_company_46 (by decide) ?_
        refine W.widen (k := 0) (n := 0) (Nat.le_of_ble_eq_true rfl) (Nat.le_of_ble_eq_true rfl) ?_
        exact Jj50 w_27 (1 : Int32) _ _ _ h hR hS (lv_sub hl [0, 1, 2] rfl)
  refine lv_if_eq (tgt := 21) hx hb dX8_company_9 (by decide) (fun c_9 => ?_) (fun c_9 => ?_)
  · have h := h.1 c_9
    refine lv_iconst (v := (1 : Int32)) hx hb dX8_company_21 (by decide) ?_
    refine lv_goto (tgt := 26) hx hb dX8_company_22 (by decide) ?_
    refine W.widen (k := 0) (n := 0) (Nat.le_of_ble_eq_true rfl) (Nat.le_of_ble_eq_true rfl) ?_
    exact Jj26 w_6 (1 : Int32) _ _ _ h hR hS (lv_sub hl [0, 1, 2] rfl)
  · have h := h.2 c_9
    refine lv_iload_n hx hb dX8_company_12 rfl (lv_at hl 2 rfl) ?_
    refine lv_iconst (v := (0 : Int32)) hx hb dX8_company_13 (by decide) ?_
    refine lv_iconst (v := (3 : Int32)) hx hb dX8_company_14 (by decide) ?_
    refine ce_qi (fw := fun u => u) (fy := fun _ => y) (cr_S (n := 3) (As := [.int (p2), .int ((0 : Int32)), .int ((3 : Int32))]) (rest := [.ref (y.2 20 0)]) ⟨hx, hb, hml, hown, hts⟩ hK hR (m_X8_isIn hM h) q2020 q2021 q85 q2022 rfl rfl hds_X8_isIn ⟨Nat.le_of_ble_eq_true rfl, Nat.le_of_ble_eq_true rfl⟩ rfl rfl hl.1 rfl (lv_room (Nat.le_of_ble_eq_true rfl)) dX8_company_15 ⟨(Nat.le_of_ble_eq_true rfl), (Nat.le_of_ble_eq_true rfl)⟩) hR hS (fun r_15 w_15 H locs h hR _ hS => ?_)
    refine lv_if_ne (tgt := 25) hx hb dX8_company_18 (by decide) (fun c_18 => ?_) (fun c_18 => ?_)
    · have h := h.1 c_18
      refine lv_iconst (v := (0 : Int32)) hx hb dX8_company_25 (by decide) ?_
      refine W.widen (k := 0) (n := 0) (Nat.le_of_ble_eq_true rfl) (Nat.le_of_ble_eq_true rfl) ?_
      exact Jj26 w_15 (0 : Int32) _ _ _ h hR hS (lv_sub hl [0, 1, 2] rfl)
    · have h := h.2 c_18
      refine lv_iconst (v := (1 : Int32)) hx hb dX8_company_21 (by decide) ?_
      refine lv_goto (tgt := 26) hx hb dX8_company_22 (by decide) ?_
      refine W.widen (k := 0) (n := 0) (Nat.le_of_ble_eq_true rfl) (Nat.le_of_ble_eq_true rfl) ?_
      exact Jj26 w_15 (1 : Int32) _ _ _ h hR hS (lv_sub hl [0, 1, 2] rfl)
abbrev rm_X8_join : Room := { frames := 6, cells := 4, slots := 22, locals := 171 }
def sp_X8_join (κ : Kx) (y : Ly) (post : Int32 → Wd → Ly → Prop) (w : Wd) (p1 : Int32) (p2 : Int32) : Prop := sp_X8_isNoCompany κ y (fun r_3 w_3 => sp_X8_start κ y (fun r_7 w_7 => ((¬ r_7 = 0) → (post ((0 : Int32)) w_7 y)) ∧ ((r_7 = 0) → (sp_X8_isIn κ y (fun r_18 w_18 => ∀ j29 : Wd → Int32 → Prop, (j29 = fun (w29 : Wd) (s0_29 : Int32) => sp_X8_refuse κ y (fun r_30 w_30 => ((¬ r_30 = 0) → (post ((0 : Int32)) w_30 y)) ∧ ((r_30 = 0) → ((vp_in (p1) (mC y)) ∧ (∀ j63 : Wd → Int32 → Prop, (j63 = fun (w63 : Wd) (s0_63 : Int32) => sp_X8_refuse κ y (fun r_64 w_64 => ((r_64 = 0) → ((vp_in (p1) (mC y)) ∧ ((mS y (((((p1).toNatClampNeg)))) < 5) ∧ (∀ n_89 : Nat, n_89 = (5 * (((((p1).toNatClampNeg)))) + mS y (((((p1).toNatClampNeg))))) → ∀ (w_89 : Wd) (yby_89 y_89 : Ly) (q9 : Nat), BxS w_64 w_89 y yby_89 n_89 (p2) → YAdd yby_89 56 (((((p1).toNatClampNeg)))) q9 y_89 → (mT y_89 (((((p1).toNatClampNeg)))) < mS y_89 (((((p1).toNatClampNeg))))) ∧ (∀ n_101 : Nat, n_101 = 50 + (5 * (((((p1).toNatClampNeg)))) + mT y_89 (((((p1).toNatClampNeg))))) → ∀ (w_101 : Wd) (yby_101 y_101 : Ly) (q9 : Nat), BxS w_89 w_101 y_89 yby_101 n_101 ((0 : Int32)) → YAdd yby_101 58 (((((p1).toNatClampNeg)))) q9 y_101 → ∀ w_117 : Wd, w_117 = sv w_101 26 (((p1).toNatClampNeg)) 1 ((gv w_101 26 (((p1).toNatClampNeg)) 1) + ((4 : Int32) * p2)) → ∀ w_129 : Wd, w_129 = sv w_117 20 0 15 ((gv w_117 20 0 15) - ((4 : Int32) * p2)) → post ((nI (mS y_101 (((((p1).toNatClampNeg)))))) - (1 : Int32)) w_129 y_101))))) ∧ ((¬ (r_64 = 0)) → (post ((0 : Int32)) w_64 y))) w63 s0_63 (3 : Int32)) → (((¬ nI (mS y (((((p1).toNatClampNeg))))) = (5 : Int32)) → (j63 w_30 (0 : Int32))) ∧ ((nI (mS y (((((p1).toNatClampNeg))))) = (5 : Int32)) → (j63 w_30 (1 : Int32)))))))) w29 s0_29 (2 : Int32)) → (((¬ r_18 = 0) → (j29 w_18 (0 : Int32))) ∧ ((r_18 = 0) → (j29 w_18 (1 : Int32))))) w_7 p2 (1 : Int32) (99 : Int32)))) w_3 r_3 (1 : Int32)) w p1
theorem hd_X8_join : yX8_join.cls = RX8 ∧ yX8_join.cls ≠ "java/lang/invoke/MethodHandle" ∧ yX8_join.cls ≠ "java/lang/invoke/VarHandle" ∧ (parseMethodDescriptor yX8_join.desc).map (fun d => d.parameters.length) = some 2 := by decide +kernel
set_option maxHeartbeats 4000000 in
theorem m_X8_join {l : Launch} {κ : Kx} {y : Ly} {X : XR} {post : Int32 → Wd → Ly → Prop} {w : Wd} {p1 : Int32} {p2 : Int32}  (hM : WFm κ y) (l0 : live y 20 0) (h : sp_X8_join κ y post w p1 p2) : Met l yX8_join (ws_ yX8_join cX8_join 4 (Option.some Jvm.ClassFile.FieldType.int)) rm_X8_join (va_Pc [.ref (y.2 20 0), .int (p1), .int (p2)] (RC κ w y X)) (va_Qi (fun r (u : Wd × Ly) => post r u.1 u.2) (fun (u : Wd × Ly) t => Rp κ u.1 u.2 X [] t.heap ∧ WFm κ u.2) (Af κ)) 4 22 (Af κ) := by
  unfold sp_X8_join at h
  refine Met.ofW (cc := cX8_join) (maxL := 4) (ret := (Option.some Jvm.ClassFile.FieldType.int)) (by decide) rfl ?_
  intro p e s m args below meth c s₁ B hml hv
  obtain ⟨rfl, hR, hK⟩ := hv
  have hx := B.exec
  have hb := B.bytes
  have hr := B.returns
  have hts := atoms_spec (ws := ws_ yX8_join cX8_join 4 (Option.some Jvm.ClassFile.FieldType.int)) B.pre
  have hts : ∀ w ∈ lw_all, w.before _ s = true := fun w h => hts w (List.mem_cons_of_mem _ h)
  have hown : s.vm.findClass RX8 = some m.cls := findClass_of_methodNamed B.named
  have hlocks := B.notSynchronized
  have hLe : LeS y y := LeS.rf
  have hS : va_S (Af κ) s.heap s.heap [] := va_S.rf
  have hl := lv_entry ([.ref (y.2 20 0), .int (p1), .int (p2)]) (n := 4) (Nat.le_of_ble_eq_true rfl)
  rw [lg_entry_eq]
  generalize (lg_sl ([.ref (y.2 20 0), .int (p1), .int (p2)]) ++ List.replicate (4 - (lg_sl ([.ref (y.2 20 0), .int (p1), .int (p2)])).length) Slot.unset).toArray = ls at hl ⊢
  have hl : lv_has ls 4 [(0, .ref (y.2 20 0)), (1, .int (p1)), (2, .int (p2))] := hl
  refine lv_aload_n hx hb dX8_join_0 rfl (lv_at hl 0 rfl) ?_
  refine lv_aload_n hx hb dX8_join_1 rfl (lv_at hl 0 rfl) ?_
  refine lv_iload_n hx hb dX8_join_2 rfl (lv_at hl 1 rfl) ?_
  refine ce_qi (fw := fun u => u) (fy := fun _ => y) (cr_V (n := 1) (As := [.int (p1)]) (rest := [.ref (y.2 20 0)]) ⟨hx, hb, hml, hown, hts⟩ hK hR (m_X8_isNoCompany hM l0 h) q2189 q2191 qs42 q85 q2192 rfl rfl hd_X8_isNoCompany ⟨Nat.le_of_ble_eq_true rfl, Nat.le_of_ble_eq_true rfl⟩ (rv hK hR l0 (ci := 11) rfl rfl) rfl rfl hl.1 rfl (lv_room (Nat.le_of_ble_eq_true rfl)) dX8_join_3 ⟨(Nat.le_of_ble_eq_true rfl), (Nat.le_of_ble_eq_true rfl)⟩) hR hS (fun r_3 w_3 H locs h hR _ hS => ?_)
  refine lv_iconst (v := (1 : Int32)) hx hb dX8_join_6 (by decide) ?_
  refine ce_qi (fw := fun u => u) (fy := fun _ => y) (cr_V (n := 2) (As := [.int (r_3), .int ((1 : Int32))]) (rest := []) ⟨hx, hb, hml, hown, hts⟩ hK hR (m_X8_start hM l0 h) q2023 q2025 qs37 q85 q2026 rfl rfl hd_X8_start ⟨Nat.le_of_ble_eq_true rfl, Nat.le_of_ble_eq_true rfl⟩ (rv hK hR l0 (ci := 11) rfl rfl) rfl rfl hl.1 rfl (lv_room (Nat.le_of_ble_eq_true rfl)) dX8_join_7 ⟨(Nat.le_of_ble_eq_true rfl), (Nat.le_of_ble_eq_true rfl)⟩) hR hS (fun r_7 w_7 H locs h hR _ hS => ?_)
  refine lv_if_ne (tgt := 70) hx hb dX8_join_10 (by decide) (fun c_10 => ?_) (fun c_10 => ?_)
  · have h := h.1 c_10
    refine lv_iconst (v := (0 : Int32)) hx hb dX8_join_70 (by decide) ?_
    refine W.widen (k := 4) (n := 22) (Nat.le_of_ble_eq_true rfl) (Nat.le_of_ble_eq_true rfl) ?_
    exact W.iret (v := (0 : Int32)) hx hb hr (fun t ht hW9 => ⟨⟨(0 : Int32), (w_7, y), rfl, h, ⟨rpt ht hR, hM⟩⟩, hS.F ht⟩) hS.2.2 dX8_join_71
  · have h := h.2 c_10
    refine lv_aload_n hx hb dX8_join_13 rfl (lv_at hl 0 rfl) ?_
    refine lv_iload_n hx hb dX8_join_14 rfl (lv_at hl 2 rfl) ?_
    refine lv_iconst (v := (1 : Int32)) hx hb dX8_join_15 (by decide) ?_
    refine lv_bipush (v := (99 : Int32)) hx hb dX8_join_16 (by decide) ?_
    refine ce_qi (fw := fun u => u) (fy := fun _ => y) (cr_S (n := 3) (As := [.int (p2), .int ((1 : Int32)), .int ((99 : Int32))]) (rest := [.ref (y.2 20 0)]) ⟨hx, hb, hml, hown, hts⟩ hK hR (m_X8_isIn hM h) q2020 q2021 q85 q2022 rfl rfl hds_X8_isIn ⟨Nat.le_of_ble_eq_true rfl, Nat.le_of_ble_eq_true rfl⟩ rfl rfl hl.1 rfl (lv_room (Nat.le_of_ble_eq_true rfl)) dX8_join_18 ⟨(Nat.le_of_ble_eq_true rfl), (Nat.le_of_ble_eq_true rfl)⟩) hR hS (fun r_18 w_18 H locs h hR _ hS => ?_)
    refine jn_elim h (fun j29 ej29 h => ?_)
    have Jj29 : ∀ (w29 : Wd) (s0_29 : Int32) (H : Heap) (locs : List Loc) (ls : Array Slot), j29 w29 s0_29 → Rp κ w29 y X [] H → va_S (Af κ) s.heap H locs → lv_has ls 4 [(0, .ref (y.2 20 0)), (1, .int (p1)), (2, .int (p2))] → W p l e (headSpec (ws_ yX8_join cX8_join 4 (Option.some Jvm.ClassFile.FieldType.int)) rm_X8_join).room s m ([.ref (y.2 20 0), .int (p1), .int (p2)] : List Value).toArray below meth c H locs (0) (0) (MQ below (va_Qi (fun r (u : Wd × Ly) => post r u.1 u.2) (fun (u : Wd × Ly) t => Rp κ u.1 u.2 X [] t.heap ∧ WFm κ u.2) (Af κ)) ([.ref (y.2 20 0), .int (p1), .int (p2)] : List Value).toArray s 4 22 (Af κ)) (F0 m 29 ls [.int (s0_29), .ref (y.2 20 0)]) := by
      clear h
      intro w29 s0_29 H locs ls h hR hS hl
      subst ej29
      refine lv_iconst (v := (2 : Int32)) hx hb dX8_join_29 (by decide) ?_
      refine ce_qi (fw := fun u => u) (fy := fun _ => y) (cr_V (n := 2) (As := [.int (s0_29), .int ((2 : Int32))]) (rest := []) ⟨hx, hb, hml, hown, hts⟩ hK hR (m_X8_refuse hM l0 h) q2027 q2029 qs38 q85 q2030 rfl rfl hd_X8_refuse ⟨Nat.le_of_ble_eq_true rfl, Nat.le_of_ble_eq_true rfl⟩ (rv hK hR l0 (ci := 11) rfl rfl) rfl rfl hl.1 rfl (lv_room (Nat.le_of_ble_eq_true rfl)) dX8_join_30 ⟨(Nat.le_of_ble_eq_true rfl), (Nat.le_of_ble_eq_true rfl)⟩) hR hS (fun r_30 w_30 H locs h hR _ hS => ?_)
      refine lv_if_ne (tgt := 70) hx hb dX8_join_33 (by decide) (fun c_33 => ?_) (fun c_33 => ?_)
      · have h := h.1 c_33
        refine lv_iconst (v := (0 : Int32)) hx hb dX8_join_70 (by decide) ?_
        refine W.widen (k := 4) (n := 22) (Nat.le_of_ble_eq_true rfl) (Nat.le_of_ble_eq_true rfl) ?_
        exact W.iret (v := (0 : Int32)) hx hb hr (fun t ht hW9 => ⟨⟨(0 : Int32), (w_30, y), rfl, h, ⟨rpt ht hR, hM⟩⟩, hS.F ht⟩) hS.2.2 dX8_join_71
      · have h := h.2 c_33
        refine lv_aload_n hx hb dX8_join_36 rfl (lv_at hl 0 rfl) ?_
        refine lv_aload_n hx hb dX8_join_37 rfl (lv_at hl 0 rfl) ?_
        refine g20_4 hx hb hts hown hK hR l0 q1949 dX8_join_38 ?_
        refine lv_iload_n hx hb dX8_join_41 rfl (lv_at hl 1 rfl) ?_
        have o_42 := h.1
        have h := h.2
        refine jr_get (a := y.2 26 ((p1).toNatClampNeg)) ⟨hx, hb, hml, hown, hts⟩ hK hR ⟨fun _ _ _ _ _ => rfl, fun _ _ _ _ _ => rfl⟩ hM.lsC ⟨hM.arC (Nat.lt_of_le_of_lt (Nat.zero_le _) (vp_lt o_42)), (Nat.le_trans hM.mC4 (by decide))⟩ o_42 (hM.elC (vp_lt o_42)) q2101 ⟨Nat.le_of_ble_eq_true rfl, Nat.le_of_ble_eq_true rfl⟩ hl.1 (Nat.le_of_ble_eq_true rfl) dX8_join_42 ⟨(Nat.le_of_ble_eq_true rfl), (Nat.le_of_ble_eq_true rfl)⟩ ?_
        refine jr_castS (ci := 13) hx hb hown hK hts (hR.role (hM.com (vp_lt o_42))) rfl q2141 dX8_join_45 ?_
        refine g26_9 hx hb hts hown hK hR (hM.com (vp_lt o_42)) q2159 dX8_join_48 ?_
        refine jr_size ⟨hx, hb, hml, hown, hts⟩ hK hR ⟨fun _ _ _ _ _ => rfl, fun _ _ _ _ _ => rfl⟩ (hM.csh (hM.com (vp_lt o_42))) q2031 ⟨Nat.le_of_ble_eq_true rfl, Nat.le_of_ble_eq_true rfl⟩ hl.1 (Nat.le_of_ble_eq_true rfl) dX8_join_51 ⟨(Nat.le_of_ble_eq_true rfl), (Nat.le_of_ble_eq_true rfl)⟩ ?_
        refine lv_iconst (v := (5 : Int32)) hx hb dX8_join_54 (by decide) ?_
        refine jn_elim h (fun j63 ej63 h => ?_)
        have Jj63 : ∀ (w63 : Wd) (s0_63 : Int32) (H : Heap) (locs : List Loc) (ls : Array Slot), j63 w63 s0_63 → Rp κ w63 y X [] H → va_S (Af κ) s.heap H locs → lv_has ls 4 [(0, .ref (y.2 20 0)), (1, .int (p1)), (2, .int (p2))] → W p l e (headSpec (ws_ yX8_join cX8_join 4 (Option.some Jvm.ClassFile.FieldType.int)) rm_X8_join).room s m ([.ref (y.2 20 0), .int (p1), .int (p2)] : List Value).toArray below meth c H locs (0) (0) (MQ below (va_Qi (fun r (u : Wd × Ly) => post r u.1 u.2) (fun (u : Wd × Ly) t => Rp κ u.1 u.2 X [] t.heap ∧ WFm κ u.2) (Af κ)) ([.ref (y.2 20 0), .int (p1), .int (p2)] : List Value).toArray s 4 22 (Af κ)) (F0 m 63 ls [.int (s0_63), .ref (y.2 20 0)]) := by
          clear h
          intro w63 s0_63 H locs ls h hR hS hl
          subst ej63
          refine lv_iconst (v := (3 : Int32)) hx hb dX8_join_63 (by decide) ?_
          refine ce_qi (fw := fun u => u) (fy := fun _ => y) (cr_V (n := 2) (As := [.int (s0_63), .int ((3 : Int32))]) (rest := []) ⟨hx, hb, hml, hown, hts⟩ hK hR (m_X8_refuse hM l0 h) q2027 q2029 qs38 q85 q2030 rfl rfl hd_X8_refuse ⟨Nat.le_of_ble_eq_true rfl, Nat.le_of_ble_eq_true rfl⟩ (rv hK hR l0 (ci := 11) rfl rfl) rfl rfl hl.1 rfl (lv_room (Nat.le_of_ble_eq_true rfl)) dX8_join_64 ⟨(Nat.le_of_ble_eq_true rfl), (Nat.le_of_ble_eq_true rfl)⟩) hR hS (fun r_64 w_64 H locs h hR _ hS => ?_)
          refine lv_if_eq (tgt := 72) hx hb dX8_join_67 (by decide) (fun c_67 => ?_) (fun c_67 => ?_)
          · have h := h.1 c_67
            refine lv_aload_n hx hb dX8_join_72 rfl (lv_at hl 0 rfl) ?_
            refine g20_4 hx hb hts hown hK hR l0 q1949 dX8_join_73 ?_
            refine lv_iload_n hx hb dX8_join_76 rfl (lv_at hl 1 rfl) ?_
            have o_77 := h.1
            have h := h.2
            refine jr_get (a := y.2 26 ((p1).toNatClampNeg)) ⟨hx, hb, hml, hown, hts⟩ hK hR ⟨fun _ _ _ _ _ => rfl, fun _ _ _ _ _ => rfl⟩ hM.lsC ⟨hM.arC (Nat.lt_of_le_of_lt (Nat.zero_le _) (vp_lt o_77)), (Nat.le_trans hM.mC4 (by decide))⟩ o_77 (hM.elC (vp_lt o_77)) q2101 ⟨Nat.le_of_ble_eq_true rfl, Nat.le_of_ble_eq_true rfl⟩ hl.1 (Nat.le_of_ble_eq_true rfl) dX8_join_77 ⟨(Nat.le_of_ble_eq_true rfl), (Nat.le_of_ble_eq_true rfl)⟩ ?_
            refine jr_castS (ci := 13) hx hb hown hK hts (hR.role (hM.com (vp_lt o_77))) rfl q2141 dX8_join_80 ?_
            refine lv_astore_n (lv' := [(3, .ref (y.2 26 ((p1).toNatClampNeg))), (0, .ref (y.2 20 0)), (1, .int (p1)), (2, .int (p2))]) hx hb dX8_join_83 rfl hl (by decide) rfl (fun ls hl => ?_)
            refine lv_aload_n hx hb dX8_join_84 rfl (lv_at hl 0 rfl) ?_
            refine g26_9 hx hb hts hown hK hR (hM.com (vp_lt o_77)) q2159 dX8_join_85 ?_
            refine lv_iload_n hx hb dX8_join_88 rfl (lv_at hl 3 rfl) ?_
            have o_89 := h.1
            have h := h.2
            obtain ⟨n_89, en_n_89⟩ : ∃ z : Nat, z = (5 * (((((p1).toNatClampNeg)))) + mS y (((((p1).toNatClampNeg))))) := ⟨_, rfl⟩
            have h := h n_89 en_n_89
            have lv_89 := (hM.com (vp_lt o_77))
            have lv_89_a := l0
            refine jr_vadd (n9 := n_89) ⟨hx, hb, hml, hown, hts⟩ hK hR hS ⟨fun _ _ _ _ _ => rfl, fun _ _ _ _ _ => rfl⟩ (by decide) (by decide) (by decide) (hM.csh (hM.com (vp_lt o_77))) (Nat.lt_of_le_of_lt (hM.mS5 (hM.com (vp_lt o_77))) (by decide)) (fun hp9 => hM.arS hp9) q2193 q2096 ⟨Nat.le_of_ble_eq_true rfl, Nat.le_of_ble_eq_true rfl⟩ ⟨Nat.le_of_ble_eq_true rfl, Nat.le_of_ble_eq_true rfl⟩ hl.1 (Nat.le_of_ble_eq_true rfl) dX8_join_89 dX8_join_92 dX8_join_95 ⟨(Nat.le_of_ble_eq_true rfl), (Nat.le_of_ble_eq_true rfl)⟩ (fun H locs w_89 yby_89 y_89 q9 hb9 hbo9 ha9 hY_y_89 hR hS => ?_)
            have h := h w_89 yby_89 y_89 q9 hb9 hY_y_89
            have hM_y_89 : WFm κ y_89 := hM.addB56 (hM.com (vp_lt o_77)) hb9.2.2.2.2 ha9 hbo9 hY_y_89 en_n_89 o_89
            have ea_89 : y_89.2 26 (((p1).toNatClampNeg)) = y.2 26 (((p1).toNatClampNeg)) := (hY_y_89.2.2 26 (((p1).toNatClampNeg)) (by omega) (by omega)).trans (ha9 26 (((p1).toNatClampNeg)) (by omega))
            have lw_89 : live y_89 26 (((p1).toNatClampNeg)) := ⟨by rw [hY_y_89.2.1 26 (((p1).toNatClampNeg)) (by omega) (by omega) (by omega), hb9.2.2.2.2 26 (((p1).toNatClampNeg)) (by omega) (by omega)]; exact lv_89.1, lv_89.2⟩
            have ea_89_a : y_89.2 20 0 = y.2 20 0 := (hY_y_89.2.2 20 0 (by omega) (by omega)).trans (ha9 20 0 (by omega))
            have lw_89_a : live y_89 20 0 := ⟨by rw [hY_y_89.2.1 20 0 (by omega) (by omega) (by omega), hb9.2.2.2.2 20 0 (by omega) (by omega)]; exact lv_89_a.1, lv_89_a.2⟩
            have hl : lv_has ls 4 [(3, .ref (y_89.2 26 ((p1).toNatClampNeg))), (0, .ref (y_89.2 20 0)), (1, .int (p1)), (2, .int (p2))] := by
              rw [ea_89, ea_89_a]
              exact hl
            refine lv_aload_n hx hb dX8_join_96 rfl (lv_at hl 0 rfl) ?_
            refine g26_10 hx hb hts hown hK hR lw_89 q2161 dX8_join_97 ?_
            refine lv_iconst (v := (0 : Int32)) hx hb dX8_join_100 (by decide) ?_
            have o_101 := h.1
            have h := h.2
            obtain ⟨n_101, en_n_101⟩ : ∃ z : Nat, z = 50 + (5 * (((((p1).toNatClampNeg)))) + mT y_89 (((((p1).toNatClampNeg))))) := ⟨_, rfl⟩
            have h := h n_101 en_n_101
            have lv_101 := lw_89
            have lv_101_a := lw_89_a
            refine jr_vadd (n9 := n_101) ⟨hx, hb, hml, hown, hts⟩ hK hR hS ⟨fun _ _ _ _ _ => rfl, fun _ _ _ _ _ => rfl⟩ (by decide) (by decide) (by decide) (hM_y_89.cto lw_89) (Nat.lt_of_le_of_lt (Nat.le_trans (hM_y_89.mTS lw_89) (hM_y_89.mS5 lw_89)) (by decide)) (fun hp9 => hM_y_89.arT hp9) q2193 q2096 ⟨Nat.le_of_ble_eq_true rfl, Nat.le_of_ble_eq_true rfl⟩ ⟨Nat.le_of_ble_eq_true rfl, Nat.le_of_ble_eq_true rfl⟩ hl.1 (Nat.le_of_ble_eq_true rfl) dX8_join_101 dX8_join_104 dX8_join_107 ⟨(Nat.le_of_ble_eq_true rfl), (Nat.le_of_ble_eq_true rfl)⟩ (fun H locs w_101 yby_101 y_101 q9 hb9 hbo9 ha9 hY_y_101 hR hS => ?_)
            have h := h w_101 yby_101 y_101 q9 hb9 hY_y_101
            have hM_y_101 : WFm κ y_101 := hM_y_89.addB58 lw_89 hb9.2.2.2.2 ha9 hbo9 hY_y_101 en_n_101 o_101
            have ea_101 : y_101.2 26 (((p1).toNatClampNeg)) = y_89.2 26 (((p1).toNatClampNeg)) := (hY_y_101.2.2 26 (((p1).toNatClampNeg)) (by omega) (by omega)).trans (ha9 26 (((p1).toNatClampNeg)) (by omega))
            have lw_101 : live y_101 26 (((p1).toNatClampNeg)) := ⟨by rw [hY_y_101.2.1 26 (((p1).toNatClampNeg)) (by omega) (by omega) (by omega), hb9.2.2.2.2 26 (((p1).toNatClampNeg)) (by omega) (by omega)]; exact lv_101.1, lv_101.2⟩
            have ea_101_a : y_101.2 20 0 = y_89.2 20 0 := (hY_y_101.2.2 20 0 (by omega) (by omega)).trans (ha9 20 0 (by omega))
            have lw_101_a : live y_101 20 0 := ⟨by rw [hY_y_101.2.1 20 0 (by omega) (by omega) (by omega), hb9.2.2.2.2 20 0 (by omega) (by omega)]; exact lv_101_a.1, lv_101_a.2⟩
            have hl : lv_has ls 4 [(3, .ref (y_101.2 26 ((p1).toNatClampNeg))), (0, .ref (y_101.2 20 0)), (1, .int (p1)), (2, .int (p2))] := by
              rw [ea_101, ea_101_a]
              exact hl
            refine lv_aload_n hx hb dX8_join_108 rfl (lv_at hl 0 rfl) ?_
            refine lv_dup hx hb dX8_join_109 rfl ?_
            refine g26_1 hx hb hts hown hK hR lw_101 q2150 dX8_join_110 ?_
            refine lv_iconst (v := (4 : Int32)) hx hb dX8_join_113 (by decide) ?_
            refine lv_iload_n hx hb dX8_join_114 rfl (lv_at hl 3 rfl) ?_
            refine lv_imul hx hb dX8_join_115 ?_
            refine lv_iadd hx hb dX8_join_116 ?_
            refine p26_1 hx hb hts hown hK hR hS lw_101 q2150 dX8_join_117 (fun H locs w_117 ew_117 hR hS => ?_)
            have h := h w_117 ew_117
            refine lv_aload_n hx hb dX8_join_120 rfl (lv_at hl 1 rfl) ?_
            refine lv_dup hx hb dX8_join_121 rfl ?_
            refine g20_15 hx hb hts hown hK hR lw_101_a q1960 dX8_join_122 ?_
            refine lv_iconst (v := (4 : Int32)) hx hb dX8_join_125 (by decide) ?_
            refine lv_iload_n hx hb dX8_join_126 rfl (lv_at hl 3 rfl) ?_
            refine lv_imul hx hb dX8_join_127 ?_
            refine lv_isub hx hb dX8_join_128 ?_
            refine p20_15 hx hb hts hown hK hR hS lw_101_a q1960 dX8_join_129 (fun H locs w_129 ew_129 hR hS => ?_)
            have h := h w_129 ew_129
            refine lv_aload_n hx hb dX8_join_132 rfl (lv_at hl 0 rfl) ?_
            refine g26_9 hx hb hts hown hK hR lw_101 q2159 dX8_join_133 ?_
            refine jr_size ⟨hx, hb, hml, hown, hts⟩ hK hR ⟨fun _ _ _ _ _ => rfl, fun _ _ _ _ _ => rfl⟩ (hM_y_101.csh lw_101) q2031 ⟨Nat.le_of_ble_eq_true rfl, Nat.le_of_ble_eq_true rfl⟩ hl.1 (Nat.le_of_ble_eq_true rfl) dX8_join_136 ⟨(Nat.le_of_ble_eq_true rfl), (Nat.le_of_ble_eq_true rfl)⟩ ?_
            refine lv_iconst (v := (1 : Int32)) hx hb dX8_join_139 (by decide) ?_
            refine lv_isub hx hb dX8_join_140 ?_
            refine W.widen (k := 4) (n := 22) (Nat.le_of_ble_eq_true rfl) (Nat.le_of_ble_eq_true rfl) ?_
            exact W.iret (v := (nI (mS y_101 (((((p1).toNatClampNeg)))))) - (1 : Int32)) hx hb hr (fun t ht hW9 => ⟨⟨(nI (mS y_101 (((((p1).toNatClampNeg)))))) - (1 : Int32), (w_129, y_101), rfl, h, ⟨rpt ht hR, hM_y_101⟩⟩, hS.F ht⟩) hS.2.2 dX8_join_141
          · have h := h.2 c_67
            refine lv_iconst (v := (0 : Int32)) hx hb dX8_join_70 (by decide) ?_
            refine W.widen (k := 4) (n := 22) (Nat.le_of_ble_eq_true rfl) (Nat.le_of_ble_eq_true rfl) ?_
            exact W.iret (v := (0 : Int32)) hx hb hr (fun t ht hW9 => ⟨⟨(0 : Int32), (w_64, y), rfl, h, ⟨rpt ht hR, hM⟩⟩, hS.F ht⟩) hS.2.2 dX8_join_71
        refine lv_icmp_ne (tgt := 62) hx hb dX8_join_55 (by decide) (fun c_55 => ?_) (fun c_55 => ?_)
        · have h := h.1 c_55
          refine lv_iconst (v := (0 : Int32)) hx hb dX8_join_62 (by decide) ?_
          refine W.widen (k := 0) (n := 0) (Nat.le_of_ble_eq_true rfl) (Nat.le_of_ble_eq_true rfl) ?_
          exact Jj63 w_30 (0 : Int32) _ _ _ h hR hS (lv_sub hl [0, 1, 2] rfl)
        · have h := h.2 c_55
          refine lv_iconst (v := (1 : Int32)) hx hb dX8_join_58 (by decide) ?_
          refine lv_goto (tgt := 63) hx hb dX8_join_59 (by decide) ?_
          refine W.widen (k := 0) (n := 0) (Nat.le_of_ble_eq_true rfl) (Nat.le_of_ble_eq_true rfl) ?_
          exact Jj63 w_30 (1 : Int32) _ _ _ h hR hS (lv_sub hl [0, 1, 2] rfl)
    refine lv_if_ne (tgt := 28) hx hb dX8_join_21 (by decide) (fun c_21 => ?_) (fun c_21 => ?_)
    · have h := h.1 c_21
      refine lv_iconst (v := (0 : Int32)) hx hb dX8_join_28 (by decide) ?_
      refine W.widen (k := 0) (n := 0) (Nat.le_of_ble_eq_true rfl) (Nat.le_of_ble_eq_true rfl) ?_
      exact Jj29 w_18 (0 : Int32) _ _ _ h hR hS (lv_sub hl [0, 1, 2] rfl)
    · have h := h.2 c_21
      refine lv_iconst (v := (1 : Int32)) hx hb dX8_join_24 (by decide) ?_
      refine lv_goto (tgt := 29) hx hb dX8_join_25 (by decide) ?_
      refine W.widen (k := 0) (n := 0) (Nat.le_of_ble_eq_true rfl) (Nat.le_of_ble_eq_true rfl) ?_
      exact Jj29 w_18 (1 : Int32) _ _ _ h hR hS (lv_sub hl [0, 1, 2] rfl)
abbrev rm_X8_lot : Room := { frames := 6, cells := 5, slots := 39, locals := 171 }
def sp_X8_lot (κ : Kx) (y : Ly) (post : Int32 → Wd → Ly → Prop) (w : Wd) (p1 : Int32) (p2 : Int32) (p3 : Int32) (p4 : Int32) : Prop := ∀ j43 : Wd → Int32 → Prop, (j43 = fun (w43 : Wd) (s0_43 : Int32) => sp_X8_isNoDuty κ y (fun r_47 w_47 => sp_X8_start κ y (fun r_51 w_51 => ((¬ r_51 = 0) → (post ((0 : Int32)) w_51 y)) ∧ ((r_51 = 0) → (sp_X8_refuse κ y (fun r_61 w_61 => ((¬ r_61 = 0) → (post ((0 : Int32)) w_61 y)) ∧ ((r_61 = 0) → (∀ j94 : Wd → Int32 → Prop, (j94 = fun (w94 : Wd) (s0_94 : Int32) => sp_X8_refuse κ y (fun r_95 w_95 => ((r_95 = 0) → ((mL y < 8) ∧ (∀ n_107 : Nat, n_107 = mL y → ∀ w_107 : Wd, w_107 = wMkML w_95 n_107  → ∀ (y_107 : Ly) (q9a q9b q9c : Nat), y_107 = yMkML y n_107 q9a q9b q9c → ∀ w_115 : Wd, w_115 = sv w_107 27 n_107 0 (p1) → ∀ w_121 : Wd, w_121 = sv w_115 27 n_107 1 (p2) → ∀ w_127 : Wd, w_127 = sv w_121 27 n_107 2 (p3) → ∀ w_134 : Wd, w_134 = sv w_127 27 n_107 3 (p4) → ∀ y_143 : Ly, YAdd y_107 54 0 (y_107.2 27 n_107) y_143 → post ((nI (mL y_143)) - (1 : Int32)) w_134 y_143))) ∧ ((¬ (r_95 = 0)) → (post ((0 : Int32)) w_95 y))) w94 s0_94 (3 : Int32)) → (((nI (mL y) = (8 : Int32)) → (j94 w_61 (1 : Int32))) ∧ ((¬ (nI (mL y) = (8 : Int32))) → (sp_X8_isTaken κ y (fun r_83 w_83 => ((r_83 = 0) → (j94 w_83 (0 : Int32))) ∧ ((¬ (r_83 = 0)) → (j94 w_83 (1 : Int32)))) w_61 p1 p2)))))) w_51 s0_43 (2 : Int32)))) w_47 r_47 (1 : Int32)) w43 p1) → (((p2 < (1 : Int32)) → (j43 w (1 : Int32))) ∧ ((¬ (p2 < (1 : Int32))) → (((¬ p2 >>> ((nI (mV y)) &&& 31) = 0) → (j43 w (1 : Int32))) ∧ ((p2 >>> ((nI (mV y)) &&& 31) = 0) → (sp_X8_isIn κ y (fun r_20 w_20 => ((r_20 = 0) → (j43 w_20 (1 : Int32))) ∧ ((¬ (r_20 = 0)) → (sp_X8_isIn κ y (fun r_32 w_32 => ((¬ r_32 = 0) → (j43 w_32 (0 : Int32))) ∧ ((r_32 = 0) → (j43 w_32 (1 : Int32)))) w_20 p4 (0 : Int32) (5000 : Int32)))) w p3 (1 : Int32) (5 : Int32))))))
theorem hd_X8_lot : yX8_lot.cls = RX8 ∧ yX8_lot.cls ≠ "java/lang/invoke/MethodHandle" ∧ yX8_lot.cls ≠ "java/lang/invoke/VarHandle" ∧ (parseMethodDescriptor yX8_lot.desc).map (fun d => d.parameters.length) = some 4 := by decide +kernel
set_option maxHeartbeats 4000000 in
theorem m_X8_lot {l : Launch} {κ : Kx} {y : Ly} {X : XR} {post : Int32 → Wd → Ly → Prop} {w : Wd} {p1 : Int32} {p2 : Int32} {p3 : Int32} {p4 : Int32}  (hM : WFm κ y) (l0 : live y 20 0) (h : sp_X8_lot κ y post w p1 p2 p3 p4) : Met l yX8_lot (ws_ yX8_lot cX8_lot 7 (Option.some Jvm.ClassFile.FieldType.int)) rm_X8_lot (va_Pc [.ref (y.2 20 0), .int (p1), .int (p2), .int (p3), .int (p4)] (RC κ w y X)) (va_Qi (fun r (u : Wd × Ly) => post r u.1 u.2) (fun (u : Wd × Ly) t => Rp κ u.1 u.2 X [] t.heap ∧ WFm κ u.2) (Af κ)) 5 39 (Af κ) := by
  unfold sp_X8_lot at h
  refine Met.ofW (cc := cX8_lot) (maxL := 7) (ret := (Option.some Jvm.ClassFile.FieldType.int)) (by decide) rfl ?_
  intro p e s m args below meth c s₁ B hml hv
  obtain ⟨rfl, hR, hK⟩ := hv
  have hx := B.exec
  have hb := B.bytes
  have hr := B.returns
  have hts := atoms_spec (ws := ws_ yX8_lot cX8_lot 7 (Option.some Jvm.ClassFile.FieldType.int)) B.pre
  have hts : ∀ w ∈ lw_all, w.before _ s = true := fun w h => hts w (List.mem_cons_of_mem _ h)
  have hown : s.vm.findClass RX8 = some m.cls := findClass_of_methodNamed B.named
  have hlocks := B.notSynchronized
  have hLe : LeS y y := LeS.rf
  have hS : va_S (Af κ) s.heap s.heap [] := va_S.rf
  have hl := lv_entry ([.ref (y.2 20 0), .int (p1), .int (p2), .int (p3), .int (p4)]) (n := 7) (Nat.le_of_ble_eq_true rfl)
  rw [lg_entry_eq]
  generalize (lg_sl ([.ref (y.2 20 0), .int (p1), .int (p2), .int (p3), .int (p4)]) ++ List.replicate (7 - (lg_sl ([.ref (y.2 20 0), .int (p1), .int (p2), .int (p3), .int (p4)])).length) Slot.unset).toArray = ls at hl ⊢
  have hl : lv_has ls 7 [(0, .ref (y.2 20 0)), (1, .int (p1)), (2, .int (p2)), (3, .int (p3)), (4, .int (p4))] := hl
  refine lv_iload_n hx hb dX8_lot_0 rfl (lv_at hl 2 rfl) ?_
  refine lv_iconst (v := (1 : Int32)) hx hb dX8_lot_1 (by decide) ?_
  refine jn_elim h (fun j43 ej43 h => ?_)
  have Jj43 : ∀ (w43 : Wd) (s0_43 : Int32) (H : Heap) (locs : List Loc) (ls : Array Slot), j43 w43 s0_43 → Rp κ w43 y X [] H → va_S (Af κ) s.heap H locs → lv_has ls 7 [(0, .ref (y.2 20 0)), (1, .int (p1)), (2, .int (p2)), (3, .int (p3)), (4, .int (p4))] → W p l e (headSpec (ws_ yX8_lot cX8_lot 7 (Option.some Jvm.ClassFile.FieldType.int)) rm_X8_lot).room s m ([.ref (y.2 20 0), .int (p1), .int (p2), .int (p3), .int (p4)] : List Value).toArray below meth c H locs (0) (0) (MQ below (va_Qi (fun r (u : Wd × Ly) => post r u.1 u.2) (fun (u : Wd × Ly) t => Rp κ u.1 u.2 X [] t.heap ∧ WFm κ u.2) (Af κ)) ([.ref (y.2 20 0), .int (p1), .int (p2), .int (p3), .int (p4)] : List Value).toArray s 5 39 (Af κ)) (F0 m 43 ls [.int (s0_43)]) := by
    clear h
    intro w43 s0_43 H locs ls h hR hS hl
    subst ej43
    refine lv_istore (lv' := [(5, .int (s0_43)), (0, .ref (y.2 20 0)), (1, .int (p1)), (2, .int (p2)), (3, .int (p3)), (4, .int (p4))]) hx hb dX8_lot_43 hl (by decide) rfl (fun ls hl => ?_)
    refine lv_aload_n hx hb dX8_lot_45 rfl (lv_at hl 1 rfl) ?_
    refine lv_iload_n hx hb dX8_lot_46 rfl (lv_at hl 2 rfl) ?_
    refine ce_qi (fw := fun u => u) (fy := fun _ => y) (cr_S (n := 1) (As := [.int (p1)]) (rest := [.ref (y.2 20 0)]) ⟨hx, hb, hml, hown, hts⟩ hK hR (m_X8_isNoDuty hM h) q2130 q2131 q85 q2132 rfl rfl hds_X8_isNoDuty ⟨Nat.le_of_ble_eq_true rfl, Nat.le_of_ble_eq_true rfl⟩ rfl rfl hl.1 rfl (lv_room (Nat.le_of_ble_eq_true rfl)) dX8_lot_47 ⟨(Nat.le_of_ble_eq_true rfl), (Nat.le_of_ble_eq_true rfl)⟩) hR hS (fun r_47 w_47 H locs h hR _ hS => ?_)
    refine lv_iconst (v := (1 : Int32)) hx hb dX8_lot_50 (by decide) ?_
    refine ce_qi (fw := fun u => u) (fy := fun _ => y) (cr_V (n := 2) (As := [.int (r_47), .int ((1 : Int32))]) (rest := []) ⟨hx, hb, hml, hown, hts⟩ hK hR (m_X8_start hM l0 h) q2023 q2025 qs37 q85 q2026 rfl rfl hd_X8_start ⟨Nat.le_of_ble_eq_true rfl, Nat.le_of_ble_eq_true rfl⟩ (rv hK hR l0 (ci := 11) rfl rfl) rfl rfl hl.1 rfl (lv_room (Nat.le_of_ble_eq_true rfl)) dX8_lot_51 ⟨(Nat.le_of_ble_eq_true rfl), (Nat.le_of_ble_eq_true rfl)⟩) hR hS (fun r_51 w_51 H locs h hR _ hS => ?_)
    refine lv_if_ne (tgt := 101) hx hb dX8_lot_54 (by decide) (fun c_54 => ?_) (fun c_54 => ?_)
    · have h := h.1 c_54
      refine lv_iconst (v := (0 : Int32)) hx hb dX8_lot_101 (by decide) ?_
      refine W.widen (k := 5) (n := 39) (Nat.le_of_ble_eq_true rfl) (Nat.le_of_ble_eq_true rfl) ?_
      exact W.iret (v := (0 : Int32)) hx hb hr (fun t ht hW9 => ⟨⟨(0 : Int32), (w_51, y), rfl, h, ⟨rpt ht hR, hM⟩⟩, hS.F ht⟩) hS.2.2 dX8_lot_102
    · have h := h.2 c_54
      refine lv_aload_n hx hb dX8_lot_57 rfl (lv_at hl 1 rfl) ?_
      refine lv_iload hx hb dX8_lot_58 (lv_at hl 0 rfl) ?_
      refine lv_iconst (v := (2 : Int32)) hx hb dX8_lot_60 (by decide) ?_
      refine ce_qi (fw := fun u => u) (fy := fun _ => y) (cr_V (n := 2) (As := [.int (s0_43), .int ((2 : Int32))]) (rest := []) ⟨hx, hb, hml, hown, hts⟩ hK hR (m_X8_refuse hM l0 h) q2027 q2029 qs38 q85 q2030 rfl rfl hd_X8_refuse ⟨Nat.le_of_ble_eq_true rfl, Nat.le_of_ble_eq_true rfl⟩ (rv hK hR l0 (ci := 11) rfl rfl) rfl rfl hl.1 rfl (lv_room (Nat.le_of_ble_eq_true rfl)) dX8_lot_61 ⟨(Nat.le_of_ble_eq_true rfl), (Nat.le_of_ble_eq_true rfl)⟩) hR hS (fun r_61 w_61 H locs h hR _ hS => ?_)
      refine lv_if_ne (tgt := 101) hx hb dX8_lot_64 (by decide) (fun c_64 => ?_) (fun c_64 => ?_)
      · have h := h.1 c_64
        refine lv_iconst (v := (0 : Int32)) hx hb dX8_lot_101 (by decide) ?_
        refine W.widen (k := 5) (n := 39) (Nat.le_of_ble_eq_true rfl) (Nat.le_of_ble_eq_true rfl) ?_
        exact W.iret (v := (0 : Int32)) hx hb hr (fun t ht hW9 => ⟨⟨(0 : Int32), (w_61, y), rfl, h, ⟨rpt ht hR, hM⟩⟩, hS.F ht⟩) hS.2.2 dX8_lot_102
      · have h := h.2 c_64
        refine lv_aload_n hx hb dX8_lot_67 rfl (lv_at hl 1 rfl) ?_
        refine lv_aload_n hx hb dX8_lot_68 rfl (lv_at hl 1 rfl) ?_
        refine g20_5 hx hb hts hown hK hR l0 q1950 dX8_lot_69 ?_
        refine jr_size ⟨hx, hb, hml, hown, hts⟩ hK hR ⟨fun _ _ _ _ _ => rfl, fun _ _ _ _ _ => rfl⟩ hM.lsL q2031 ⟨Nat.le_of_ble_eq_true rfl, Nat.le_of_ble_eq_true rfl⟩ hl.1 (Nat.le_of_ble_eq_true rfl) dX8_lot_72 ⟨(Nat.le_of_ble_eq_true rfl), (Nat.le_of_ble_eq_true rfl)⟩ ?_
        refine lv_bipush (v := (8 : Int32)) hx hb dX8_lot_75 (by decide) ?_
        refine jn_elim h (fun j94 ej94 h => ?_)
        have Jj94 : ∀ (w94 : Wd) (s0_94 : Int32) (H : Heap) (locs : List Loc) (ls : Array Slot), j94 w94 s0_94 → Rp κ w94 y X [] H → va_S (Af κ) s.heap H locs → lv_has ls 7 [(0, .ref (y.2 20 0)), (1, .int (p1)), (2, .int (p2)), (3, .int (p3)), (4, .int (p4))] → W p l e (headSpec (ws_ yX8_lot cX8_lot 7 (Option.some Jvm.ClassFile.FieldType.int)) rm_X8_lot).room s m ([.ref (y.2 20 0), .int (p1), .int (p2), .int (p3), .int (p4)] : List Value).toArray below meth c H locs (1) (4) (MQ below (va_Qi (fun r (u : Wd × Ly) => post r u.1 u.2) (fun (u : Wd × Ly) t => Rp κ u.1 u.2 X [] t.heap ∧ WFm κ u.2) (Af κ)) ([.ref (y.2 20 0), .int (p1), .int (p2), .int (p3), .int (p4)] : List Value).toArray s 5 39 (Af κ)) (F0 m 94 ls [.int (s0_94), .ref (y.2 20 0)]) := by
          clear h
          intro w94 s0_94 H locs ls h hR hS hl
          subst ej94
          refine lv_iconst (v := (3 : Int32)) hx hb dX8_lot_94 (by decide) ?_
          refine ce_qi (fw := fun u => u) (fy := fun _ => y) (cr_V (n := 2) (As := [.int (s0_94), .int ((3 : Int32))]) (rest := []) ⟨hx, hb, hml, hown, hts⟩ hK hR (m_X8_refuse hM l0 h) q2027 q2029 qs38 q85 q2030 rfl rfl hd_X8_refuse ⟨Nat.le_of_ble_eq_true rfl, Nat.le_of_ble_eq_true rfl⟩ (rv hK hR l0 (ci := 11) rfl rfl) rfl rfl hl.1 rfl (lv_room (Nat.le_of_ble_eq_true rfl)) dX8_lot_95 ⟨(Nat.le_of_ble_eq_true rfl), (Nat.le_of_ble_eq_true rfl)⟩) hR hS (fun r_95 w_95 H locs h hR _ hS => ?_)
          refine lv_if_eq (tgt := 103) hx hb dX8_lot_98 (by decide) (fun c_98 => ?_) (fun c_98 => ?_)
          · have h := h.1 c_98
            refine xa_new (C := RX16) (T := TX16) (N := 13) (ci := 14) (fs := [.int 0, .int 0, .int 0, .int 0, .int 0, .int 0, .int 0, .int 0, .int 0, .int 0, .int 0, .null, .null]) hx hb hts in_X16 tyX16 tyX16_ok hown q2253 q2254 q114 hK.1 hS rfl (fun j hj => by rcases (show j = 0 ∨ j = 1 ∨ j = 2 ∨ j = 3 ∨ j = 4 ∨ j = 5 ∨ j = 6 ∨ j = 7 ∨ j = 8 ∨ j = 9 ∨ j = 10 ∨ j = 11 ∨ j = 12 by omega) with rfl | rfl | rfl | rfl | rfl | rfl | rfl | rfl | rfl | rfl | rfl | rfl | rfl <;> rfl) (Nat.le_of_ble_eq_true rfl) (Nat.le_of_ble_eq_true rfl) dX8_lot_103 (fun q_103 H1 hq h1 hz ho hS => ?_)
            have hR := hR.newL hq h1 (by omega) ho
            clear hq h1 hz ho
            generalize H1 = H at hR hS ⊢
            have hR : Rp κ w_95 y X [(q_103, .inr (14, [.int 0, .int 0, .int 0, .int 0, .int 0, .int 0, .int 0, .int 0, .int 0, .int 0, .int 0, .null, .null]))] H := hR
            refine lv_dup hx hb dX8_lot_106 rfl ?_
            have o_107 := h.1
            have h := h.2
            obtain ⟨n_107, en_n_107⟩ : ∃ z : Nat, z = mL y := ⟨_, rfl⟩
            have h := h n_107 en_n_107
            refine va_callv (va_runIN (As := []) (rest := [.ref (q_103)]) ⟨hx, hb, hml, hown, hts⟩ (m_X16_init (X := xl X [(q_103, .inr (14, [.int 0, .int 0, .int 0, .int 0, .int 0, .int 0, .int 0, .int 0, .int 0, .int 0, .int 0, .null, .null]))]) (Or.inr ⟨0, rfl⟩)) ⟨va_cnB 0 hts (lw_meth q2257) rfl rfl rfl (hK.2.1.1 _ (List.mem_of_getElem? (i := 15) rfl)) (hts _ q114) (by decide +kernel) ⟨Nat.le_of_ble_eq_true rfl, Nat.le_of_ble_eq_true rfl⟩, rfl, hts _ q2256⟩ ⟨RC.blind, RC.pre hR hK⟩ rfl rfl hl.1 rfl (lv_room (Nat.le_of_ble_eq_true rfl)) dX8_lot_107 ⟨(Nat.le_of_ble_eq_true rfl), (Nat.le_of_ble_eq_true rfl)⟩) hS (fun _ _ h => h) (fun _ h => h) (fun u_107 t9 H locs ht9 _ hp9 hB9 hz9 _ hS => ?_)
            rw [ht9] at hB9
            have hR := hR.wroteLs (t := 0) rfl hB9
            clear hB9 hz9 hp9
            have hR := hR.mkML (n := n_107)
            obtain ⟨w_107, ew_107⟩ : ∃ z, z = wMkML w_95 n_107  := ⟨_, rfl⟩
            obtain ⟨y_107, ey_107⟩ : ∃ z, z = yMkML y n_107 q_103 u_107.1 u_107.2 := ⟨_, rfl⟩
            have h := h w_107 ew_107 y_107 _ _ _ ey_107
            have hR : Rp κ w_107 y_107 X [] H := by
              rw [ew_107, ey_107]
              exact hR
            have lv_y_107 : live y_107 27 n_107 := ⟨by rw [ey_107]; exact yMkML_f0, by decide⟩
            have hq_y_107 : q_103 = y_107.2 27 n_107 := by rw [ey_107]; exact yMkML_a0.symm
            have hM_y_107 : WFm κ y_107 := by rw [ey_107]; exact WFm.mkML hM en_n_107 (by rw [en_n_107]; exact o_107)
            rw [hq_y_107]
            have lv_107 := l0
            have ea_107 : y_107.2 20 0 = y.2 20 0 := by rw [ey_107]; exact yMkML_2 (by omega)
            have lw_107 : live y_107 20 0 := ⟨by rw [ey_107, yMkML_1 (by omega)]; exact lv_107.1, lv_107.2⟩
            have hl : lv_has ls 7 [(0, .ref (y_107.2 20 0)), (1, .int (p1)), (2, .int (p2)), (3, .int (p3)), (4, .int (p4))] := by
              rw [ea_107]
              exact hl
            have cn_107 : n_107 = mL y_107 := by rw [en_n_107, ey_107]; exact (show (yMkML y n_107 q_103 u_107.1 u_107.2).1 154 0 = y.1 154 0 from yMkML_1 (by omega)).symm
            refine lv_astore (lv' := [(6, .ref (y_107.2 27 n_107)), (0, .ref (y_107.2 20 0)), (1, .int (p1)), (2, .int (p2)), (3, .int (p3)), (4, .int (p4))]) hx hb dX8_lot_110 hl (by decide) rfl (fun ls hl => ?_)
            refine lv_aload hx hb dX8_lot_112 (lv_at hl 0 rfl) ?_
            refine lv_iload_n hx hb dX8_lot_114 rfl (lv_at hl 2 rfl) ?_
            refine p27_0 hx hb hts hown hK hR hS lv_y_107 q2259 dX8_lot_115 (fun H locs w_115 ew_115 hR hS => ?_)
            have h := h w_115 ew_115
            refine lv_aload hx hb dX8_lot_118 (lv_at hl 0 rfl) ?_
            refine lv_iload_n hx hb dX8_lot_120 rfl (lv_at hl 3 rfl) ?_
            refine p27_1 hx hb hts hown hK hR hS lv_y_107 q2260 dX8_lot_121 (fun H locs w_121 ew_121 hR hS => ?_)
            have h := h w_121 ew_121
            refine lv_aload hx hb dX8_lot_124 (lv_at hl 0 rfl) ?_
            refine lv_iload_n hx hb dX8_lot_126 rfl (lv_at hl 4 rfl) ?_
            refine p27_2 hx hb hts hown hK hR hS lv_y_107 q2261 dX8_lot_127 (fun H locs w_127 ew_127 hR hS => ?_)
            have h := h w_127 ew_127
            refine lv_aload hx hb dX8_lot_130 (lv_at hl 0 rfl) ?_
            refine lv_iload hx hb dX8_lot_132 (lv_at hl 5 rfl) ?_
            refine p27_3 hx hb hts hown hK hR hS lv_y_107 q2262 dX8_lot_134 (fun H locs w_134 ew_134 hR hS => ?_)
            have h := h w_134 ew_134
            refine lv_aload_n hx hb dX8_lot_137 rfl (lv_at hl 1 rfl) ?_
            refine g20_5 hx hb hts hown hK hR lw_107 q1950 dX8_lot_138 ?_
            refine lv_aload hx hb dX8_lot_141 (lv_at hl 0 rfl) ?_
            have lv_143 := lv_y_107
            have lv_143_a := lw_107
            refine jr_add ⟨hx, hb, hml, hown, hts⟩ hK hR hS ⟨fun _ _ _ _ _ => rfl, fun _ _ _ _ _ => rfl⟩ (by decide) (by decide) (by decide) hM_y_107.lsL (Nat.lt_of_le_of_lt hM_y_107.mL8 (by decide)) (fun hp9 => hM_y_107.arL hp9) (fun X1 L1 H1 hR1 => ⟨14, _, _, rfl, List.mem_of_getElem? (i := 26) rfl, hR1.role (live_off lv_y_107 (by omega) (by omega))⟩) q2096 ⟨Nat.le_of_ble_eq_true rfl, Nat.le_of_ble_eq_true rfl⟩ hl.1 (Nat.le_of_ble_eq_true rfl) dX8_lot_143 ⟨(Nat.le_of_ble_eq_true rfl), (Nat.le_of_ble_eq_true rfl)⟩ (fun H locs y_143 hY_y_143 hR hS => ?_)
            have h := h y_143 hY_y_143
            have hM_y_143 : WFm κ y_143 := WFm.addML hM_y_107 hY_y_143 cn_107 (by rw [en_n_107]; exact o_107) lv_y_107
            have ea_143 : y_143.2 27 n_107 = y_107.2 27 n_107 := hY_y_143.2.2 27 n_107 (by omega) (by omega)
            have lw_143 : live y_143 27 n_107 := ⟨by rw [hY_y_143.2.1 27 n_107 (by omega) (by omega) (by omega)]; exact lv_143.1, lv_143.2⟩
            have ea_143_a : y_143.2 20 0 = y_107.2 20 0 := hY_y_143.2.2 20 0 (by omega) (by omega)
            have lw_143_a : live y_143 20 0 := ⟨by rw [hY_y_143.2.1 20 0 (by omega) (by omega) (by omega)]; exact lv_143_a.1, lv_143_a.2⟩
            have hl : lv_has ls 7 [(6, .ref (y_143.2 27 n_107)), (0, .ref (y_143.2 20 0)), (1, .int (p1)), (2, .int (p2)), (3, .int (p3)), (4, .int (p4))] := by
              rw [ea_143, ea_143_a]
              exact hl
            refine lv_pop hx hb dX8_lot_146 rfl ?_
            refine lv_aload_n hx hb dX8_lot_147 rfl (lv_at hl 1 rfl) ?_
            refine g20_5 hx hb hts hown hK hR lw_143_a q1950 dX8_lot_148 ?_
            refine jr_size ⟨hx, hb, hml, hown, hts⟩ hK hR ⟨fun _ _ _ _ _ => rfl, fun _ _ _ _ _ => rfl⟩ hM_y_143.lsL q2031 ⟨Nat.le_of_ble_eq_true rfl, Nat.le_of_ble_eq_true rfl⟩ hl.1 (Nat.le_of_ble_eq_true rfl) dX8_lot_151 ⟨(Nat.le_of_ble_eq_true rfl), (Nat.le_of_ble_eq_true rfl)⟩ ?_
            refine lv_iconst (v := (1 : Int32)) hx hb dX8_lot_154 (by decide) ?_
            refine lv_isub hx hb dX8_lot_155 ?_
            refine W.widen (k := 5) (n := 39) (Nat.le_of_ble_eq_true rfl) (Nat.le_of_ble_eq_true rfl) ?_
            exact W.iret (v := (nI (mL y_143)) - (1 : Int32)) hx hb hr (fun t ht hW9 => ⟨⟨(nI (mL y_143)) - (1 : Int32), (w_134, y_143), rfl, h, ⟨rpt ht hR, hM_y_143⟩⟩, hS.F ht⟩) hS.2.2 dX8_lot_156
          · have h := h.2 c_98
            refine lv_iconst (v := (0 : Int32)) hx hb dX8_lot_101 (by decide) ?_
            refine W.widen (k := 5) (n := 39) (Nat.le_of_ble_eq_true rfl) (Nat.le_of_ble_eq_true rfl) ?_
            exact W.iret (v := (0 : Int32)) hx hb hr (fun t ht hW9 => ⟨⟨(0 : Int32), (w_95, y), rfl, h, ⟨rpt ht hR, hM⟩⟩, hS.F ht⟩) hS.2.2 dX8_lot_102
        refine lv_icmp_eq (tgt := 89) hx hb dX8_lot_77 (by decide) (fun c_77 => ?_) (fun c_77 => ?_)
        · have h := h.1 c_77
          refine lv_iconst (v := (1 : Int32)) hx hb dX8_lot_89 (by decide) ?_
          refine lv_goto (tgt := 94) hx hb dX8_lot_90 (by decide) ?_
          refine W.widen (k := 1) (n := 4) (Nat.le_of_ble_eq_true rfl) (Nat.le_of_ble_eq_true rfl) ?_
          exact Jj94 w_61 (1 : Int32) _ _ _ h hR hS (lv_sub hl [1, 2, 3, 4, 5] rfl)
        · have h := h.2 c_77
          refine lv_aload_n hx hb dX8_lot_80 rfl (lv_at hl 1 rfl) ?_
          refine lv_iload_n hx hb dX8_lot_81 rfl (lv_at hl 2 rfl) ?_
          refine lv_iload_n hx hb dX8_lot_82 rfl (lv_at hl 3 rfl) ?_
          refine ce_qi (fw := fun u => u) (fy := fun _ => y) (cr_V (n := 2) (As := [.int (p1), .int (p2)]) (rest := [.ref (y.2 20 0)]) ⟨hx, hb, hml, hown, hts⟩ hK hR (m_X8_isTaken hM l0 h) q2244 q2246 qs43 q85 q2247 rfl rfl hd_X8_isTaken ⟨Nat.le_of_ble_eq_true rfl, Nat.le_of_ble_eq_true rfl⟩ (rv hK hR l0 (ci := 11) rfl rfl) rfl rfl hl.1 rfl (lv_room (Nat.le_of_ble_eq_true rfl)) dX8_lot_83 ⟨(Nat.le_of_ble_eq_true rfl), (Nat.le_of_ble_eq_true rfl)⟩) hR hS (fun r_83 w_83 H locs h hR _ hS => ?_)
          refine lv_if_eq (tgt := 93) hx hb dX8_lot_86 (by decide) (fun c_86 => ?_) (fun c_86 => ?_)
          · have h := h.1 c_86
            refine lv_iconst (v := (0 : Int32)) hx hb dX8_lot_93 (by decide) ?_
            refine W.widen (k := 1) (n := 4) (Nat.le_of_ble_eq_true rfl) (Nat.le_of_ble_eq_true rfl) ?_
            exact Jj94 w_83 (0 : Int32) _ _ _ h hR hS (lv_sub hl [1, 2, 3, 4, 5] rfl)
          · have h := h.2 c_86
            refine lv_iconst (v := (1 : Int32)) hx hb dX8_lot_89 (by decide) ?_
            refine lv_goto (tgt := 94) hx hb dX8_lot_90 (by decide) ?_
            refine W.widen (k := 1) (n := 4) (Nat.le_of_ble_eq_true rfl) (Nat.le_of_ble_eq_true rfl) ?_
            exact Jj94 w_83 (1 : Int32) _ _ _ h hR hS (lv_sub hl [1, 2, 3, 4, 5] rfl)
  refine lv_icmp_lt (tgt := 38) hx hb dX8_lot_2 (by decide) (fun c_2 => ?_) (fun c_2 => ?_)
  · have h := h.1 c_2
    refine lv_iconst (v := (1 : Int32)) hx hb dX8_lot_38 (by decide) ?_
    refine lv_goto (tgt := 43) hx hb dX8_lot_39 (by decide) ?_
    refine W.widen (k := 0) (n := 0) (Nat.le_of_ble_eq_true rfl) (Nat.le_of_ble_eq_true rfl) ?_
    exact Jj43 w (1 : Int32) _ _ _ h hR hS (lv_sub hl [0, 1, 2, 3, 4] rfl)
  · have h := h.2 c_2
    refine lv_iload_n hx hb dX8_lot_5 rfl (lv_at hl 2 rfl) ?_
    refine lv_aload_n hx hb dX8_lot_6 rfl (lv_at hl 0 rfl) ?_
    refine g20_3 hx hb hts hown hK hR l0 q1948 dX8_lot_7 ?_
    refine jr_size ⟨hx, hb, hml, hown, hts⟩ hK hR ⟨fun _ _ _ _ _ => rfl, fun _ _ _ _ _ => rfl⟩ hM.lsV q2031 ⟨Nat.le_of_ble_eq_true rfl, Nat.le_of_ble_eq_true rfl⟩ hl.1 (Nat.le_of_ble_eq_true rfl) dX8_lot_10 ⟨(Nat.le_of_ble_eq_true rfl), (Nat.le_of_ble_eq_true rfl)⟩ ?_
    refine lv_ishr hx hb dX8_lot_13 ?_
    refine lv_if_ne (tgt := 38) hx hb dX8_lot_14 (by decide) (fun c_14 => ?_) (fun c_14 => ?_)
    · have h := h.1 c_14
      refine lv_iconst (v := (1 : Int32)) hx hb dX8_lot_38 (by decide) ?_
      refine lv_goto (tgt := 43) hx hb dX8_lot_39 (by decide) ?_
      refine W.widen (k := 0) (n := 0) (Nat.le_of_ble_eq_true rfl) (Nat.le_of_ble_eq_true rfl) ?_
      exact Jj43 w (1 : Int32) _ _ _ h hR hS (lv_sub hl [0, 1, 2, 3, 4] rfl)
    · have h := h.2 c_14
      refine lv_iload_n hx hb dX8_lot_17 rfl (lv_at hl 3 rfl) ?_
      refine lv_iconst (v := (1 : Int32)) hx hb dX8_lot_18 (by decide) ?_
      refine lv_iconst (v := (5 : Int32)) hx hb dX8_lot_19 (by decide) ?_
      refine ce_qi (fw := fun u => u) (fy := fun _ => y) (cr_S (n := 3) (As := [.int (p3), .int ((1 : Int32)), .int ((5 : Int32))]) (rest := []) ⟨hx, hb, hml, hown, hts⟩ hK hR (m_X8_isIn hM h) q2020 q2021 q85 q2022 rfl rfl hds_X8_isIn ⟨Nat.le_of_ble_eq_true rfl, Nat.le_of_ble_eq_true rfl⟩ rfl rfl hl.1 rfl (lv_room (Nat.le_of_ble_eq_true rfl)) dX8_lot_20 ⟨(Nat.le_of_ble_eq_true rfl), (Nat.le_of_ble_eq_true rfl)⟩) hR hS (fun r_20 w_20 H locs h hR _ hS => ?_)
      refine lv_if_eq (tgt := 38) hx hb dX8_lot_23 (by decide) (fun c_23 => ?_) (fun c_23 => ?_)
      · have h := h.1 c_23
        refine lv_iconst (v := (1 : Int32)) hx hb dX8_lot_38 (by decide) ?_
        refine lv_goto (tgt := 43) hx hb dX8_lot_39 (by decide) ?_
        refine W.widen (k := 0) (n := 0) (Nat.le_of_ble_eq_true rfl) (Nat.le_of_ble_eq_true rfl) ?_
        exact Jj43 w_20 (1 : Int32) _ _ _ h hR hS (lv_sub hl [0, 1, 2, 3, 4] rfl)
      · have h := h.2 c_23
        refine lv_iload hx hb dX8_lot_26 (lv_at hl 4 rfl) ?_
        refine lv_iconst (v := (0 : Int32)) hx hb dX8_lot_28 (by decide) ?_
        refine lv_sipush (v := (5000 : Int32)) hx hb dX8_lot_29 (by decide) ?_
        refine ce_qi (fw := fun u => u) (fy := fun _ => y) (cr_S (n := 3) (As := [.int (p4), .int ((0 : Int32)), .int ((5000 : Int32))]) (rest := []) ⟨hx, hb, hml, hown, hts⟩ hK hR (m_X8_isIn hM h) q2020 q2021 q85 q2022 rfl rfl hds_X8_isIn ⟨Nat.le_of_ble_eq_true rfl, Nat.le_of_ble_eq_true rfl⟩ rfl rfl hl.1 rfl (lv_room (Nat.le_of_ble_eq_true rfl)) dX8_lot_32 ⟨(Nat.le_of_ble_eq_true rfl), (Nat.le_of_ble_eq_true rfl)⟩) hR hS (fun r_32 w_32 H locs h hR _ hS => ?_)
        refine lv_if_ne (tgt := 42) hx hb dX8_lot_35 (by decide) (fun c_35 => ?_) (fun c_35 => ?_)
        · have h := h.1 c_35
          refine lv_iconst (v := (0 : Int32)) hx hb dX8_lot_42 (by decide) ?_
          refine W.widen (k := 0) (n := 0) (Nat.le_of_ble_eq_true rfl) (Nat.le_of_ble_eq_true rfl) ?_
          exact Jj43 w_32 (0 : Int32) _ _ _ h hR hS (lv_sub hl [0, 1, 2, 3, 4] rfl)
        · have h := h.2 c_35
          refine lv_iconst (v := (1 : Int32)) hx hb dX8_lot_38 (by decide) ?_
          refine lv_goto (tgt := 43) hx hb dX8_lot_39 (by decide) ?_
          refine W.widen (k := 0) (n := 0) (Nat.le_of_ble_eq_true rfl) (Nat.le_of_ble_eq_true rfl) ?_
          exact Jj43 w_32 (1 : Int32) _ _ _ h hR hS (lv_sub hl [0, 1, 2, 3, 4] rfl)
abbrev rm_X8_bid : Room := { frames := 5, cells := 1, slots := 4, locals := 114 }
def sp_X8_bid (κ : Kx) (y : Ly) (post : Int32 → Wd → Prop) (w : Wd) (p1 : Int32) (p2 : Int32) (p3 : Int32) : Prop := sp_X8_isNoCompany κ y (fun r_3 w_3 => ∀ j22 : Wd → Int32 → Prop, (j22 = fun (w22 : Wd) (s0_22 : Int32) => sp_X8_start κ y (fun r_23 w_23 => ((¬ r_23 = 0) → (post ((0 : Int32)) w_23)) ∧ ((r_23 = 0) → (sp_X8_isIn κ y (fun r_35 w_35 => ∀ j46 : Wd → Int32 → Prop, (j46 = fun (w46 : Wd) (s0_46 : Int32) => sp_X8_refuse κ y (fun r_47 w_47 => ((r_47 = 0) → ((vp_in (p2) (mL y)) ∧ (∀ j110 : Wd → Int32 → Prop, (j110 = fun (w110 : Wd) (s0_110 : Int32) => sp_X8_refuse κ y (fun r_111 w_111 => ((r_111 = 0) → ((vp_in (p1) 4) ∧ (∀ w_126 : Wd, w_126 = sv w_111 28 (((((p2).toNatClampNeg)))) (p1).toNatClampNeg (p3) → sp_X8_highest κ y (fun r_129 w_129 => post (r_129) w_129) w_126 (((p2).toNatClampNeg))))) ∧ ((¬ (r_111 = 0)) → (post ((0 : Int32)) w_111))) w110 s0_110 (3 : Int32)) → (((¬ gv w_47 27 (((p2).toNatClampNeg)) 4 = 0) → (j110 w_47 (1 : Int32))) ∧ ((gv w_47 27 (((p2).toNatClampNeg)) 4 = 0) → ((vp_in (p1) (mC y)) ∧ (((¬ gv w_47 26 (((p1).toNatClampNeg)) 4 = 0) → (j110 w_47 (1 : Int32))) ∧ ((gv w_47 26 (((p1).toNatClampNeg)) 4 = 0) → (sp_X8_free κ y (fun r_96 w_96 => ((p3 / (4 : Int32) ≤ r_96) → (j110 w_96 (0 : Int32))) ∧ ((¬ (p3 / (4 : Int32) ≤ r_96)) → (j110 w_96 (1 : Int32)))) w_47 p1))))))))) ∧ ((¬ (r_47 = 0)) → (post ((0 : Int32)) w_47))) w46 s0_46 (2 : Int32)) → (((¬ r_35 = 0) → (j46 w_35 (0 : Int32))) ∧ ((r_35 = 0) → (j46 w_35 (1 : Int32))))) w_23 p3 (1 : Int32) (9000 : Int32)))) w22 s0_22 (1 : Int32)) → (((¬ r_3 = 0) → (j22 w_3 (1 : Int32))) ∧ ((r_3 = 0) → (sp_X8_isNoLot κ y (fun r_11 w_11 => ((r_11 = 0) → (j22 w_11 (0 : Int32))) ∧ ((¬ (r_11 = 0)) → (j22 w_11 (1 : Int32)))) w_3 p2)))) w p1
theorem hd_X8_bid : yX8_bid.cls = RX8 ∧ yX8_bid.cls ≠ "java/lang/invoke/MethodHandle" ∧ yX8_bid.cls ≠ "java/lang/invoke/VarHandle" ∧ (parseMethodDescriptor yX8_bid.desc).map (fun d => d.parameters.length) = some 3 := by decide +kernel
set_option maxHeartbeats 4000000 in
theorem m_X8_bid {l : Launch} {κ : Kx} {y : Ly} {X : XR} {post : Int32 → Wd → Prop} {w : Wd} {p1 : Int32} {p2 : Int32} {p3 : Int32}  (hM : WFm κ y) (l0 : live y 20 0) (h : sp_X8_bid κ y post w p1 p2 p3) : Met l yX8_bid (ws_ yX8_bid cX8_bid 5 (Option.some Jvm.ClassFile.FieldType.int)) rm_X8_bid (va_Pc [.ref (y.2 20 0), .int (p1), .int (p2), .int (p3)] (RC κ w y X)) (va_Qi post (fun w t => Rp κ w y X [] t.heap) (Af κ)) 1 4 (Af κ) := by
  unfold sp_X8_bid at h
  refine Met.ofW (cc := cX8_bid) (maxL := 5) (ret := (Option.some Jvm.ClassFile.FieldType.int)) (by decide) rfl ?_
  intro p e s m args below meth c s₁ B hml hv
  obtain ⟨rfl, hR, hK⟩ := hv
  have hx := B.exec
  have hb := B.bytes
  have hr := B.returns
  have hts := atoms_spec (ws := ws_ yX8_bid cX8_bid 5 (Option.some Jvm.ClassFile.FieldType.int)) B.pre
  have hts : ∀ w ∈ lw_all, w.before _ s = true := fun w h => hts w (List.mem_cons_of_mem _ h)
  have hown : s.vm.findClass RX8 = some m.cls := findClass_of_methodNamed B.named
  have hlocks := B.notSynchronized
  have hS : va_S (Af κ) s.heap s.heap [] := va_S.rf
  have hl := lv_entry ([.ref (y.2 20 0), .int (p1), .int (p2), .int (p3)]) (n := 5) (Nat.le_of_ble_eq_true rfl)
  rw [lg_entry_eq]
  generalize (lg_sl ([.ref (y.2 20 0), .int (p1), .int (p2), .int (p3)]) ++ List.replicate (5 - (lg_sl ([.ref (y.2 20 0), .int (p1), .int (p2), .int (p3)])).length) Slot.unset).toArray = ls at hl ⊢
  have hl : lv_has ls 5 [(0, .ref (y.2 20 0)), (1, .int (p1)), (2, .int (p2)), (3, .int (p3))] := hl
  refine lv_aload_n hx hb dX8_bid_0 rfl (lv_at hl 0 rfl) ?_
  refine lv_aload_n hx hb dX8_bid_1 rfl (lv_at hl 0 rfl) ?_
  refine lv_iload_n hx hb dX8_bid_2 rfl (lv_at hl 1 rfl) ?_
  refine ce_qi (fw := fun u => u) (fy := fun _ => y) (cr_V (n := 1) (As := [.int (p1)]) (rest := [.ref (y.2 20 0)]) ⟨hx, hb, hml, hown, hts⟩ hK hR (m_X8_isNoCompany hM l0 h) q2189 q2191 qs42 q85 q2192 rfl rfl hd_X8_isNoCompany ⟨Nat.le_of_ble_eq_true rfl, Nat.le_of_ble_eq_true rfl⟩ (rv hK hR l0 (ci := 11) rfl rfl) rfl rfl hl.1 rfl (lv_room (Nat.le_of_ble_eq_true rfl)) dX8_bid_3 ⟨(Nat.le_of_ble_eq_true rfl), (Nat.le_of_ble_eq_true rfl)⟩) hR hS (fun r_3 w_3 H locs h hR _ hS => ?_)
  refine jn_elim h (fun j22 ej22 h => ?_)
  have Jj22 : ∀ (w22 : Wd) (s0_22 : Int32) (H : Heap) (locs : List Loc) (ls : Array Slot), j22 w22 s0_22 → Rp κ w22 y X [] H → va_S (Af κ) s.heap H locs → lv_has ls 5 [(0, .ref (y.2 20 0)), (1, .int (p1)), (2, .int (p2)), (3, .int (p3))] → W p l e (headSpec (ws_ yX8_bid cX8_bid 5 (Option.some Jvm.ClassFile.FieldType.int)) rm_X8_bid).room s m ([.ref (y.2 20 0), .int (p1), .int (p2), .int (p3)] : List Value).toArray below meth c H locs (0) (0) (MQ below (va_Qi post (fun w t => Rp κ w y X [] t.heap) (Af κ)) ([.ref (y.2 20 0), .int (p1), .int (p2), .int (p3)] : List Value).toArray s 1 4 (Af κ)) (F0 m 22 ls [.int (s0_22), .ref (y.2 20 0)]) := by
    clear h
    intro w22 s0_22 H locs ls h hR hS hl
    subst ej22
    refine lv_iconst (v := (1 : Int32)) hx hb dX8_bid_22 (by decide) ?_
    refine ce_qi (fw := fun u => u) (fy := fun _ => y) (cr_V (n := 2) (As := [.int (s0_22), .int ((1 : Int32))]) (rest := []) ⟨hx, hb, hml, hown, hts⟩ hK hR (m_X8_start hM l0 h) q2023 q2025 qs37 q85 q2026 rfl rfl hd_X8_start ⟨Nat.le_of_ble_eq_true rfl, Nat.le_of_ble_eq_true rfl⟩ (rv hK hR l0 (ci := 11) rfl rfl) rfl rfl hl.1 rfl (lv_room (Nat.le_of_ble_eq_true rfl)) dX8_bid_23 ⟨(Nat.le_of_ble_eq_true rfl), (Nat.le_of_ble_eq_true rfl)⟩) hR hS (fun r_23 w_23 H locs h hR _ hS => ?_)
    refine lv_if_ne (tgt := 53) hx hb dX8_bid_26 (by decide) (fun c_26 => ?_) (fun c_26 => ?_)
    · have h := h.1 c_26
      refine lv_iconst (v := (0 : Int32)) hx hb dX8_bid_53 (by decide) ?_
      refine W.widen (k := 1) (n := 4) (Nat.le_of_ble_eq_true rfl) (Nat.le_of_ble_eq_true rfl) ?_
      exact W.iret (v := (0 : Int32)) hx hb hr (fun t ht hW9 => ⟨⟨(0 : Int32), w_23, rfl, h, rpt ht hR⟩, hS.F ht⟩) hS.2.2 dX8_bid_54
    · have h := h.2 c_26
      refine lv_aload_n hx hb dX8_bid_29 rfl (lv_at hl 0 rfl) ?_
      refine lv_iload_n hx hb dX8_bid_30 rfl (lv_at hl 3 rfl) ?_
      refine lv_iconst (v := (1 : Int32)) hx hb dX8_bid_31 (by decide) ?_
      refine lv_sipush (v := (9000 : Int32)) hx hb dX8_bid_32 (by decide) ?_
      refine ce_qi (fw := fun u => u) (fy := fun _ => y) (cr_S (n := 3) (As := [.int (p3), .int ((1 : Int32)), .int ((9000 : Int32))]) (rest := [.ref (y.2 20 0)]) ⟨hx, hb, hml, hown, hts⟩ hK hR (m_X8_isIn hM h) q2020 q2021 q85 q2022 rfl rfl hds_X8_isIn ⟨Nat.le_of_ble_eq_true rfl, Nat.le_of_ble_eq_true rfl⟩ rfl rfl hl.1 rfl (lv_room (Nat.le_of_ble_eq_true rfl)) dX8_bid_35 ⟨(Nat.le_of_ble_eq_true rfl), (Nat.le_of_ble_eq_true rfl)⟩) hR hS (fun r_35 w_35 H locs h hR _ hS => ?_)
      refine jn_elim h (fun j46 ej46 h => ?_)
      have Jj46 : ∀ (w46 : Wd) (s0_46 : Int32) (H : Heap) (locs : List Loc) (ls : Array Slot), j46 w46 s0_46 → Rp κ w46 y X [] H → va_S (Af κ) s.heap H locs → lv_has ls 5 [(0, .ref (y.2 20 0)), (1, .int (p1)), (2, .int (p2)), (3, .int (p3))] → W p l e (headSpec (ws_ yX8_bid cX8_bid 5 (Option.some Jvm.ClassFile.FieldType.int)) rm_X8_bid).room s m ([.ref (y.2 20 0), .int (p1), .int (p2), .int (p3)] : List Value).toArray below meth c H locs (0) (0) (MQ below (va_Qi post (fun w t => Rp κ w y X [] t.heap) (Af κ)) ([.ref (y.2 20 0), .int (p1), .int (p2), .int (p3)] : List Value).toArray s 1 4 (Af κ)) (F0 m 46 ls [.int (s0_46), .ref (y.2 20 0)]) := by
        clear h
        intro w46 s0_46 H locs ls h hR hS hl
        subst ej46
        refine lv_iconst (v := (2 : Int32)) hx hb dX8_bid_46 (by decide) ?_
        refine ce_qi (fw := fun u => u) (fy := fun _ => y) (cr_V (n := 2) (As := [.int (s0_46), .int ((2 : Int32))]) (rest := []) ⟨hx, hb, hml, hown, hts⟩ hK hR (m_X8_refuse hM l0 h) q2027 q2029 qs38 q85 q2030 rfl rfl hd_X8_refuse ⟨Nat.le_of_ble_eq_true rfl, Nat.le_of_ble_eq_true rfl⟩ (rv hK hR l0 (ci := 11) rfl rfl) rfl rfl hl.1 rfl (lv_room (Nat.le_of_ble_eq_true rfl)) dX8_bid_47 ⟨(Nat.le_of_ble_eq_true rfl), (Nat.le_of_ble_eq_true rfl)⟩) hR hS (fun r_47 w_47 H locs h hR _ hS => ?_)
        refine lv_if_eq (tgt := 55) hx hb dX8_bid_50 (by decide) (fun c_50 => ?_) (fun c_50 => ?_)
        · have h := h.1 c_50
          refine lv_aload_n hx hb dX8_bid_55 rfl (lv_at hl 0 rfl) ?_
          refine g20_5 hx hb hts hown hK hR l0 q1950 dX8_bid_56 ?_
          refine lv_iload_n hx hb dX8_bid_59 rfl (lv_at hl 2 rfl) ?_
          have o_60 := h.1
          have h := h.2
          refine jr_get (a := y.2 27 ((p2).toNatClampNeg)) ⟨hx, hb, hml, hown, hts⟩ hK hR ⟨fun _ _ _ _ _ => rfl, fun _ _ _ _ _ => rfl⟩ hM.lsL ⟨hM.arL (Nat.lt_of_le_of_lt (Nat.zero_le _) (vp_lt o_60)), (Nat.le_trans hM.mL8 (by decide))⟩ o_60 (hM.elL (vp_lt o_60)) q2101 ⟨Nat.le_of_ble_eq_true rfl, Nat.le_of_ble_eq_true rfl⟩ hl.1 (Nat.le_of_ble_eq_true rfl) dX8_bid_60 ⟨(Nat.le_of_ble_eq_true rfl), (Nat.le_of_ble_eq_true rfl)⟩ ?_
          refine jr_castS (ci := 14) hx hb hown hK hts (hR.role (hM.lot (vp_lt o_60))) rfl q2253 dX8_bid_63 ?_
          refine lv_astore (lv' := [(4, .ref (y.2 27 ((p2).toNatClampNeg))), (0, .ref (y.2 20 0)), (1, .int (p1)), (2, .int (p2)), (3, .int (p3))]) hx hb dX8_bid_66 hl (by decide) rfl (fun ls hl => ?_)
          refine lv_aload_n hx hb dX8_bid_68 rfl (lv_at hl 1 rfl) ?_
          refine lv_aload hx hb dX8_bid_69 (lv_at hl 0 rfl) ?_
          refine g27_4 hx hb hts hown hK hR (hM.lot (vp_lt o_60)) q2264 dX8_bid_71 ?_
          refine jn_elim h (fun j110 ej110 h => ?_)
          have Jj110 : ∀ (w110 : Wd) (s0_110 : Int32) (H : Heap) (locs : List Loc) (ls : Array Slot), j110 w110 s0_110 → Rp κ w110 y X [] H → va_S (Af κ) s.heap H locs → lv_has ls 5 [(4, .ref (y.2 27 ((p2).toNatClampNeg))), (1, .int (p1)), (3, .int (p3))] → W p l e (headSpec (ws_ yX8_bid cX8_bid 5 (Option.some Jvm.ClassFile.FieldType.int)) rm_X8_bid).room s m ([.ref (y.2 20 0), .int (p1), .int (p2), .int (p3)] : List Value).toArray below meth c H locs (1) (4) (MQ below (va_Qi post (fun w t => Rp κ w y X [] t.heap) (Af κ)) ([.ref (y.2 20 0), .int (p1), .int (p2), .int (p3)] : List Value).toArray s 1 4 (Af κ)) (F0 m 110 ls [.int (s0_110), .ref (y.2 20 0)]) := by
            clear h
            intro w110 s0_110 H locs ls h hR hS hl
            subst ej110
            refine lv_iconst (v := (3 : Int32)) hx hb dX8_bid_110 (by decide) ?_
            refine ce_qi (fw := fun u => u) (fy := fun _ => y) (cr_V (n := 2) (As := [.int (s0_110), .int ((3 : Int32))]) (rest := []) ⟨hx, hb, hml, hown, hts⟩ hK hR (m_X8_refuse hM l0 h) q2027 q2029 qs38 q85 q2030 rfl rfl hd_X8_refuse ⟨Nat.le_of_ble_eq_true rfl, Nat.le_of_ble_eq_true rfl⟩ (rv hK hR l0 (ci := 11) rfl rfl) rfl rfl hl.1 rfl (lv_room (Nat.le_of_ble_eq_true rfl)) dX8_bid_111 ⟨(Nat.le_of_ble_eq_true rfl), (Nat.le_of_ble_eq_true rfl)⟩) hR hS (fun r_111 w_111 H locs h hR _ hS => ?_)
            refine lv_if_eq (tgt := 119) hx hb dX8_bid_114 (by decide) (fun c_114 => ?_) (fun c_114 => ?_)
            · have h := h.1 c_114
              refine lv_aload hx hb dX8_bid_119 (lv_at hl 0 rfl) ?_
              refine g27_11 hx hb hts hown hK hR (hM.lot (vp_lt o_60)) q2274 dX8_bid_121 ?_
              refine lv_iload_n hx hb dX8_bid_124 rfl (lv_at hl 1 rfl) ?_
              refine lv_iload_n hx hb dX8_bid_125 rfl (lv_at hl 2 rfl) ?_
              have o_126 := h.1
              have h := h.2
              refine b28 hx hb hK hR hS (hM.bid (hM.lot (vp_lt o_60))) o_126 dX8_bid_126 (fun H locs w_126 ew_126 hR hS => ?_)
              have h := h w_126 ew_126
              refine lv_aload hx hb dX8_bid_127 (lv_at hl 0 rfl) ?_
              refine ce_qi (fw := fun u => u) (fy := fun _ => y) (cr_S (n := 1) (As := [.ref (y.2 27 ((p2).toNatClampNeg))]) (rest := []) ⟨hx, hb, hml, hown, hts⟩ hK hR (m_X8_highest hM (hM.lot (vp_lt o_60)) h) q2320 q2321 q85 q2322 rfl rfl hds_X8_highest ⟨Nat.le_of_ble_eq_true rfl, Nat.le_of_ble_eq_true rfl⟩ rfl rfl hl.1 rfl (lv_room (Nat.le_of_ble_eq_true rfl)) dX8_bid_129 ⟨(Nat.le_of_ble_eq_true rfl), (Nat.le_of_ble_eq_true rfl)⟩) hR hS (fun r_129 w_129 H locs h hR _ hS => ?_)
              refine W.widen (k := 1) (n := 4) (Nat.le_of_ble_eq_true rfl) (Nat.le_of_ble_eq_true rfl) ?_
              exact W.iret (v := r_129) hx hb hr (fun t ht hW9 => ⟨⟨r_129, w_129, rfl, h, rpt ht hR⟩, hS.F ht⟩) hS.2.2 dX8_bid_132
            · have h := h.2 c_114
              refine lv_iconst (v := (0 : Int32)) hx hb dX8_bid_117 (by decide) ?_
              refine W.widen (k := 1) (n := 4) (Nat.le_of_ble_eq_true rfl) (Nat.le_of_ble_eq_true rfl) ?_
              exact W.iret (v := (0 : Int32)) hx hb hr (fun t ht hW9 => ⟨⟨(0 : Int32), w_111, rfl, h, rpt ht hR⟩, hS.F ht⟩) hS.2.2 dX8_bid_118
          refine lv_if_ne (tgt := 105) hx hb dX8_bid_74 (by decide) (fun c_74 => ?_) (fun c_74 => ?_)
          · have h := h.1 c_74
            refine lv_iconst (v := (1 : Int32)) hx hb dX8_bid_105 (by decide) ?_
            refine lv_goto (tgt := 110) hx hb dX8_bid_106 (by decide) ?_
            refine W.widen (k := 1) (n := 4) (Nat.le_of_ble_eq_true rfl) (Nat.le_of_ble_eq_true rfl) ?_
            exact Jj110 w_47 (1 : Int32) _ _ _ h hR hS (lv_sub hl [0, 2, 4] rfl)
          · have h := h.2 c_74
            refine lv_aload_n hx hb dX8_bid_77 rfl (lv_at hl 1 rfl) ?_
            refine g20_4 hx hb hts hown hK hR l0 q1949 dX8_bid_78 ?_
            refine lv_iload_n hx hb dX8_bid_81 rfl (lv_at hl 2 rfl) ?_
            have o_82 := h.1
            have h := h.2
            refine jr_get (a := y.2 26 ((p1).toNatClampNeg)) ⟨hx, hb, hml, hown, hts⟩ hK hR ⟨fun _ _ _ _ _ => rfl, fun _ _ _ _ _ => rfl⟩ hM.lsC ⟨hM.arC (Nat.lt_of_le_of_lt (Nat.zero_le _) (vp_lt o_82)), (Nat.le_trans hM.mC4 (by decide))⟩ o_82 (hM.elC (vp_lt o_82)) q2101 ⟨Nat.le_of_ble_eq_true rfl, Nat.le_of_ble_eq_true rfl⟩ hl.1 (Nat.le_of_ble_eq_true rfl) dX8_bid_82 ⟨(Nat.le_of_ble_eq_true rfl), (Nat.le_of_ble_eq_true rfl)⟩ ?_
            refine jr_castS (ci := 13) hx hb hown hK hts (hR.role (hM.com (vp_lt o_82))) rfl q2141 dX8_bid_85 ?_
            refine g26_4 hx hb hts hown hK hR (hM.com (vp_lt o_82)) q2153 dX8_bid_88 ?_
            refine lv_if_ne (tgt := 105) hx hb dX8_bid_91 (by decide) (fun c_91 => ?_) (fun c_91 => ?_)
            · have h := h.1 c_91
              refine lv_iconst (v := (1 : Int32)) hx hb dX8_bid_105 (by decide) ?_
              refine lv_goto (tgt := 110) hx hb dX8_bid_106 (by decide) ?_
              refine W.widen (k := 1) (n := 4) (Nat.le_of_ble_eq_true rfl) (Nat.le_of_ble_eq_true rfl) ?_
              exact Jj110 w_47 (1 : Int32) _ _ _ h hR hS (lv_sub hl [0, 2, 4] rfl)
            · have h := h.2 c_91
              refine lv_aload_n hx hb dX8_bid_94 rfl (lv_at hl 1 rfl) ?_
              refine lv_iload_n hx hb dX8_bid_95 rfl (lv_at hl 2 rfl) ?_
              refine ce_qi (fw := fun u => u) (fy := fun _ => y) (cr_V (n := 1) (As := [.int (p1)]) (rest := [.ref (y.2 20 0)]) ⟨hx, hb, hml, hown, hts⟩ hK hR (m_X8_free hM l0 h) q2312 q2314 qs45 q85 q2315 rfl rfl hd_X8_free ⟨Nat.le_of_ble_eq_true rfl, Nat.le_of_ble_eq_true rfl⟩ (rv hK hR l0 (ci := 11) rfl rfl) rfl rfl hl.1 rfl (lv_room (Nat.le_of_ble_eq_true rfl)) dX8_bid_96 ⟨(Nat.le_of_ble_eq_true rfl), (Nat.le_of_ble_eq_true rfl)⟩) hR hS (fun r_96 w_96 H locs h hR _ hS => ?_)
              refine lv_iload_n hx hb dX8_bid_99 rfl (lv_at hl 4 rfl) ?_
              refine lv_iconst (v := (4 : Int32)) hx hb dX8_bid_100 (by decide) ?_
              refine lv_idiv hx hb dX8_bid_101 (by decide) ?_
              refine lv_icmp_ge (tgt := 109) hx hb dX8_bid_102 (by decide) (fun c_102 => ?_) (fun c_102 => ?_)
              · have h := h.1 c_102
                refine lv_iconst (v := (0 : Int32)) hx hb dX8_bid_109 (by decide) ?_
                refine W.widen (k := 1) (n := 4) (Nat.le_of_ble_eq_true rfl) (Nat.le_of_ble_eq_true rfl) ?_
                exact Jj110 w_96 (0 : Int32) _ _ _ h hR hS (lv_sub hl [0, 2, 4] rfl)
              · have h := h.2 c_102
                refine lv_iconst (v := (1 : Int32)) hx hb dX8_bid_105 (by decide) ?_
                refine lv_goto (tgt := 110) hx hb dX8_bid_106 (by decide) ?_
                refine W.widen (k := 1) (n := 4) (Nat.le_of_ble_eq_true rfl) (Nat.le_of_ble_eq_true rfl) ?_
                exact Jj110 w_96 (1 : Int32) _ _ _ h hR hS (lv_sub hl [0, 2, 4] rfl)
        · have h := h.2 c_50
          refine lv_iconst (v := (0 : Int32)) hx hb dX8_bid_53 (by decide) ?_
          refine W.widen (k := 1) (n := 4) (Nat.le_of_ble_eq_true rfl) (Nat.le_of_ble_eq_true rfl) ?_
          exact W.iret (v := (0 : Int32)) hx hb hr (fun t ht hW9 => ⟨⟨(0 : Int32), w_47, rfl, h, rpt ht hR⟩, hS.F ht⟩) hS.2.2 dX8_bid_54
      refine lv_if_ne (tgt := 45) hx hb dX8_bid_38 (by decide) (fun c_38 => ?_) (fun c_38 => ?_)
      · have h := h.1 c_38
        refine lv_iconst (v := (0 : Int32)) hx hb dX8_bid_45 (by decide) ?_
        refine W.widen (k := 0) (n := 0) (Nat.le_of_ble_eq_true rfl) (Nat.le_of_ble_eq_true rfl) ?_
        exact Jj46 w_35 (0 : Int32) _ _ _ h hR hS (lv_sub hl [0, 1, 2, 3] rfl)
      · have h := h.2 c_38
        refine lv_iconst (v := (1 : Int32)) hx hb dX8_bid_41 (by decide) ?_
        refine lv_goto (tgt := 46) hx hb dX8_bid_42 (by decide) ?_
        refine W.widen (k := 0) (n := 0) (Nat.le_of_ble_eq_true rfl) (Nat.le_of_ble_eq_true rfl) ?_
        exact Jj46 w_35 (1 : Int32) _ _ _ h hR hS (lv_sub hl [0, 1, 2, 3] rfl)
  refine lv_if_ne (tgt := 17) hx hb dX8_bid_6 (by decide) (fun c_6 => ?_) (fun c_6 => ?_)
  · have h := h.1 c_6
    refine lv_iconst (v := (1 : Int32)) hx hb dX8_bid_17 (by decide) ?_
    refine lv_goto (tgt := 22) hx hb dX8_bid_18 (by decide) ?_
    refine W.widen (k := 0) (n := 0) (Nat.le_of_ble_eq_true rfl) (Nat.le_of_ble_eq_true rfl) ?_
    exact Jj22 w_3 (1 : Int32) _ _ _ h hR hS (lv_sub hl [0, 1, 2, 3] rfl)
  · have h := h.2 c_6
    refine lv_aload_n hx hb dX8_bid_9 rfl (lv_at hl 0 rfl) ?_
    refine lv_iload_n hx hb dX8_bid_10 rfl (lv_at hl 2 rfl) ?_
    refine ce_qi (fw := fun u => u) (fy := fun _ => y) (cr_V (n := 1) (As := [.int (p2)]) (rest := [.ref (y.2 20 0)]) ⟨hx, hb, hml, hown, hts⟩ hK hR (m_X8_isNoLot hM l0 h) q2308 q2310 qs44 q85 q2311 rfl rfl hd_X8_isNoLot ⟨Nat.le_of_ble_eq_true rfl, Nat.le_of_ble_eq_true rfl⟩ (rv hK hR l0 (ci := 11) rfl rfl) rfl rfl hl.1 rfl (lv_room (Nat.le_of_ble_eq_true rfl)) dX8_bid_11 ⟨(Nat.le_of_ble_eq_true rfl), (Nat.le_of_ble_eq_true rfl)⟩) hR hS (fun r_11 w_11 H locs h hR _ hS => ?_)
    refine lv_if_eq (tgt := 21) hx hb dX8_bid_14 (by decide) (fun c_14 => ?_) (fun c_14 => ?_)
    · have h := h.1 c_14
      refine lv_iconst (v := (0 : Int32)) hx hb dX8_bid_21 (by decide) ?_
      refine W.widen (k := 0) (n := 0) (Nat.le_of_ble_eq_true rfl) (Nat.le_of_ble_eq_true rfl) ?_
      exact Jj22 w_11 (0 : Int32) _ _ _ h hR hS (lv_sub hl [0, 1, 2, 3] rfl)
    · have h := h.2 c_14
      refine lv_iconst (v := (1 : Int32)) hx hb dX8_bid_17 (by decide) ?_
      refine lv_goto (tgt := 22) hx hb dX8_bid_18 (by decide) ?_
      refine W.widen (k := 0) (n := 0) (Nat.le_of_ble_eq_true rfl) (Nat.le_of_ble_eq_true rfl) ?_
      exact Jj22 w_11 (1 : Int32) _ _ _ h hR hS (lv_sub hl [0, 1, 2, 3] rfl)
abbrev rm_X8_best : Room := { frames := 6, cells := 5, slots := 20, locals := 137 }
def st_X8_best_5 (κ : Kx) (y : Ly) (post : Int32 → Wd → Prop) (ex : Wd → (Int32) → Prop) (rec : Wd → Int32 → Int32 → Prop) (i1 : Nat) (v2 : Int32) (w : Wd) (v3 : Int32) (v4 : Int32) : Prop := ((nI (mC y) ≤ v4) → (ex w v3)) ∧ ((¬ (nI (mC y) ≤ v4)) → (((v4 = v2) → (∀ x_57 : Int32, x_57 = v4 + (1 : Int32) → rec w v3 x_57)) ∧ ((¬ (v4 = v2)) → (sp_X8_counts κ y (fun r_27 w_27 => ((r_27 = 0) → (∀ x_57_a : Int32, x_57_a = v4 + (1 : Int32) → rec w_27 v3 x_57_a)) ∧ ((¬ (r_27 = 0)) → (((v3 = (-1 : Int32)) → (∀ x_57_b : Int32, x_57_b = v4 + (1 : Int32) → rec w_27 v4 x_57_b)) ∧ ((¬ (v3 = (-1 : Int32))) → ((vp_in (v4) 4) ∧ ((vp_in (v3) 4) ∧ (((gv w_27 28 i1 (v4).toNatClampNeg ≤ gv w_27 28 i1 (v3).toNatClampNeg) → (∀ x_57_c : Int32, x_57_c = v4 + (1 : Int32) → rec w_27 v3 x_57_c)) ∧ ((¬ (gv w_27 28 i1 (v4).toNatClampNeg ≤ gv w_27 28 i1 (v3).toNatClampNeg)) → (∀ x_57_d : Int32, x_57_d = v4 + (1 : Int32) → rec w_27 v4 x_57_d))))))))) w i1 v4))))
def sp_X8_best_5 (κ : Kx) (y : Ly) (post : Int32 → Wd → Prop) (ex : Wd → (Int32) → Prop) (i1 : Nat) (v2 : Int32) : Nat → Wd → Int32 → Int32 → Prop
  | 0 => fun _ _ _ => False
  | n + 1 => fun w v3 v4 => st_X8_best_5 κ y post ex (sp_X8_best_5 κ y post ex i1 v2 n) i1 v2 w v3 v4
set_option maxHeartbeats 4000000 in
theorem lp_X8_best_5 {p : Program} {l : Launch} {e : Env} {s : State} {m : MethodId} {args : Array Value} {below : List Frame} {meth : Method} {c : Code} {κ : Kx} {y : Ly} {X : XR} {post : Int32 → Wd → Prop} {i1 : Nat} {v2 : Int32} (hx : p.tables.exec = Jvm.exec) (hb : c.code = cX8_best) (hr : meth.sig.returnType = (Option.some Jvm.ClassFile.FieldType.int)) (hml : c.maxLocals = 5) (hown : s.vm.findClass RX8 = some m.cls) (hts : ∀ w ∈ lw_all, w.before args s = true) (hlocks : meth.locks = false) (hK : KK κ s) (hM : WFm κ y) (l0 : live y 20 0) (l1 : live y 27 i1) {C1 S1 : Nat} (hC : C1 ≤ 5) (hSl : S1 ≤ 20) {ex : Wd → (Int32) → Prop}
    (kx : ∀ (w : Wd) (v3 : Int32) (H : Heap) (locs : List Loc) (ls : Array Slot) (cells slots : Nat) , ex w v3 → Rp κ w y X [] H → va_S (Af κ) s.heap H locs → lv_has ls 5 [(3, .int (v3))] → cells ≤ C1 → slots ≤ S1 → W p l e (headSpec (ws_ yX8_best cX8_best 5 (Option.some Jvm.ClassFile.FieldType.int)) rm_X8_best).room s m args below meth c H locs cells slots (MQ below (va_Qi post (fun w t => Rp κ w y X [] t.heap) (Af κ)) args s 5 20 (Af κ)) (F0 m 63 ls [])) :
    ∀ (f : Nat) (w : Wd) (v3 : Int32) (v4 : Int32) (H : Heap) (locs : List Loc) (ls : Array Slot) (cells slots : Nat)  , sp_X8_best_5 κ y post ex i1 v2 f w v3 v4 → Rp κ w y X [] H → va_S (Af κ) s.heap H locs → lv_has ls 5 [(0, .ref (y.2 20 0)), (1, .ref (y.2 27 i1)), (2, .int (v2)), (3, .int (v3)), (4, .int (v4))] → cells + f * 1 ≤ C1 → slots + f * 4 ≤ S1 → W p l e (headSpec (ws_ yX8_best cX8_best 5 (Option.some Jvm.ClassFile.FieldType.int)) rm_X8_best).room s m args below meth c H locs cells slots (MQ below (va_Qi post (fun w t => Rp κ w y X [] t.heap) (Af κ)) args s 5 20 (Af κ)) (F0 m 5 ls []) := by
  intro f
  induction f with
  | zero =>
    intro w v3 v4 H locs ls cells slots  h
    exact False.elim h
  | succ f ih =>
    intro w v3 v4 H locs ls cells slots  h hR hS hl hc hs
    have h : st_X8_best_5 κ y post ex (sp_X8_best_5 κ y post ex i1 v2 f) i1 v2 w v3 v4 := h
    unfold st_X8_best_5 at h
    refine lv_iload hx hb dX8_best_5 (lv_at hl 4 rfl) ?_
    refine lv_aload_n hx hb dX8_best_7 rfl (lv_at hl 0 rfl) ?_
    refine g20_4 hx hb hts hown hK hR l0 q1949 dX8_best_8 ?_
    refine jr_size ⟨hx, hb, hml, hown, hts⟩ hK hR ⟨fun _ _ _ _ _ => rfl, fun _ _ _ _ _ => rfl⟩ hM.lsC q2031 ⟨Nat.le_of_ble_eq_true rfl, Nat.le_of_ble_eq_true rfl⟩ hl.1 (Nat.le_of_ble_eq_true rfl) dX8_best_11 ⟨(Nat.le_trans (show cells + 0 ≤ C1 from by omega) hC), (Nat.le_trans (show slots + 0 ≤ S1 from by omega) hSl)⟩ ?_
    refine lv_icmp_ge (tgt := 63) hx hb dX8_best_14 (by decide) (fun c_14 => ?_) (fun c_14 => ?_)
    · have h := h.1 c_14
      exact kx w v3 _ _ _ _ _ h hR hS (lv_sub hl [3] rfl) (by omega) (by omega)
    · have h := h.2 c_14
      refine lv_iload hx hb dX8_best_17 (lv_at hl 4 rfl) ?_
      refine lv_iload_n hx hb dX8_best_19 rfl (lv_at hl 2 rfl) ?_
      refine lv_icmp_eq (tgt := 57) hx hb dX8_best_20 (by decide) (fun c_20 => ?_) (fun c_20 => ?_)
      · have h := h.1 c_20
        obtain ⟨x_57, ex_57⟩ : ∃ z : Int32, z = v4 + (1 : Int32) := ⟨_, rfl⟩
        have h := h x_57 ex_57
        refine lv_iinc (v := x_57) (lv' := [(4, .int (x_57)), (0, .ref (y.2 20 0)), (1, .ref (y.2 27 i1)), (2, .int (v2)), (3, .int (v3))]) hx hb dX8_best_57 hl (k := 4) rfl (by rw [ex_57]; rfl) (by decide) rfl (fun ls hl => ?_)
        refine lv_goto (tgt := 5) hx hb dX8_best_60 (by decide) ?_
        exact ih w v3 x_57 _ _ _ _ _  h hR hS (lv_sub hl [1, 2, 3, 4, 0] rfl) (by omega) (by omega)
      · have h := h.2 c_20
        refine lv_aload_n hx hb dX8_best_23 rfl (lv_at hl 0 rfl) ?_
        refine lv_aload_n hx hb dX8_best_24 rfl (lv_at hl 1 rfl) ?_
        refine lv_iload hx hb dX8_best_25 (lv_at hl 4 rfl) ?_
        refine ce_qi (fw := fun u => u) (fy := fun _ => y) (cr_V (n := 2) (As := [.ref (y.2 27 i1), .int (v4)]) (rest := []) ⟨hx, hb, hml, hown, hts⟩ hK hR (m_X8_counts hM l0 l1 h) q2332 q2334 qs48 q85 q2335 rfl rfl hd_X8_counts ⟨Nat.le_of_ble_eq_true rfl, Nat.le_of_ble_eq_true rfl⟩ (rv hK hR l0 (ci := 11) rfl rfl) rfl rfl hl.1 rfl (lv_room (Nat.le_of_ble_eq_true rfl)) dX8_best_27 ⟨(Nat.le_trans (show cells + 1 ≤ C1 from by omega) hC), (Nat.le_trans (show slots + 4 ≤ S1 from by omega) hSl)⟩) hR hS (fun r_27 w_27 H locs h hR _ hS => ?_)
        refine lv_if_eq (tgt := 57) hx hb dX8_best_30 (by decide) (fun c_30 => ?_) (fun c_30 => ?_)
        · have h := h.1 c_30
          obtain ⟨x_57_a, ex_57_a⟩ : ∃ z : Int32, z = v4 + (1 : Int32) := ⟨_, rfl⟩
          have h := h x_57_a ex_57_a
          refine lv_iinc (v := x_57_a) (lv' := [(4, .int (x_57_a)), (0, .ref (y.2 20 0)), (1, .ref (y.2 27 i1)), (2, .int (v2)), (3, .int (v3))]) hx hb dX8_best_57 hl (k := 4) rfl (by rw [ex_57_a]; rfl) (by decide) rfl (fun ls hl => ?_)
          refine lv_goto (tgt := 5) hx hb dX8_best_60 (by decide) ?_
          exact ih w_27 v3 x_57_a _ _ _ _ _  h hR hS (lv_sub hl [1, 2, 3, 4, 0] rfl) (by omega) (by omega)
        · have h := h.2 c_30
          refine lv_iload_n hx hb dX8_best_33 rfl (lv_at hl 3 rfl) ?_
          refine lv_iconst (v := (-1 : Int32)) hx hb dX8_best_34 (by decide) ?_
          refine lv_icmp_eq (tgt := 54) hx hb dX8_best_35 (by decide) (fun c_35 => ?_) (fun c_35 => ?_)
          · have h := h.1 c_35
            refine lv_iload hx hb dX8_best_54 (lv_at hl 4 rfl) ?_
            refine lv_istore_n (lv' := [(3, .int (v4)), (0, .ref (y.2 20 0)), (1, .ref (y.2 27 i1)), (2, .int (v2)), (4, .int (v4))]) hx hb dX8_best_56 rfl hl (by decide) rfl (fun ls hl => ?_)
            obtain ⟨x_57_b, ex_57_b⟩ : ∃ z : Int32, z = v4 + (1 : Int32) := ⟨_, rfl⟩
            have h := h x_57_b ex_57_b
            refine lv_iinc (v := x_57_b) (lv' := [(4, .int (x_57_b)), (3, .int (v4)), (0, .ref (y.2 20 0)), (1, .ref (y.2 27 i1)), (2, .int (v2))]) hx hb dX8_best_57 hl (k := 4) rfl (by rw [ex_57_b]; rfl) (by decide) rfl (fun ls hl => ?_)
            refine lv_goto (tgt := 5) hx hb dX8_best_60 (by decide) ?_
            exact ih w_27 v4 x_57_b _ _ _ _ _  h hR hS (lv_sub hl [2, 3, 4, 1, 0] rfl) (by omega) (by omega)
          · have h := h.2 c_35
            refine lv_aload_n hx hb dX8_best_38 rfl (lv_at hl 1 rfl) ?_
            refine g27_11 hx hb hts hown hK hR l1 q2274 dX8_best_39 ?_
            refine lv_iload hx hb dX8_best_42 (lv_at hl 4 rfl) ?_
            have o_44 := h.1
            have h := h.2
            refine a28 hx hb hK hR (hM.bid l1) o_44 dX8_best_44 ?_
            refine lv_aload_n hx hb dX8_best_45 rfl (lv_at hl 1 rfl) ?_
            refine g27_11 hx hb hts hown hK hR l1 q2274 dX8_best_46 ?_
            refine lv_iload_n hx hb dX8_best_49 rfl (lv_at hl 3 rfl) ?_
            have o_50 := h.1
            have h := h.2
            refine a28 hx hb hK hR (hM.bid l1) o_50 dX8_best_50 ?_
            refine lv_icmp_le (tgt := 57) hx hb dX8_best_51 (by decide) (fun c_51 => ?_) (fun c_51 => ?_)
            · have h := h.1 c_51
              obtain ⟨x_57_c, ex_57_c⟩ : ∃ z : Int32, z = v4 + (1 : Int32) := ⟨_, rfl⟩
              have h := h x_57_c ex_57_c
              refine lv_iinc (v := x_57_c) (lv' := [(4, .int (x_57_c)), (0, .ref (y.2 20 0)), (1, .ref (y.2 27 i1)), (2, .int (v2)), (3, .int (v3))]) hx hb dX8_best_57 hl (k := 4) rfl (by rw [ex_57_c]; rfl) (by decide) rfl (fun ls hl => ?_)
              refine lv_goto (tgt := 5) hx hb dX8_best_60 (by decide) ?_
              exact ih w_27 v3 x_57_c _ _ _ _ _  h hR hS (lv_sub hl [1, 2, 3, 4, 0] rfl) (by omega) (by omega)
            · have h := h.2 c_51
              refine lv_iload hx hb dX8_best_54 (lv_at hl 4 rfl) ?_
              refine lv_istore_n (lv' := [(3, .int (v4)), (0, .ref (y.2 20 0)), (1, .ref (y.2 27 i1)), (2, .int (v2)), (4, .int (v4))]) hx hb dX8_best_56 rfl hl (by decide) rfl (fun ls hl => ?_)
              obtain ⟨x_57_d, ex_57_d⟩ : ∃ z : Int32, z = v4 + (1 : Int32) := ⟨_, rfl⟩
              have h := h x_57_d ex_57_d
              refine lv_iinc (v := x_57_d) (lv' := [(4, .int (x_57_d)), (3, .int (v4)), (0, .ref (y.2 20 0)), (1, .ref (y.2 27 i1)), (2, .int (v2))]) hx hb dX8_best_57 hl (k := 4) rfl (by rw [ex_57_d]; rfl) (by decide) rfl (fun ls hl => ?_)
              refine lv_goto (tgt := 5) hx hb dX8_best_60 (by decide) ?_
              exact ih w_27 v4 x_57_d _ _ _ _ _  h hR hS (lv_sub hl [2, 3, 4, 1, 0] rfl) (by omega) (by omega)
def sp_X8_best (κ : Kx) (y : Ly) (post : Int32 → Wd → Prop) (w : Wd) (a1 : Nat) (p2 : Int32) : Prop := sp_X8_best_5 κ y post (fun w_5 y3_5 => post (y3_5) w_5) a1 p2 5 w (-1 : Int32) (0 : Int32)
theorem hd_X8_best : yX8_best.cls = RX8 ∧ yX8_best.cls ≠ "java/lang/invoke/MethodHandle" ∧ yX8_best.cls ≠ "java/lang/invoke/VarHandle" ∧ (parseMethodDescriptor yX8_best.desc).map (fun d => d.parameters.length) = some 2 := by decide +kernel
set_option maxHeartbeats 4000000 in
theorem m_X8_best {l : Launch} {κ : Kx} {y : Ly} {X : XR} {post : Int32 → Wd → Prop} {w : Wd} {a1 : Nat} {p2 : Int32}  (hM : WFm κ y) (l0 : live y 20 0) (l1 : live y 27 a1) (h : sp_X8_best κ y post w a1 p2) : Met l yX8_best (ws_ yX8_best cX8_best 5 (Option.some Jvm.ClassFile.FieldType.int)) rm_X8_best (va_Pc [.ref (y.2 20 0), .ref (y.2 27 a1), .int (p2)] (RC κ w y X)) (va_Qi post (fun w t => Rp κ w y X [] t.heap) (Af κ)) 5 20 (Af κ) := by
  unfold sp_X8_best at h
  refine Met.ofW (cc := cX8_best) (maxL := 5) (ret := (Option.some Jvm.ClassFile.FieldType.int)) (by decide) rfl ?_
  intro p e s m args below meth c s₁ B hml hv
  obtain ⟨rfl, hR, hK⟩ := hv
  have hx := B.exec
  have hb := B.bytes
  have hr := B.returns
  have hts := atoms_spec (ws := ws_ yX8_best cX8_best 5 (Option.some Jvm.ClassFile.FieldType.int)) B.pre
  have hts : ∀ w ∈ lw_all, w.before _ s = true := fun w h => hts w (List.mem_cons_of_mem _ h)
  have hown : s.vm.findClass RX8 = some m.cls := findClass_of_methodNamed B.named
  have hlocks := B.notSynchronized
  have hS : va_S (Af κ) s.heap s.heap [] := va_S.rf
  have hl := lv_entry ([.ref (y.2 20 0), .ref (y.2 27 a1), .int (p2)]) (n := 5) (Nat.le_of_ble_eq_true rfl)
  rw [lg_entry_eq]
  generalize (lg_sl ([.ref (y.2 20 0), .ref (y.2 27 a1), .int (p2)]) ++ List.replicate (5 - (lg_sl ([.ref (y.2 20 0), .ref (y.2 27 a1), .int (p2)])).length) Slot.unset).toArray = ls at hl ⊢
  have hl : lv_has ls 5 [(0, .ref (y.2 20 0)), (1, .ref (y.2 27 a1)), (2, .int (p2))] := hl
  refine lv_iconst (v := (-1 : Int32)) hx hb dX8_best_0 (by decide) ?_
  refine lv_istore_n (lv' := [(3, .int ((-1 : Int32))), (0, .ref (y.2 20 0)), (1, .ref (y.2 27 a1)), (2, .int (p2))]) hx hb dX8_best_1 rfl hl (by decide) rfl (fun ls hl => ?_)
  refine lv_iconst (v := (0 : Int32)) hx hb dX8_best_2 (by decide) ?_
  refine lv_istore (lv' := [(4, .int ((0 : Int32))), (3, .int ((-1 : Int32))), (0, .ref (y.2 20 0)), (1, .ref (y.2 27 a1)), (2, .int (p2))]) hx hb dX8_best_3 hl (by decide) rfl (fun ls hl => ?_)
  refine lp_X8_best_5 (C1 := 5) (S1 := 20) hx hb hr hml hown hts hlocks hK hM l0 l1 (Nat.le_of_ble_eq_true rfl) (Nat.le_of_ble_eq_true rfl) (fun w_5 y3_5 H locs ls cells9 slots9 h hR hS hl hc9 hs9 => ?_) 5 w (-1 : Int32) (0 : Int32) _ _ _ _ _  h hR hS (lv_sub hl [2, 3, 4, 1, 0] rfl) (by omega) (by omega)
  refine W.widen (k := 5) (n := 20) hc9 hs9 ?_
  refine lv_iload_n hx hb dX8_best_63 rfl (lv_at hl 0 rfl) ?_
  refine W.widen (k := 5) (n := 20) (Nat.le_of_ble_eq_true rfl) (Nat.le_of_ble_eq_true rfl) ?_
  exact W.iret (v := y3_5) hx hb hr (fun t ht hW9 => ⟨⟨y3_5, w_5, rfl, h, rpt ht hR⟩, hS.F ht⟩) hS.2.2 dX8_best_64
abbrev rm_X8_collect_2 : Room := { frames := 4, cells := 1, slots := 6, locals := 117 }
def sp_X8_collect_2 (κ : Kx) (y : Ly) (post : Wd → Ly → Prop) (w : Wd) (a1 : Nat) (p2 : Int32) (p3 : Int32) : Prop := (vp_in (p3) (mV y)) ∧ ((vp_in (gv w 27 a1 5) (mC y)) ∧ ((vp_in (p3) 8) ∧ (∀ j43 : Wd → Int32 → Prop, (j43 = fun (w43 : Wd) (s0_43 : Int32) => ∀ j59 : Wd → Int32 → Prop, (j59 = fun (w59 : Wd) (s0_59 : Int32) => sp_X8_dueNow κ y (fun r_68 w_68 => ∀ x_84 : Int32, x_84 = r_68 + ((r_68 * s0_59) / (8 : Int32)) → sp_X8_hidden κ y (fun r_97 w_97 => ∀ x_101 : Int32, x_101 = x_84 - r_97 → ∀ j125 : Wd → Int32 → Int32 → Prop, (j125 = fun (w125 : Wd) (s0_125 : Int32) (s1_125 : Int32) => ∀ x_128 : Int32, x_128 = jmin s1_125 s0_125 → ∀ j146 : Wd → Int32 → Prop, (j146 = fun (w146 : Wd) (s0_146 : Int32) => ∀ j236 : Wd → Int32 → Int32 → Prop, (j236 = fun (w236 : Wd) (v12_236 : Int32) (v11_236 : Int32) => ∀ j271 : Wd → Int32 → Prop, (j271 = fun (w271 : Wd) (v12_271 : Int32) => ∀ w_280 : Wd, w_280 = sv w271 26 (((gv w 27 a1 5).toNatClampNeg)) 1 ((gv w271 26 (((gv w 27 a1 5).toNatClampNeg)) 1) + v12_271) → ∀ w_292 : Wd, w_292 = sv w_280 26 (((gv w 27 a1 5).toNatClampNeg)) 7 ((gv w_280 26 (((gv w 27 a1 5).toNatClampNeg)) 7) + v12_271) → sp_X8_year κ y (fun r_311 w_311 => (vp_in ((0 : Int32)) 6) ∧ (∀ f_314 : Nat → Int32, f_314 = upd ((fun _ => 0)) ((0 : Int32)).toNatClampNeg (r_311) → (vp_in ((1 : Int32)) 6) ∧ (∀ f_319 : Nat → Int32, f_319 = upd f_314 ((1 : Int32)).toNatClampNeg (x_84) → (vp_in ((2 : Int32)) 6) ∧ (∀ f_324 : Nat → Int32, f_324 = upd f_319 ((2 : Int32)).toNatClampNeg (v11_236) → sp_X8_dueNow κ y (fun r_334 w_334 => (vp_in ((3 : Int32)) 6) ∧ (∀ f_337 : Nat → Int32, f_337 = upd f_324 ((3 : Int32)).toNatClampNeg (r_334) → (vp_in ((4 : Int32)) 6) ∧ (∀ f_341 : Nat → Int32, f_341 = upd f_337 ((4 : Int32)).toNatClampNeg (p2) → (vp_in ((5 : Int32)) 6) ∧ (∀ f_345 : Nat → Int32, f_345 = upd f_341 ((5 : Int32)).toNatClampNeg ((0 : Int32)) → (vp_in (gv w_292 27 a1 0) 3) ∧ (∀ w_346 : Wd, w_346 = sr w_334 25 (3 * (((((p3).toNatClampNeg)))) + (gv w_292 27 a1 0).toNatClampNeg) f_345 → ∀ (y_346 : Ly) (q9 : Nat), y_346 = yRow y (3 * (((((p3).toNatClampNeg)))) + (gv w_292 27 a1 0).toNatClampNeg) q9 → sp_X11_anger κ y_346 (fun w_351 => post w_351 y_346) w_346 (((p3).toNatClampNeg)) s0_59))))) w_311 p3 (gv w_311 27 a1 0) (1 : Int32))))) w_292 ) → (((s0_43 = 0) → (j271 w236 v12_236)) ∧ ((¬ (s0_43 = 0)) → (∀ w_249 : Wd, w_249 = sv w236 20 0 15 ((gv w236 20 0 15) + v12_236) → (vp_in (p3) 8) ∧ (∀ x_258 : Int32, x_258 = gv w_249 29 a1 (p3).toNatClampNeg → ∀ w_268 : Wd, w_268 = sv w_249 20 0 15 ((gv w_249 20 0 15) - x_258) → j271 w_268 x_258))))) → (((¬ gv w146 27 a1 0 = 0) → (∀ w_190 : Wd, w_190 = sv w146 21 (((p3).toNatClampNeg)) 5 ((gv w146 21 (((p3).toNatClampNeg)) 5) - x_128) → ((s0_59 ≤ (1 : Int32)) → (j236 w_190 s0_146 x_128)) ∧ ((¬ (s0_59 ≤ (1 : Int32))) → (∀ w_211 : Wd, w_211 = sv w_190 21 (((p3).toNatClampNeg)) 6 ((gv w_190 21 (((p3).toNatClampNeg)) 6) + (x_101 - x_128)) → ∀ w_225 : Wd, w_225 = sv w_211 20 0 15 ((gv w_211 20 0 15) - (x_101 - x_128)) → j236 w_225 x_101 x_101)))) ∧ ((gv w146 27 a1 0 = 0) → (∀ w_164 : Wd, w_164 = sv w146 21 (((p3).toNatClampNeg)) 4 ((gv w146 21 (((p3).toNatClampNeg)) 4) - x_128) → ∀ w_175 : Wd, w_175 = sv w_164 20 0 15 ((gv w_164 20 0 15) - s0_146) → j236 w_175 s0_146 x_128)))) → (((¬ gv w125 27 a1 0 = 0) → (j146 w125 x_128)) ∧ ((gv w125 27 a1 0 = 0) → (j146 w125 ((2 : Int32) * x_128))))) → (((¬ gv w_97 27 a1 0 = 0) → (j125 w_97 (gv w_97 21 (((p3).toNatClampNeg)) 5) x_101)) ∧ ((gv w_97 27 a1 0 = 0) → (j125 w_97 (gv w_97 21 (((p3).toNatClampNeg)) 4) x_101)))) w_68 x_84 (gv w_68 21 (((p3).toNatClampNeg)) 7) s0_59) w59 p3 (gv w59 27 a1 0) (0 : Int32)) → (((s0_43 = 0) → (j59 w43 (gv w43 26 (((gv w 27 a1 5).toNatClampNeg)) 3))) ∧ ((¬ (s0_43 = 0)) → (j59 w43 (3 : Int32))))) → (((gv w 29 a1 (p3).toNatClampNeg ≤ 0) → (j43 w (0 : Int32))) ∧ ((¬ (gv w 29 a1 (p3).toNatClampNeg ≤ 0)) → (j43 w (1 : Int32)))))))
theorem hd_X8_collect_2 : yX8_collect_2.cls = RX8 ∧ yX8_collect_2.cls ≠ "java/lang/invoke/MethodHandle" ∧ yX8_collect_2.cls ≠ "java/lang/invoke/VarHandle" ∧ (parseMethodDescriptor yX8_collect_2.desc).map (fun d => d.parameters.length) = some 3 := by decide +kernel
set_option maxHeartbeats 4000000 in
theorem m_X8_collect_2 {l : Launch} {κ : Kx} {y : Ly} {X : XR} {post : Wd → Ly → Prop} {w : Wd} {a1 : Nat} {p2 : Int32} {p3 : Int32}  (hM : WFm κ y) (l0 : live y 20 0) (l1 : live y 27 a1) (h : sp_X8_collect_2 κ y post w a1 p2 p3) : Met l yX8_collect_2 (ws_ yX8_collect_2 cX8_collect_2 13 (Option.none : Option Jvm.ClassFile.FieldType)) rm_X8_collect_2 (va_Pc [.ref (y.2 20 0), .ref (y.2 27 a1), .int (p2), .int (p3)] (RC κ w y X)) (va_Qv (fun (u : Wd × Ly) => post u.1 u.2) (fun (u : Wd × Ly) t => Rp κ u.1 u.2 X [] t.heap ∧ WFm κ u.2 ∧ LeS y u.2) (Af κ)) 1 6 (Af κ) := by
  unfold sp_X8_collect_2 at h
  refine Met.ofW (cc := cX8_collect_2) (maxL := 13) (ret := (Option.none : Option Jvm.ClassFile.FieldType)) (by decide) rfl ?_
  intro p e s m args below meth c s₁ B hml hv
  obtain ⟨rfl, hR, hK⟩ := hv
  have hx := B.exec
  have hb := B.bytes
  have hr := B.returns
  have hts := atoms_spec (ws := ws_ yX8_collect_2 cX8_collect_2 13 (Option.none : Option Jvm.ClassFile.FieldType)) B.pre
  have hts : ∀ w ∈ lw_all, w.before _ s = true := fun w h => hts w (List.mem_cons_of_mem _ h)
  have hown : s.vm.findClass RX8 = some m.cls := findClass_of_methodNamed B.named
  have hlocks := B.notSynchronized
  have hLe : LeS y y := LeS.rf
  have hS : va_S (Af κ) s.heap s.heap [] := va_S.rf
  have hl := lv_entry ([.ref (y.2 20 0), .ref (y.2 27 a1), .int (p2), .int (p3)]) (n := 13) (Nat.le_of_ble_eq_true rfl)
  rw [lg_entry_eq]
  generalize (lg_sl ([.ref (y.2 20 0), .ref (y.2 27 a1), .int (p2), .int (p3)]) ++ List.replicate (13 - (lg_sl ([.ref (y.2 20 0), .ref (y.2 27 a1), .int (p2), .int (p3)])).length) Slot.unset).toArray = ls at hl ⊢
  have hl : lv_has ls 13 [(0, .ref (y.2 20 0)), (1, .ref (y.2 27 a1)), (2, .int (p2)), (3, .int (p3))] := hl
  refine lv_aload_n hx hb dX8_collect_2_0 rfl (lv_at hl 0 rfl) ?_
  refine g20_3 hx hb hts hown hK hR l0 q1948 dX8_collect_2_1 ?_
  refine lv_iload_n hx hb dX8_collect_2_4 rfl (lv_at hl 3 rfl) ?_
  have o_5 := h.1
  have h := h.2
  refine jr_get (a := y.2 21 ((p3).toNatClampNeg)) ⟨hx, hb, hml, hown, hts⟩ hK hR ⟨fun _ _ _ _ _ => rfl, fun _ _ _ _ _ => rfl⟩ hM.lsV ⟨hM.arV (Nat.lt_of_le_of_lt (Nat.zero_le _) (vp_lt o_5)), (Nat.le_trans hM.mV8 (by decide))⟩ o_5 (hM.elV (vp_lt o_5)) q2101 ⟨Nat.le_of_ble_eq_true rfl, Nat.le_of_ble_eq_true rfl⟩ hl.1 (Nat.le_of_ble_eq_true rfl) dX8_collect_2_5 ⟨(Nat.le_of_ble_eq_true rfl), (Nat.le_of_ble_eq_true rfl)⟩ ?_
  refine jr_castS (ci := 12) hx hb hown hK hts (hR.role (hM.vil (vp_lt o_5))) rfl q2032 dX8_collect_2_8 ?_
  refine lv_astore (lv' := [(4, .ref (y.2 21 ((p3).toNatClampNeg))), (0, .ref (y.2 20 0)), (1, .ref (y.2 27 a1)), (2, .int (p2)), (3, .int (p3))]) hx hb dX8_collect_2_11 hl (by decide) rfl (fun ls hl => ?_)
  refine lv_aload_n hx hb dX8_collect_2_13 rfl (lv_at hl 1 rfl) ?_
  refine g20_4 hx hb hts hown hK hR l0 q1949 dX8_collect_2_14 ?_
  refine lv_aload_n hx hb dX8_collect_2_17 rfl (lv_at hl 2 rfl) ?_
  refine g27_5 hx hb hts hown hK hR l1 q2266 dX8_collect_2_18 ?_
  have o_21 := h.1
  have h := h.2
  refine jr_get (a := y.2 26 ((gv w 27 a1 5).toNatClampNeg)) ⟨hx, hb, hml, hown, hts⟩ hK hR ⟨fun _ _ _ _ _ => rfl, fun _ _ _ _ _ => rfl⟩ hM.lsC ⟨hM.arC (Nat.lt_of_le_of_lt (Nat.zero_le _) (vp_lt o_21)), (Nat.le_trans hM.mC4 (by decide))⟩ o_21 (hM.elC (vp_lt o_21)) q2101 ⟨Nat.le_of_ble_eq_true rfl, Nat.le_of_ble_eq_true rfl⟩ hl.1 (Nat.le_of_ble_eq_true rfl) dX8_collect_2_21 ⟨(Nat.le_of_ble_eq_true rfl), (Nat.le_of_ble_eq_true rfl)⟩ ?_
  refine jr_castS (ci := 13) hx hb hown hK hts (hR.role (hM.com (vp_lt o_21))) rfl q2141 dX8_collect_2_24 ?_
  refine lv_astore (lv' := [(5, .ref (y.2 26 ((gv w 27 a1 5).toNatClampNeg))), (4, .ref (y.2 21 ((p3).toNatClampNeg))), (0, .ref (y.2 20 0)), (1, .ref (y.2 27 a1)), (2, .int (p2)), (3, .int (p3))]) hx hb dX8_collect_2_27 hl (by decide) rfl (fun ls hl => ?_)
  refine lv_aload_n hx hb dX8_collect_2_29 rfl (lv_at hl 3 rfl) ?_
  refine g27_12 hx hb hts hown hK hR l1 q2276 dX8_collect_2_30 ?_
  refine lv_iload_n hx hb dX8_collect_2_33 rfl (lv_at hl 5 rfl) ?_
  have o_34 := h.1
  have h := h.2
  refine a29 hx hb hK hR (hM.age l1) o_34 dX8_collect_2_34 ?_
  refine jn_elim h (fun j43 ej43 h => ?_)
  have Jj43 : ∀ (w43 : Wd) (s0_43 : Int32) (H : Heap) (locs : List Loc) (ls : Array Slot), j43 w43 s0_43 → Rp κ w43 y X [] H → va_S (Af κ) s.heap H locs → lv_has ls 13 [(5, .ref (y.2 26 ((gv w 27 a1 5).toNatClampNeg))), (4, .ref (y.2 21 ((p3).toNatClampNeg))), (0, .ref (y.2 20 0)), (1, .ref (y.2 27 a1)), (2, .int (p2)), (3, .int (p3))] → W p l e (headSpec (ws_ yX8_collect_2 cX8_collect_2 13 (Option.none : Option Jvm.ClassFile.FieldType)) rm_X8_collect_2).room s m ([.ref (y.2 20 0), .ref (y.2 27 a1), .int (p2), .int (p3)] : List Value).toArray below meth c H locs (0) (0) (MQ below (va_Qv (fun (u : Wd × Ly) => post u.1 u.2) (fun (u : Wd × Ly) t => Rp κ u.1 u.2 X [] t.heap ∧ WFm κ u.2 ∧ LeS y u.2) (Af κ)) ([.ref (y.2 20 0), .ref (y.2 27 a1), .int (p2), .int (p3)] : List Value).toArray s 1 6 (Af κ)) (F0 m 43 ls [.int (s0_43)]) := by
    clear h
    intro w43 s0_43 H locs ls h hR hS hl
    subst ej43
    refine lv_istore (lv' := [(6, .int (s0_43)), (5, .ref (y.2 26 ((gv w 27 a1 5).toNatClampNeg))), (4, .ref (y.2 21 ((p3).toNatClampNeg))), (0, .ref (y.2 20 0)), (1, .ref (y.2 27 a1)), (2, .int (p2)), (3, .int (p3))]) hx hb dX8_collect_2_43 hl (by decide) rfl (fun ls hl => ?_)
    refine lv_iload hx hb dX8_collect_2_45 (lv_at hl 0 rfl) ?_
    refine jn_elim h (fun j59 ej59 h => ?_)
    have Jj59 : ∀ (w59 : Wd) (s0_59 : Int32) (H : Heap) (locs : List Loc) (ls : Array Slot), j59 w59 s0_59 → Rp κ w59 y X [] H → va_S (Af κ) s.heap H locs → lv_has ls 13 [(6, .int (s0_43)), (5, .ref (y.2 26 ((gv w 27 a1 5).toNatClampNeg))), (4, .ref (y.2 21 ((p3).toNatClampNeg))), (0, .ref (y.2 20 0)), (1, .ref (y.2 27 a1)), (2, .int (p2)), (3, .int (p3))] → W p l e (headSpec (ws_ yX8_collect_2 cX8_collect_2 13 (Option.none : Option Jvm.ClassFile.FieldType)) rm_X8_collect_2).room s m ([.ref (y.2 20 0), .ref (y.2 27 a1), .int (p2), .int (p3)] : List Value).toArray below meth c H locs (0) (0) (MQ below (va_Qv (fun (u : Wd × Ly) => post u.1 u.2) (fun (u : Wd × Ly) t => Rp κ u.1 u.2 X [] t.heap ∧ WFm κ u.2 ∧ LeS y u.2) (Af κ)) ([.ref (y.2 20 0), .ref (y.2 27 a1), .int (p2), .int (p3)] : List Value).toArray s 1 6 (Af κ)) (F0 m 59 ls [.int (s0_59)]) := by
      clear h
      intro w59 s0_59 H locs ls h hR hS hl
      subst ej59
      refine lv_istore (lv' := [(7, .int (s0_59)), (6, .int (s0_43)), (5, .ref (y.2 26 ((gv w 27 a1 5).toNatClampNeg))), (4, .ref (y.2 21 ((p3).toNatClampNeg))), (0, .ref (y.2 20 0)), (1, .ref (y.2 27 a1)), (2, .int (p2)), (3, .int (p3))]) hx hb dX8_collect_2_59 hl (by decide) rfl (fun ls hl => ?_)
      refine lv_aload_n hx hb dX8_collect_2_61 rfl (lv_at hl 4 rfl) ?_
      refine lv_iload_n hx hb dX8_collect_2_62 rfl (lv_at hl 7 rfl) ?_
      refine lv_aload_n hx hb dX8_collect_2_63 rfl (lv_at hl 5 rfl) ?_
      refine g27_0 hx hb hts hown hK hR l1 q2259 dX8_collect_2_64 ?_
      refine lv_iconst (v := (0 : Int32)) hx hb dX8_collect_2_67 (by decide) ?_
      refine ce_qi (fw := fun u => u) (fy := fun _ => y) (cr_V (n := 3) (As := [.int (p3), .int (gv w59 27 a1 0), .int ((0 : Int32))]) (rest := []) ⟨hx, hb, hml, hown, hts⟩ hK hR (m_X8_dueNow hM l0 h) q2472 q2474 qs56 q85 q2475 rfl rfl hd_X8_dueNow ⟨Nat.le_of_ble_eq_true rfl, Nat.le_of_ble_eq_true rfl⟩ (rv hK hR l0 (ci := 11) rfl rfl) rfl rfl hl.1 rfl (lv_room (Nat.le_of_ble_eq_true rfl)) dX8_collect_2_68 ⟨(Nat.le_of_ble_eq_true rfl), (Nat.le_of_ble_eq_true rfl)⟩) hR hS (fun r_68 w_68 H locs h hR _ hS => ?_)
      refine lv_istore (lv' := [(8, .int (r_68)), (7, .int (s0_59)), (6, .int (s0_43)), (5, .ref (y.2 26 ((gv w 27 a1 5).toNatClampNeg))), (4, .ref (y.2 21 ((p3).toNatClampNeg))), (0, .ref (y.2 20 0)), (1, .ref (y.2 27 a1)), (2, .int (p2)), (3, .int (p3))]) hx hb dX8_collect_2_71 hl (by decide) rfl (fun ls hl => ?_)
      refine lv_iload hx hb dX8_collect_2_73 (lv_at hl 0 rfl) ?_
      refine lv_iload hx hb dX8_collect_2_75 (lv_at hl 0 rfl) ?_
      refine lv_iload hx hb dX8_collect_2_77 (lv_at hl 1 rfl) ?_
      refine lv_imul hx hb dX8_collect_2_79 ?_
      refine lv_bipush (v := (8 : Int32)) hx hb dX8_collect_2_80 (by decide) ?_
      refine lv_idiv hx hb dX8_collect_2_82 (by decide) ?_
      refine lv_iadd hx hb dX8_collect_2_83 ?_
      refine lv_topi (fun x_84 ex_84 => ?_)
      have h := h x_84 ex_84
      refine lv_istore (lv' := [(9, .int (x_84)), (8, .int (r_68)), (7, .int (s0_59)), (6, .int (s0_43)), (5, .ref (y.2 26 ((gv w 27 a1 5).toNatClampNeg))), (4, .ref (y.2 21 ((p3).toNatClampNeg))), (0, .ref (y.2 20 0)), (1, .ref (y.2 27 a1)), (2, .int (p2)), (3, .int (p3))]) hx hb dX8_collect_2_84 hl (by decide) rfl (fun ls hl => ?_)
      refine lv_iload hx hb dX8_collect_2_86 (lv_at hl 0 rfl) ?_
      refine lv_iload hx hb dX8_collect_2_88 (lv_at hl 0 rfl) ?_
      refine lv_aload hx hb dX8_collect_2_90 (lv_at hl 5 rfl) ?_
      refine g21_7 hx hb hts hown hK hR (hM.vil (vp_lt o_5)) q2048 dX8_collect_2_92 ?_
      refine lv_iload hx hb dX8_collect_2_95 (lv_at hl 2 rfl) ?_
      refine ce_qi (fw := fun u => u) (fy := fun _ => y) (cr_S (n := 3) (As := [.int (x_84), .int (gv w_68 21 (((p3).toNatClampNeg)) 7), .int (s0_59)]) (rest := [.int (x_84)]) ⟨hx, hb, hml, hown, hts⟩ hK hR (m_X8_hidden hM h) q2479 q2480 q85 q2481 rfl rfl hds_X8_hidden ⟨Nat.le_of_ble_eq_true rfl, Nat.le_of_ble_eq_true rfl⟩ rfl rfl hl.1 rfl (lv_room (Nat.le_of_ble_eq_true rfl)) dX8_collect_2_97 ⟨(Nat.le_of_ble_eq_true rfl), (Nat.le_of_ble_eq_true rfl)⟩) hR hS (fun r_97 w_97 H locs h hR _ hS => ?_)
      refine lv_isub hx hb dX8_collect_2_100 ?_
      refine lv_topi (fun x_101 ex_101 => ?_)
      have h := h x_101 ex_101
      refine lv_istore (lv' := [(10, .int (x_101)), (9, .int (x_84)), (8, .int (r_68)), (7, .int (s0_59)), (6, .int (s0_43)), (5, .ref (y.2 26 ((gv w 27 a1 5).toNatClampNeg))), (4, .ref (y.2 21 ((p3).toNatClampNeg))), (0, .ref (y.2 20 0)), (1, .ref (y.2 27 a1)), (2, .int (p2)), (3, .int (p3))]) hx hb dX8_collect_2_101 hl (by decide) rfl (fun ls hl => ?_)
      refine lv_iload hx hb dX8_collect_2_103 (lv_at hl 0 rfl) ?_
      refine lv_aload_n hx hb dX8_collect_2_105 rfl (lv_at hl 8 rfl) ?_
      refine g27_0 hx hb hts hown hK hR l1 q2259 dX8_collect_2_106 ?_
      refine jn_elim h (fun j125 ej125 h => ?_)
      have Jj125 : ∀ (w125 : Wd) (s0_125 : Int32) (s1_125 : Int32) (H : Heap) (locs : List Loc) (ls : Array Slot), j125 w125 s0_125 s1_125 → Rp κ w125 y X [] H → va_S (Af κ) s.heap H locs → lv_has ls 13 [(10, .int (x_101)), (9, .int (x_84)), (7, .int (s0_59)), (6, .int (s0_43)), (5, .ref (y.2 26 ((gv w 27 a1 5).toNatClampNeg))), (4, .ref (y.2 21 ((p3).toNatClampNeg))), (0, .ref (y.2 20 0)), (1, .ref (y.2 27 a1)), (2, .int (p2)), (3, .int (p3))] → W p l e (headSpec (ws_ yX8_collect_2 cX8_collect_2 13 (Option.none : Option Jvm.ClassFile.FieldType)) rm_X8_collect_2).room s m ([.ref (y.2 20 0), .ref (y.2 27 a1), .int (p2), .int (p3)] : List Value).toArray below meth c H locs (0) (0) (MQ below (va_Qv (fun (u : Wd × Ly) => post u.1 u.2) (fun (u : Wd × Ly) t => Rp κ u.1 u.2 X [] t.heap ∧ WFm κ u.2 ∧ LeS y u.2) (Af κ)) ([.ref (y.2 20 0), .ref (y.2 27 a1), .int (p2), .int (p3)] : List Value).toArray s 1 6 (Af κ)) (F0 m 125 ls [.int (s0_125), .int (s1_125)]) := by
        clear h
        intro w125 s0_125 s1_125 H locs ls h hR hS hl
        subst ej125
        refine va_mmin hx hb (hml.trans hl.1.symm) hown (hts _ q2113) (hts _ q322) (hts _ q95) (hts _ q323) (Nat.le_of_ble_eq_true rfl) (Nat.le_of_ble_eq_true rfl) (Nat.le_of_ble_eq_true rfl) (Nat.le_of_ble_eq_true rfl) dX8_collect_2_125 ?_
        refine lv_topi (fun x_128 ex_128 => ?_)
        have h := h x_128 ex_128
        refine lv_istore (lv' := [(11, .int (x_128)), (10, .int (x_101)), (9, .int (x_84)), (7, .int (s0_59)), (6, .int (s0_43)), (5, .ref (y.2 26 ((gv w 27 a1 5).toNatClampNeg))), (4, .ref (y.2 21 ((p3).toNatClampNeg))), (0, .ref (y.2 20 0)), (1, .ref (y.2 27 a1)), (2, .int (p2)), (3, .int (p3))]) hx hb dX8_collect_2_128 hl (by decide) rfl (fun ls hl => ?_)
        refine lv_aload_n hx hb dX8_collect_2_130 rfl (lv_at hl 8 rfl) ?_
        refine g27_0 hx hb hts hown hK hR l1 q2259 dX8_collect_2_131 ?_
        refine jn_elim h (fun j146 ej146 h => ?_)
        have Jj146 : ∀ (w146 : Wd) (s0_146 : Int32) (H : Heap) (locs : List Loc) (ls : Array Slot), j146 w146 s0_146 → Rp κ w146 y X [] H → va_S (Af κ) s.heap H locs → lv_has ls 13 [(11, .int (x_128)), (10, .int (x_101)), (9, .int (x_84)), (7, .int (s0_59)), (6, .int (s0_43)), (5, .ref (y.2 26 ((gv w 27 a1 5).toNatClampNeg))), (4, .ref (y.2 21 ((p3).toNatClampNeg))), (0, .ref (y.2 20 0)), (1, .ref (y.2 27 a1)), (2, .int (p2)), (3, .int (p3))] → W p l e (headSpec (ws_ yX8_collect_2 cX8_collect_2 13 (Option.none : Option Jvm.ClassFile.FieldType)) rm_X8_collect_2).room s m ([.ref (y.2 20 0), .ref (y.2 27 a1), .int (p2), .int (p3)] : List Value).toArray below meth c H locs (0) (0) (MQ below (va_Qv (fun (u : Wd × Ly) => post u.1 u.2) (fun (u : Wd × Ly) t => Rp κ u.1 u.2 X [] t.heap ∧ WFm κ u.2 ∧ LeS y u.2) (Af κ)) ([.ref (y.2 20 0), .ref (y.2 27 a1), .int (p2), .int (p3)] : List Value).toArray s 1 6 (Af κ)) (F0 m 146 ls [.int (s0_146)]) := by
          clear h
          intro w146 s0_146 H locs ls h hR hS hl
          subst ej146
          refine lv_istore (lv' := [(12, .int (s0_146)), (11, .int (x_128)), (10, .int (x_101)), (9, .int (x_84)), (7, .int (s0_59)), (6, .int (s0_43)), (5, .ref (y.2 26 ((gv w 27 a1 5).toNatClampNeg))), (4, .ref (y.2 21 ((p3).toNatClampNeg))), (0, .ref (y.2 20 0)), (1, .ref (y.2 27 a1)), (2, .int (p2)), (3, .int (p3))]) hx hb dX8_collect_2_146 hl (by decide) rfl (fun ls hl => ?_)
          refine lv_aload_n hx hb dX8_collect_2_148 rfl (lv_at hl 9 rfl) ?_
          refine g27_0 hx hb hts hown hK hR l1 q2259 dX8_collect_2_149 ?_
          refine jn_elim h (fun j236 ej236 h => ?_)
          have Jj236 : ∀ (w236 : Wd) (v12_236 : Int32) (v11_236 : Int32) (H : Heap) (locs : List Loc) (ls : Array Slot), j236 w236 v12_236 v11_236 → Rp κ w236 y X [] H → va_S (Af κ) s.heap H locs → lv_has ls 13 [(12, .int (v12_236)), (11, .int (v11_236)), (9, .int (x_84)), (7, .int (s0_59)), (6, .int (s0_43)), (5, .ref (y.2 26 ((gv w 27 a1 5).toNatClampNeg))), (4, .ref (y.2 21 ((p3).toNatClampNeg))), (0, .ref (y.2 20 0)), (1, .ref (y.2 27 a1)), (2, .int (p2)), (3, .int (p3))] → W p l e (headSpec (ws_ yX8_collect_2 cX8_collect_2 13 (Option.none : Option Jvm.ClassFile.FieldType)) rm_X8_collect_2).room s m ([.ref (y.2 20 0), .ref (y.2 27 a1), .int (p2), .int (p3)] : List Value).toArray below meth c H locs (0) (0) (MQ below (va_Qv (fun (u : Wd × Ly) => post u.1 u.2) (fun (u : Wd × Ly) t => Rp κ u.1 u.2 X [] t.heap ∧ WFm κ u.2 ∧ LeS y u.2) (Af κ)) ([.ref (y.2 20 0), .ref (y.2 27 a1), .int (p2), .int (p3)] : List Value).toArray s 1 6 (Af κ)) (F0 m 236 ls []) := by
            clear h
            intro w236 v12_236 v11_236 H locs ls h hR hS hl
            subst ej236
            refine lv_iload hx hb dX8_collect_2_236 (lv_at hl 4 rfl) ?_
            refine jn_elim h (fun j271 ej271 h => ?_)
            have Jj271 : ∀ (w271 : Wd) (v12_271 : Int32) (H : Heap) (locs : List Loc) (ls : Array Slot), j271 w271 v12_271 → Rp κ w271 y X [] H → va_S (Af κ) s.heap H locs → lv_has ls 13 [(12, .int (v12_271)), (11, .int (v11_236)), (9, .int (x_84)), (7, .int (s0_59)), (5, .ref (y.2 26 ((gv w 27 a1 5).toNatClampNeg))), (4, .ref (y.2 21 ((p3).toNatClampNeg))), (0, .ref (y.2 20 0)), (1, .ref (y.2 27 a1)), (2, .int (p2)), (3, .int (p3))] → W p l e (headSpec (ws_ yX8_collect_2 cX8_collect_2 13 (Option.none : Option Jvm.ClassFile.FieldType)) rm_X8_collect_2).room s m ([.ref (y.2 20 0), .ref (y.2 27 a1), .int (p2), .int (p3)] : List Value).toArray below meth c H locs (0) (0) (MQ below (va_Qv (fun (u : Wd × Ly) => post u.1 u.2) (fun (u : Wd × Ly) t => Rp κ u.1 u.2 X [] t.heap ∧ WFm κ u.2 ∧ LeS y u.2) (Af κ)) ([.ref (y.2 20 0), .ref (y.2 27 a1), .int (p2), .int (p3)] : List Value).toArray s 1 6 (Af κ)) (F0 m 271 ls []) := by
              clear h
              intro w271 v12_271 H locs ls h hR hS hl
              subst ej271
              refine lv_aload hx hb dX8_collect_2_271 (lv_at hl 4 rfl) ?_
              refine lv_dup hx hb dX8_collect_2_273 rfl ?_
              refine g26_1 hx hb hts hown hK hR (hM.com (vp_lt o_21)) q2150 dX8_collect_2_274 ?_
              refine lv_iload hx hb dX8_collect_2_277 (lv_at hl 0 rfl) ?_
              refine lv_iadd hx hb dX8_collect_2_279 ?_
              refine p26_1 hx hb hts hown hK hR hS (hM.com (vp_lt o_21)) q2150 dX8_collect_2_280 (fun H locs w_280 ew_280 hR hS => ?_)
              have h := h w_280 ew_280
              refine lv_aload hx hb dX8_collect_2_283 (lv_at hl 4 rfl) ?_
              refine lv_dup hx hb dX8_collect_2_285 rfl ?_
              refine g26_7 hx hb hts hown hK hR (hM.com (vp_lt o_21)) q2156 dX8_collect_2_286 ?_
              refine lv_iload hx hb dX8_collect_2_289 (lv_at hl 0 rfl) ?_
              refine lv_iadd hx hb dX8_collect_2_291 ?_
              refine p26_7 hx hb hts hown hK hR hS (hM.com (vp_lt o_21)) q2156 dX8_collect_2_292 (fun H locs w_292 ew_292 hR hS => ?_)
              have h := h w_292 ew_292
              refine lv_aload hx hb dX8_collect_2_295 (lv_at hl 5 rfl) ?_
              refine g21_16 hx hb hts hown hK hR (hM.vil (vp_lt o_5)) q2060 dX8_collect_2_297 ?_
              refine lv_aload_n hx hb dX8_collect_2_300 rfl (lv_at hl 7 rfl) ?_
              refine g27_0 hx hb hts hown hK hR l1 q2259 dX8_collect_2_301 ?_
              refine lv_bipush (v := (6 : Int32)) hx hb dX8_collect_2_304 (by decide) ?_
              refine xa_newa (ty := .int) (N' := 6) (a0 := (6, .inl (fun _ => 0))) hx hb hts q995 rfl hK.1 0 rfl (by intro C h9; cases h9) hS rfl (by decide) (by decide) (by decide) (Nat.le_of_ble_eq_true rfl) (Nat.le_of_ble_eq_true rfl) dX8_collect_2_306 (fun q_306 H1 hq h1 hz ho hS => ?_)
              have hR := hR.newL hq h1 (by omega) ho
              clear hq h1 hz ho
              generalize H1 = H at hR hS ⊢
              have hR : Rp κ w_292 y X [(q_306, .inl (kT κ 0, (6, .inl ((fun _ => 0)))))] H := hR
              refine lv_dup hx hb dX8_collect_2_308 rfl ?_
              refine lv_iconst (v := (0 : Int32)) hx hb dX8_collect_2_309 (by decide) ?_
              refine lv_aload_n hx hb dX8_collect_2_310 rfl (lv_at hl 6 rfl) ?_
              refine ce_qi (fw := fun u => u) (fy := fun _ => y) (cr_V (n := 0) (As := []) (rest := [.int ((0 : Int32)), .ref (q_306), .ref (q_306), .int (gv w_292 27 a1 0), .ref (y.2 24 ((((p3).toNatClampNeg))))]) ⟨hx, hb, hml, hown, hts⟩ hK hR (m_X8_year hM l0 h) q2359 q2361 qs50 q85 q2362 rfl rfl hd_X8_year ⟨Nat.le_of_ble_eq_true rfl, Nat.le_of_ble_eq_true rfl⟩ (rv hK hR l0 (ci := 11) rfl rfl) rfl rfl hl.1 rfl (lv_room (Nat.le_of_ble_eq_true rfl)) dX8_collect_2_311 ⟨(Nat.le_of_ble_eq_true rfl), (Nat.le_of_ble_eq_true rfl)⟩) hR hS (fun r_311 w_311 H locs h hR _ hS => ?_)
              have o_314 := h.1
              have h := h.2
              refine xa_iast hx hb hK.1 hS (hR.LD.2 0 _ rfl) (hR.L 0 _ rfl) 0 rfl o_314 dX8_collect_2_314 (fun H1 locs h1 hz ho hS => ?_)
              have hR := hR.putL (t := 0) rfl h1 hz ho
              clear h1 hz ho
              generalize H1 = H at hR hS ⊢
              obtain ⟨f_314, ef_314⟩ : ∃ z, z = upd ((fun _ => 0)) ((0 : Int32)).toNatClampNeg (r_311) := ⟨_, rfl⟩
              rw [← ef_314] at hR
              have h := h f_314 ef_314
              have hR : Rp κ w_311 y X [(q_306, .inl (kT κ 0, (6, .inl (f_314))))] H := hR
              refine lv_dup hx hb dX8_collect_2_315 rfl ?_
              refine lv_iconst (v := (1 : Int32)) hx hb dX8_collect_2_316 (by decide) ?_
              refine lv_iload hx hb dX8_collect_2_317 (lv_at hl 2 rfl) ?_
              have o_319 := h.1
              have h := h.2
              refine xa_iast hx hb hK.1 hS (hR.LD.2 0 _ rfl) (hR.L 0 _ rfl) 0 rfl o_319 dX8_collect_2_319 (fun H1 locs h1 hz ho hS => ?_)
              have hR := hR.putL (t := 0) rfl h1 hz ho
              clear h1 hz ho
              generalize H1 = H at hR hS ⊢
              obtain ⟨f_319, ef_319⟩ : ∃ z, z = upd f_314 ((1 : Int32)).toNatClampNeg (x_84) := ⟨_, rfl⟩
              rw [← ef_319] at hR
              have h := h f_319 ef_319
              have hR : Rp κ w_311 y X [(q_306, .inl (kT κ 0, (6, .inl (f_319))))] H := hR
              refine lv_dup hx hb dX8_collect_2_320 rfl ?_
              refine lv_iconst (v := (2 : Int32)) hx hb dX8_collect_2_321 (by decide) ?_
              refine lv_iload hx hb dX8_collect_2_322 (lv_at hl 1 rfl) ?_
              have o_324 := h.1
              have h := h.2
              refine xa_iast hx hb hK.1 hS (hR.LD.2 0 _ rfl) (hR.L 0 _ rfl) 0 rfl o_324 dX8_collect_2_324 (fun H1 locs h1 hz ho hS => ?_)
              have hR := hR.putL (t := 0) rfl h1 hz ho
              clear h1 hz ho
              generalize H1 = H at hR hS ⊢
              obtain ⟨f_324, ef_324⟩ : ∃ z, z = upd f_319 ((2 : Int32)).toNatClampNeg (v11_236) := ⟨_, rfl⟩
              rw [← ef_324] at hR
              have h := h f_324 ef_324
              have hR : Rp κ w_311 y X [(q_306, .inl (kT κ 0, (6, .inl (f_324))))] H := hR
              refine lv_dup hx hb dX8_collect_2_325 rfl ?_
              refine lv_iconst (v := (3 : Int32)) hx hb dX8_collect_2_326 (by decide) ?_
              refine lv_aload_n hx hb dX8_collect_2_327 rfl (lv_at hl 6 rfl) ?_
              refine lv_iload_n hx hb dX8_collect_2_328 rfl (lv_at hl 9 rfl) ?_
              refine lv_aload_n hx hb dX8_collect_2_329 rfl (lv_at hl 7 rfl) ?_
              refine g27_0 hx hb hts hown hK hR l1 q2259 dX8_collect_2_330 ?_
              refine lv_iconst (v := (1 : Int32)) hx hb dX8_collect_2_333 (by decide) ?_
              refine ce_qi (fw := fun u => u) (fy := fun _ => y) (cr_V (n := 3) (As := [.int (p3), .int (gv w_311 27 a1 0), .int ((1 : Int32))]) (rest := [.int ((3 : Int32)), .ref (q_306), .ref (q_306), .int (gv w_292 27 a1 0), .ref (y.2 24 ((((p3).toNatClampNeg))))]) ⟨hx, hb, hml, hown, hts⟩ hK hR (m_X8_dueNow hM l0 h) q2472 q2474 qs56 q85 q2475 rfl rfl hd_X8_dueNow ⟨Nat.le_of_ble_eq_true rfl, Nat.le_of_ble_eq_true rfl⟩ (rv hK hR l0 (ci := 11) rfl rfl) rfl rfl hl.1 rfl (lv_room (Nat.le_of_ble_eq_true rfl)) dX8_collect_2_334 ⟨(Nat.le_of_ble_eq_true rfl), (Nat.le_of_ble_eq_true rfl)⟩) hR hS (fun r_334 w_334 H locs h hR _ hS => ?_)
              have o_337 := h.1
              have h := h.2
              refine xa_iast hx hb hK.1 hS (hR.LD.2 0 _ rfl) (hR.L 0 _ rfl) 0 rfl o_337 dX8_collect_2_337 (fun H1 locs h1 hz ho hS => ?_)
              have hR := hR.putL (t := 0) rfl h1 hz ho
              clear h1 hz ho
              generalize H1 = H at hR hS ⊢
              obtain ⟨f_337, ef_337⟩ : ∃ z, z = upd f_324 ((3 : Int32)).toNatClampNeg (r_334) := ⟨_, rfl⟩
              rw [← ef_337] at hR
              have h := h f_337 ef_337
              have hR : Rp κ w_334 y X [(q_306, .inl (kT κ 0, (6, .inl (f_337))))] H := hR
              refine lv_dup hx hb dX8_collect_2_338 rfl ?_
              refine lv_iconst (v := (4 : Int32)) hx hb dX8_collect_2_339 (by decide) ?_
              refine lv_iload_n hx hb dX8_collect_2_340 rfl (lv_at hl 8 rfl) ?_
              have o_341 := h.1
              have h := h.2
              refine xa_iast hx hb hK.1 hS (hR.LD.2 0 _ rfl) (hR.L 0 _ rfl) 0 rfl o_341 dX8_collect_2_341 (fun H1 locs h1 hz ho hS => ?_)
              have hR := hR.putL (t := 0) rfl h1 hz ho
              clear h1 hz ho
              generalize H1 = H at hR hS ⊢
              obtain ⟨f_341, ef_341⟩ : ∃ z, z = upd f_337 ((4 : Int32)).toNatClampNeg (p2) := ⟨_, rfl⟩
              rw [← ef_341] at hR
              have h := h f_341 ef_341
              have hR : Rp κ w_334 y X [(q_306, .inl (kT κ 0, (6, .inl (f_341))))] H := hR
              refine lv_dup hx hb dX8_collect_2_342 rfl ?_
              refine lv_iconst (v := (5 : Int32)) hx hb dX8_collect_2_343 (by decide) ?_
              refine lv_iconst (v := (0 : Int32)) hx hb dX8_collect_2_344 (by decide) ?_
              have o_345 := h.1
              have h := h.2
              refine xa_iast hx hb hK.1 hS (hR.LD.2 0 _ rfl) (hR.L 0 _ rfl) 0 rfl o_345 dX8_collect_2_345 (fun H1 locs h1 hz ho hS => ?_)
              have hR := hR.putL (t := 0) rfl h1 hz ho
              clear h1 hz ho
              generalize H1 = H at hR hS ⊢
              obtain ⟨f_345, ef_345⟩ : ∃ z, z = upd f_341 ((5 : Int32)).toNatClampNeg ((0 : Int32)) := ⟨_, rfl⟩
              rw [← ef_345] at hR
              have h := h f_345 ef_345
              have hR : Rp κ w_334 y X [(q_306, .inl (kT κ 0, (6, .inl (f_345))))] H := hR
              have o_346 := h.1
              have h := h.2
              have lv_346 := (hM.com (vp_lt o_21))
              have lv_346_a := (hM.vil (vp_lt o_5))
              have lv_346_b := l0
              have lv_346_c := l1
              refine b24 hx hb hK hR hS (hM.vle (hM.vil (vp_lt o_5))) o_346 rfl dX8_collect_2_346 (fun H locs w_346 y_346 ew_346 ey_346 hR hS => ?_)
              have h := h w_346 ew_346 y_346 _ ey_346
              have hL1_y_346 : LeS y y_346 := by rw [ey_346]; exact leS_row
              have hM_y_346 : WFm κ y_346 := by rw [ey_346]; exact WFm.row hM
              have lw_346 := hL1_y_346.live (k := 26) rfl lv_346
              have lw_346_a := hL1_y_346.live (k := 21) rfl lv_346_a
              have lw_346_b := hL1_y_346.live (k := 20) rfl lv_346_b
              have lw_346_c := hL1_y_346.live (k := 27) rfl lv_346_c
              have hl : lv_has ls 13 [(12, .int (v12_271)), (11, .int (v11_236)), (9, .int (x_84)), (7, .int (s0_59)), (5, .ref (y_346.2 26 ((gv w 27 a1 5).toNatClampNeg))), (4, .ref (y_346.2 21 ((p3).toNatClampNeg))), (0, .ref (y_346.2 20 0)), (1, .ref (y_346.2 27 a1)), (2, .int (p2)), (3, .int (p3))] := by
                rw [hL1_y_346.2 20 rfl, hL1_y_346.2 21 rfl, hL1_y_346.2 26 rfl, hL1_y_346.2 27 rfl]
                exact hl
              have hLe_y_346 : LeS _ y_346 := (hLe.trans hL1_y_346)
              refine lv_aload hx hb dX8_collect_2_347 (lv_at hl 5 rfl) ?_
              refine lv_iload hx hb dX8_collect_2_349 (lv_at hl 3 rfl) ?_
              refine ce_qv (fw := fun u => u) (fy := fun _ => y_346) (cr_V (n := 1) (As := [.int (s0_59)]) (rest := []) ⟨hx, hb, hml, hown, hts⟩ hK hR (m_X11_anger hM_y_346 lw_346_a h) q2367 q2368 q2369 q99 q2370 rfl rfl hd_X11_anger ⟨Nat.le_of_ble_eq_true rfl, Nat.le_of_ble_eq_true rfl⟩ (rv hK hR lw_346_a (ci := 12) rfl rfl) rfl rfl hl.1 rfl (lv_room (Nat.le_of_ble_eq_true rfl)) dX8_collect_2_351 ⟨(Nat.le_of_ble_eq_true rfl), (Nat.le_of_ble_eq_true rfl)⟩) hR hS (fun w_351 H locs h hR _ hS => ?_)
              refine W.widen (k := 1) (n := 6) (Nat.le_of_ble_eq_true rfl) (Nat.le_of_ble_eq_true rfl) ?_
              exact W.vret hx hb hr (fun t ht hW9 => ⟨⟨(w_351, y_346), rfl, h, ⟨rpt ht hR, hM_y_346, hLe_y_346⟩⟩, hS.F ht⟩) hS.2.2 dX8_collect_2_354
            refine lv_if_eq (tgt := 271) hx hb dX8_collect_2_238 (by decide) (fun c_238 => ?_) (fun c_238 => ?_)
            · have h := h.1 c_238
              refine W.widen (k := 0) (n := 0) (Nat.le_of_ble_eq_true rfl) (Nat.le_of_ble_eq_true rfl) ?_
              exact Jj271 w236 v12_236 _ _ _ h hR hS (lv_sub hl [0, 1, 2, 3, 5, 6, 7, 8, 9, 10] rfl)
            · have h := h.2 c_238
              refine lv_aload_n hx hb dX8_collect_2_241 rfl (lv_at hl 7 rfl) ?_
              refine lv_dup hx hb dX8_collect_2_242 rfl ?_
              refine g20_15 hx hb hts hown hK hR l0 q1960 dX8_collect_2_243 ?_
              refine lv_iload hx hb dX8_collect_2_246 (lv_at hl 0 rfl) ?_
              refine lv_iadd hx hb dX8_collect_2_248 ?_
              refine p20_15 hx hb hts hown hK hR hS l0 q1960 dX8_collect_2_249 (fun H locs w_249 ew_249 hR hS => ?_)
              have h := h w_249 ew_249
              refine lv_aload_n hx hb dX8_collect_2_252 rfl (lv_at hl 8 rfl) ?_
              refine g27_12 hx hb hts hown hK hR l1 q2276 dX8_collect_2_253 ?_
              refine lv_iload_n hx hb dX8_collect_2_256 rfl (lv_at hl 10 rfl) ?_
              have o_257 := h.1
              have h := h.2
              refine a29 hx hb hK hR (hM.age l1) o_257 dX8_collect_2_257 ?_
              refine lv_topi (fun x_258 ex_258 => ?_)
              have h := h x_258 ex_258
              refine lv_istore (lv' := [(12, .int (x_258)), (11, .int (v11_236)), (9, .int (x_84)), (7, .int (s0_59)), (6, .int (s0_43)), (5, .ref (y.2 26 ((gv w 27 a1 5).toNatClampNeg))), (4, .ref (y.2 21 ((p3).toNatClampNeg))), (0, .ref (y.2 20 0)), (1, .ref (y.2 27 a1)), (2, .int (p2)), (3, .int (p3))]) hx hb dX8_collect_2_258 hl (by decide) rfl (fun ls hl => ?_)
              refine lv_aload_n hx hb dX8_collect_2_260 rfl (lv_at hl 7 rfl) ?_
              refine lv_dup hx hb dX8_collect_2_261 rfl ?_
              refine g20_15 hx hb hts hown hK hR l0 q1960 dX8_collect_2_262 ?_
              refine lv_iload hx hb dX8_collect_2_265 (lv_at hl 0 rfl) ?_
              refine lv_isub hx hb dX8_collect_2_267 ?_
              refine p20_15 hx hb hts hown hK hR hS l0 q1960 dX8_collect_2_268 (fun H locs w_268 ew_268 hR hS => ?_)
              have h := h w_268 ew_268
              refine W.widen (k := 0) (n := 0) (Nat.le_of_ble_eq_true rfl) (Nat.le_of_ble_eq_true rfl) ?_
              exact Jj271 w_268 x_258 _ _ _ h hR hS (lv_sub hl [0, 1, 2, 3, 5, 6, 7, 8, 9, 10] rfl)
          refine lv_if_ne (tgt := 181) hx hb dX8_collect_2_152 (by decide) (fun c_152 => ?_) (fun c_152 => ?_)
          · have h := h.1 c_152
            refine lv_aload hx hb dX8_collect_2_181 (lv_at hl 7 rfl) ?_
            refine lv_dup hx hb dX8_collect_2_183 rfl ?_
            refine g21_5 hx hb hts hown hK hR (hM.vil (vp_lt o_5)) q2045 dX8_collect_2_184 ?_
            refine lv_iload hx hb dX8_collect_2_187 (lv_at hl 1 rfl) ?_
            refine lv_isub hx hb dX8_collect_2_189 ?_
            refine p21_5 hx hb hts hown hK hR hS (hM.vil (vp_lt o_5)) q2045 dX8_collect_2_190 (fun H locs w_190 ew_190 hR hS => ?_)
            have h := h w_190 ew_190
            refine lv_iload hx hb dX8_collect_2_193 (lv_at hl 4 rfl) ?_
            refine lv_iconst (v := (1 : Int32)) hx hb dX8_collect_2_195 (by decide) ?_
            refine lv_icmp_le (tgt := 236) hx hb dX8_collect_2_196 (by decide) (fun c_196 => ?_) (fun c_196 => ?_)
            · have h := h.1 c_196
              refine W.widen (k := 0) (n := 0) (Nat.le_of_ble_eq_true rfl) (Nat.le_of_ble_eq_true rfl) ?_
              exact Jj236 w_190 s0_146 x_128 _ _ _ h hR hS (lv_sub hl [0, 1, 3, 4, 5, 6, 7, 8, 9, 10, 11] rfl)
            · have h := h.2 c_196
              refine lv_aload hx hb dX8_collect_2_199 (lv_at hl 7 rfl) ?_
              refine lv_dup hx hb dX8_collect_2_201 rfl ?_
              refine g21_6 hx hb hts hown hK hR (hM.vil (vp_lt o_5)) q2046 dX8_collect_2_202 ?_
              refine lv_iload hx hb dX8_collect_2_205 (lv_at hl 2 rfl) ?_
              refine lv_iload hx hb dX8_collect_2_207 (lv_at hl 1 rfl) ?_
              refine lv_isub hx hb dX8_collect_2_209 ?_
              refine lv_iadd hx hb dX8_collect_2_210 ?_
              refine p21_6 hx hb hts hown hK hR hS (hM.vil (vp_lt o_5)) q2046 dX8_collect_2_211 (fun H locs w_211 ew_211 hR hS => ?_)
              have h := h w_211 ew_211
              refine lv_aload_n hx hb dX8_collect_2_214 rfl (lv_at hl 8 rfl) ?_
              refine lv_dup hx hb dX8_collect_2_215 rfl ?_
              refine g20_15 hx hb hts hown hK hR l0 q1960 dX8_collect_2_216 ?_
              refine lv_iload hx hb dX8_collect_2_219 (lv_at hl 2 rfl) ?_
              refine lv_iload hx hb dX8_collect_2_221 (lv_at hl 1 rfl) ?_
              refine lv_isub hx hb dX8_collect_2_223 ?_
              refine lv_isub hx hb dX8_collect_2_224 ?_
              refine p20_15 hx hb hts hown hK hR hS l0 q1960 dX8_collect_2_225 (fun H locs w_225 ew_225 hR hS => ?_)
              have h := h w_225 ew_225
              refine lv_iload hx hb dX8_collect_2_228 (lv_at hl 2 rfl) ?_
              refine lv_istore (lv' := [(12, .int (x_101)), (11, .int (x_128)), (10, .int (x_101)), (9, .int (x_84)), (7, .int (s0_59)), (6, .int (s0_43)), (5, .ref (y.2 26 ((gv w 27 a1 5).toNatClampNeg))), (4, .ref (y.2 21 ((p3).toNatClampNeg))), (0, .ref (y.2 20 0)), (1, .ref (y.2 27 a1)), (2, .int (p2)), (3, .int (p3))]) hx hb dX8_collect_2_230 hl (by decide) rfl (fun ls hl => ?_)
              refine lv_iload hx hb dX8_collect_2_232 (lv_at hl 2 rfl) ?_
              refine lv_istore (lv' := [(11, .int (x_101)), (12, .int (x_101)), (10, .int (x_101)), (9, .int (x_84)), (7, .int (s0_59)), (6, .int (s0_43)), (5, .ref (y.2 26 ((gv w 27 a1 5).toNatClampNeg))), (4, .ref (y.2 21 ((p3).toNatClampNeg))), (0, .ref (y.2 20 0)), (1, .ref (y.2 27 a1)), (2, .int (p2)), (3, .int (p3))]) hx hb dX8_collect_2_234 hl (by decide) rfl (fun ls hl => ?_)
              refine W.widen (k := 0) (n := 0) (Nat.le_of_ble_eq_true rfl) (Nat.le_of_ble_eq_true rfl) ?_
              exact Jj236 w_225 x_101 x_101 _ _ _ h hR hS (lv_sub hl [1, 0, 3, 4, 5, 6, 7, 8, 9, 10, 11] rfl)
          · have h := h.2 c_152
            refine lv_aload hx hb dX8_collect_2_155 (lv_at hl 7 rfl) ?_
            refine lv_dup hx hb dX8_collect_2_157 rfl ?_
            refine g21_4 hx hb hts hown hK hR (hM.vil (vp_lt o_5)) q2044 dX8_collect_2_158 ?_
            refine lv_iload hx hb dX8_collect_2_161 (lv_at hl 1 rfl) ?_
            refine lv_isub hx hb dX8_collect_2_163 ?_
            refine p21_4 hx hb hts hown hK hR hS (hM.vil (vp_lt o_5)) q2044 dX8_collect_2_164 (fun H locs w_164 ew_164 hR hS => ?_)
            have h := h w_164 ew_164
            refine lv_aload_n hx hb dX8_collect_2_167 rfl (lv_at hl 8 rfl) ?_
            refine lv_dup hx hb dX8_collect_2_168 rfl ?_
            refine g20_15 hx hb hts hown hK hR l0 q1960 dX8_collect_2_169 ?_
            refine lv_iload hx hb dX8_collect_2_172 (lv_at hl 0 rfl) ?_
            refine lv_isub hx hb dX8_collect_2_174 ?_
            refine p20_15 hx hb hts hown hK hR hS l0 q1960 dX8_collect_2_175 (fun H locs w_175 ew_175 hR hS => ?_)
            have h := h w_175 ew_175
            refine lv_goto (tgt := 236) hx hb dX8_collect_2_178 (by decide) ?_
            refine W.widen (k := 0) (n := 0) (Nat.le_of_ble_eq_true rfl) (Nat.le_of_ble_eq_true rfl) ?_
            exact Jj236 w_175 s0_146 x_128 _ _ _ h hR hS (lv_sub hl [0, 1, 3, 4, 5, 6, 7, 8, 9, 10, 11] rfl)
        refine lv_if_ne (tgt := 144) hx hb dX8_collect_2_134 (by decide) (fun c_134 => ?_) (fun c_134 => ?_)
        · have h := h.1 c_134
          refine lv_iload hx hb dX8_collect_2_144 (lv_at hl 0 rfl) ?_
          refine W.widen (k := 0) (n := 0) (Nat.le_of_ble_eq_true rfl) (Nat.le_of_ble_eq_true rfl) ?_
          exact Jj146 w125 x_128 _ _ _ h hR hS (lv_sub hl [0, 1, 2, 3, 4, 5, 6, 7, 8, 9, 10] rfl)
        · have h := h.2 c_134
          refine lv_iconst (v := (2 : Int32)) hx hb dX8_collect_2_137 (by decide) ?_
          refine lv_iload hx hb dX8_collect_2_138 (lv_at hl 0 rfl) ?_
          refine lv_imul hx hb dX8_collect_2_140 ?_
          refine lv_goto (tgt := 146) hx hb dX8_collect_2_141 (by decide) ?_
          refine W.widen (k := 0) (n := 0) (Nat.le_of_ble_eq_true rfl) (Nat.le_of_ble_eq_true rfl) ?_
          exact Jj146 w125 ((2 : Int32) * x_128) _ _ _ h hR hS (lv_sub hl [0, 1, 2, 3, 4, 5, 6, 7, 8, 9, 10] rfl)
      refine lv_if_ne (tgt := 120) hx hb dX8_collect_2_109 (by decide) (fun c_109 => ?_) (fun c_109 => ?_)
      · have h := h.1 c_109
        refine lv_aload hx hb dX8_collect_2_120 (lv_at hl 6 rfl) ?_
        refine g21_5 hx hb hts hown hK hR (hM.vil (vp_lt o_5)) q2045 dX8_collect_2_122 ?_
        refine W.widen (k := 0) (n := 0) (Nat.le_of_ble_eq_true rfl) (Nat.le_of_ble_eq_true rfl) ?_
        exact Jj125 w_97 (gv w_97 21 (((p3).toNatClampNeg)) 5) x_101 _ _ _ h hR hS (lv_sub hl [0, 1, 3, 4, 5, 6, 7, 8, 9, 10] rfl)
      · have h := h.2 c_109
        refine lv_aload hx hb dX8_collect_2_112 (lv_at hl 6 rfl) ?_
        refine g21_4 hx hb hts hown hK hR (hM.vil (vp_lt o_5)) q2044 dX8_collect_2_114 ?_
        refine lv_goto (tgt := 125) hx hb dX8_collect_2_117 (by decide) ?_
        refine W.widen (k := 0) (n := 0) (Nat.le_of_ble_eq_true rfl) (Nat.le_of_ble_eq_true rfl) ?_
        exact Jj125 w_97 (gv w_97 21 (((p3).toNatClampNeg)) 4) x_101 _ _ _ h hR hS (lv_sub hl [0, 1, 3, 4, 5, 6, 7, 8, 9, 10] rfl)
    refine lv_if_eq (tgt := 54) hx hb dX8_collect_2_47 (by decide) (fun c_47 => ?_) (fun c_47 => ?_)
    · have h := h.1 c_47
      refine lv_aload hx hb dX8_collect_2_54 (lv_at hl 1 rfl) ?_
      refine g26_3 hx hb hts hown hK hR (hM.com (vp_lt o_21)) q2152 dX8_collect_2_56 ?_
      refine W.widen (k := 0) (n := 0) (Nat.le_of_ble_eq_true rfl) (Nat.le_of_ble_eq_true rfl) ?_
      exact Jj59 w43 (gv w43 26 (((gv w 27 a1 5).toNatClampNeg)) 3) _ _ _ h hR hS (lv_sub hl [0, 1, 2, 3, 4, 5, 6] rfl)
    · have h := h.2 c_47
      refine lv_iconst (v := (3 : Int32)) hx hb dX8_collect_2_50 (by decide) ?_
      refine lv_goto (tgt := 59) hx hb dX8_collect_2_51 (by decide) ?_
      refine W.widen (k := 0) (n := 0) (Nat.le_of_ble_eq_true rfl) (Nat.le_of_ble_eq_true rfl) ?_
      exact Jj59 w43 (3 : Int32) _ _ _ h hR hS (lv_sub hl [0, 1, 2, 3, 4, 5, 6] rfl)
  refine lv_if_le (tgt := 42) hx hb dX8_collect_2_35 (by decide) (fun c_35 => ?_) (fun c_35 => ?_)
  · have h := h.1 c_35
    refine lv_iconst (v := (0 : Int32)) hx hb dX8_collect_2_42 (by decide) ?_
    refine W.widen (k := 0) (n := 0) (Nat.le_of_ble_eq_true rfl) (Nat.le_of_ble_eq_true rfl) ?_
    exact Jj43 w (0 : Int32) _ _ _ h hR hS (lv_sub hl [0, 1, 2, 3, 4, 5] rfl)
  · have h := h.2 c_35
    refine lv_iconst (v := (1 : Int32)) hx hb dX8_collect_2_38 (by decide) ?_
    refine lv_goto (tgt := 43) hx hb dX8_collect_2_39 (by decide) ?_
    refine W.widen (k := 0) (n := 0) (Nat.le_of_ble_eq_true rfl) (Nat.le_of_ble_eq_true rfl) ?_
    exact Jj43 w (1 : Int32) _ _ _ h hR hS (lv_sub hl [0, 1, 2, 3, 4, 5] rfl)
abbrev rm_X8_clerk : Room := { frames := 5, cells := 9, slots := 36, locals := 141 }
def st_X8_clerk_2 (κ : Kx) (y : Ly) (post : Wd → Prop) (ex : Wd → Prop) (rec : Wd → Int32 → Prop) (v1 : Int32) (w : Wd) (v2 : Int32) : Prop := ((nI (mV y) ≤ v2) → (ex w )) ∧ ((¬ (nI (mV y) ≤ v2)) → ((vp_in (v2) (mV y)) ∧ (sp_X8_isLeased κ y (fun r_28 w_28 => ((¬ r_28 = 0) → (∀ x_142 : Int32, x_142 = v2 + (1 : Int32) → rec w_28 x_142)) ∧ ((r_28 = 0) → (((¬ gv w_28 21 (((v2).toNatClampNeg)) 10 = 0) → (∀ x_142_a : Int32, x_142_a = v2 + (1 : Int32) → rec w_28 x_142_a)) ∧ ((gv w_28 21 (((v2).toNatClampNeg)) 10 = 0) → ((((4 : Int32) ≤ gv w_28 20 0 13) → (sp_X8_treasuryPays κ y (fun w_54 => sp_X8_byClerks κ y (fun r_60 w_60 => ((¬ v1 = 0) → (((¬ v1 = 0) → (∀ w_117 : Wd, w_117 = sv w_60 21 (((v2).toNatClampNeg)) 5 ((gv w_60 21 (((v2).toNatClampNeg)) 5) - r_60) → ∀ w_128 : Wd, w_128 = sv w_117 20 0 13 ((gv w_117 20 0 13) + r_60) → (vp_in (v1) 3) ∧ ((vp_in (v1) 3) ∧ (∀ w_141 : Wd, w_141 = sv w_128 35 0 (v1).toNatClampNeg ((gv w_128 35 0 (v1).toNatClampNeg) + r_60) → ∀ x_142_b : Int32, x_142_b = v2 + (1 : Int32) → rec w_141 x_142_b)))) ∧ ((v1 = 0) → (∀ w_92 : Wd, w_92 = sv w_60 21 (((v2).toNatClampNeg)) 4 ((gv w_60 21 (((v2).toNatClampNeg)) 4) - r_60) → ∀ w_103 : Wd, w_103 = sv w_92 20 0 15 ((gv w_92 20 0 15) - r_60) → ∀ w_128_a : Wd, w_128_a = sv w_103 20 0 13 ((gv w_103 20 0 13) + r_60) → (vp_in (v1) 3) ∧ ((vp_in (v1) 3) ∧ (∀ w_141_a : Wd, w_141_a = sv w_128_a 35 0 (v1).toNatClampNeg ((gv w_128_a 35 0 (v1).toNatClampNeg) + r_60) → ∀ x_142_c : Int32, x_142_c = v2 + (1 : Int32) → rec w_141_a x_142_c)))))) ∧ ((v1 = 0) → (∀ x_78 : Int32, x_78 = (2 : Int32) * r_60 → ((¬ v1 = 0) → (∀ w_117_a : Wd, w_117_a = sv w_60 21 (((v2).toNatClampNeg)) 5 ((gv w_60 21 (((v2).toNatClampNeg)) 5) - r_60) → ∀ w_128_b : Wd, w_128_b = sv w_117_a 20 0 13 ((gv w_117_a 20 0 13) + x_78) → (vp_in (v1) 3) ∧ ((vp_in (v1) 3) ∧ (∀ w_141_b : Wd, w_141_b = sv w_128_b 35 0 (v1).toNatClampNeg ((gv w_128_b 35 0 (v1).toNatClampNeg) + x_78) → ∀ x_142_d : Int32, x_142_d = v2 + (1 : Int32) → rec w_141_b x_142_d)))) ∧ ((v1 = 0) → (∀ w_92_a : Wd, w_92_a = sv w_60 21 (((v2).toNatClampNeg)) 4 ((gv w_60 21 (((v2).toNatClampNeg)) 4) - r_60) → ∀ w_103_a : Wd, w_103_a = sv w_92_a 20 0 15 ((gv w_92_a 20 0 15) - x_78) → ∀ w_128_c : Wd, w_128_c = sv w_103_a 20 0 13 ((gv w_103_a 20 0 13) + x_78) → (vp_in (v1) 3) ∧ ((vp_in (v1) 3) ∧ (∀ w_141_c : Wd, w_141_c = sv w_128_c 35 0 (v1).toNatClampNeg ((gv w_128_c 35 0 (v1).toNatClampNeg) + x_78) → ∀ x_142_e : Int32, x_142_e = v2 + (1 : Int32) → rec w_141_c x_142_e))))))) w_54 v2 v1) w_28 (4 : Int32))) ∧ ((¬ ((4 : Int32) ≤ gv w_28 20 0 13)) → (∀ x_142_f : Int32, x_142_f = v2 + (1 : Int32) → rec w_28 x_142_f))))))) w v1 v2)))
def sp_X8_clerk_2 (κ : Kx) (y : Ly) (post : Wd → Prop) (ex : Wd → Prop) (v1 : Int32) : Nat → Wd → Int32 → Prop
  | 0 => fun _ _ => False
  | n + 1 => fun w v2 => st_X8_clerk_2 κ y post ex (sp_X8_clerk_2 κ y post ex v1 n) v1 w v2
set_option maxHeartbeats 4000000 in
theorem lp_X8_clerk_2 {p : Program} {l : Launch} {e : Env} {s : State} {m : MethodId} {args : Array Value} {below : List Frame} {meth : Method} {c : Code} {κ : Kx} {y : Ly} {X : XR} {post : Wd → Prop} {v1 : Int32} (hx : p.tables.exec = Jvm.exec) (hb : c.code = cX8_clerk) (hr : meth.sig.returnType = (Option.none : Option Jvm.ClassFile.FieldType)) (hml : c.maxLocals = 6) (hown : s.vm.findClass RX8 = some m.cls) (hts : ∀ w ∈ lw_all, w.before args s = true) (hlocks : meth.locks = false) (hK : KK κ s) (hM : WFm κ y) (l0 : live y 20 0) {C1 S1 : Nat} (hC : C1 ≤ 9) (hSl : S1 ≤ 36) {ex : Wd → Prop}
    (kx : ∀ (w : Wd)  (H : Heap) (locs : List Loc) (ls : Array Slot) (cells slots : Nat) , ex w  → Rp κ w y X [] H → va_S (Af κ) s.heap H locs → lv_has ls 6 [] → cells ≤ C1 → slots ≤ S1 → W p l e (headSpec (ws_ yX8_clerk cX8_clerk 6 (Option.none : Option Jvm.ClassFile.FieldType)) rm_X8_clerk).room s m args below meth c H locs cells slots (MQ below (va_Qv post (fun w t => Rp κ w y X [] t.heap) (Af κ)) args s 9 36 (Af κ)) (F0 m 148 ls [])) :
    ∀ (f : Nat) (w : Wd) (v2 : Int32) (H : Heap) (locs : List Loc) (ls : Array Slot) (cells slots : Nat)  , sp_X8_clerk_2 κ y post ex v1 f w v2 → Rp κ w y X [] H → va_S (Af κ) s.heap H locs → lv_has ls 6 [(0, .ref (y.2 20 0)), (1, .int (v1)), (2, .int (v2))] → cells + f * 1 ≤ C1 → slots + f * 4 ≤ S1 → W p l e (headSpec (ws_ yX8_clerk cX8_clerk 6 (Option.none : Option Jvm.ClassFile.FieldType)) rm_X8_clerk).room s m args below meth c H locs cells slots (MQ below (va_Qv post (fun w t => Rp κ w y X [] t.heap) (Af κ)) args s 9 36 (Af κ)) (F0 m 2 ls []) := by
  intro f
  induction f with
  | zero =>
    intro w v2 H locs ls cells slots  h
    exact False.elim h
  | succ f ih =>
    intro w v2 H locs ls cells slots  h hR hS hl hc hs
    have h : st_X8_clerk_2 κ y post ex (sp_X8_clerk_2 κ y post ex v1 f) v1 w v2 := h
    unfold st_X8_clerk_2 at h
    refine lv_iload_n hx hb dX8_clerk_2 rfl (lv_at hl 2 rfl) ?_
    refine lv_aload_n hx hb dX8_clerk_3 rfl (lv_at hl 0 rfl) ?_
    refine g20_3 hx hb hts hown hK hR l0 q1948 dX8_clerk_4 ?_
    refine jr_size ⟨hx, hb, hml, hown, hts⟩ hK hR ⟨fun _ _ _ _ _ => rfl, fun _ _ _ _ _ => rfl⟩ hM.lsV q2031 ⟨Nat.le_of_ble_eq_true rfl, Nat.le_of_ble_eq_true rfl⟩ hl.1 (Nat.le_of_ble_eq_true rfl) dX8_clerk_7 ⟨(Nat.le_trans (show cells + 0 ≤ C1 from by omega) hC), (Nat.le_trans (show slots + 0 ≤ S1 from by omega) hSl)⟩ ?_
    refine lv_icmp_ge (tgt := 148) hx hb dX8_clerk_10 (by decide) (fun c_10 => ?_) (fun c_10 => ?_)
    · have h := h.1 c_10
      exact kx w  _ _ _ _ _ h hR hS (lv_sub hl [] rfl) (by omega) (by omega)
    · have h := h.2 c_10
      refine lv_aload_n hx hb dX8_clerk_13 rfl (lv_at hl 0 rfl) ?_
      refine g20_3 hx hb hts hown hK hR l0 q1948 dX8_clerk_14 ?_
      refine lv_iload_n hx hb dX8_clerk_17 rfl (lv_at hl 2 rfl) ?_
      have o_18 := h.1
      have h := h.2
      refine jr_get (a := y.2 21 ((v2).toNatClampNeg)) ⟨hx, hb, hml, hown, hts⟩ hK hR ⟨fun _ _ _ _ _ => rfl, fun _ _ _ _ _ => rfl⟩ hM.lsV ⟨hM.arV (Nat.lt_of_le_of_lt (Nat.zero_le _) (vp_lt o_18)), (Nat.le_trans hM.mV8 (by decide))⟩ o_18 (hM.elV (vp_lt o_18)) q2101 ⟨Nat.le_of_ble_eq_true rfl, Nat.le_of_ble_eq_true rfl⟩ hl.1 (Nat.le_of_ble_eq_true rfl) dX8_clerk_18 ⟨(Nat.le_trans (show cells + 0 ≤ C1 from by omega) hC), (Nat.le_trans (show slots + 0 ≤ S1 from by omega) hSl)⟩ ?_
      refine jr_castS (ci := 12) hx hb hown hK hts (hR.role (hM.vil (vp_lt o_18))) rfl q2032 dX8_clerk_21 ?_
      refine lv_astore_n (lv' := [(3, .ref (y.2 21 ((v2).toNatClampNeg))), (0, .ref (y.2 20 0)), (1, .int (v1)), (2, .int (v2))]) hx hb dX8_clerk_24 rfl hl (by decide) rfl (fun ls hl => ?_)
      refine lv_aload_n hx hb dX8_clerk_25 rfl (lv_at hl 1 rfl) ?_
      refine lv_iload_n hx hb dX8_clerk_26 rfl (lv_at hl 2 rfl) ?_
      refine lv_iload_n hx hb dX8_clerk_27 rfl (lv_at hl 3 rfl) ?_
      refine ce_qi (fw := fun u => u) (fy := fun _ => y) (cr_V (n := 2) (As := [.int (v1), .int (v2)]) (rest := []) ⟨hx, hb, hml, hown, hts⟩ hK hR (m_X8_isLeased hM l0 h) q2486 q2488 qs58 q85 q2489 rfl rfl hd_X8_isLeased ⟨Nat.le_of_ble_eq_true rfl, Nat.le_of_ble_eq_true rfl⟩ (rv hK hR l0 (ci := 11) rfl rfl) rfl rfl hl.1 rfl (lv_room (Nat.le_of_ble_eq_true rfl)) dX8_clerk_28 ⟨(Nat.le_trans (show cells + 1 ≤ C1 from by omega) hC), (Nat.le_trans (show slots + 4 ≤ S1 from by omega) hSl)⟩) hR hS (fun r_28 w_28 H locs h hR _ hS => ?_)
      refine lv_if_ne (tgt := 142) hx hb dX8_clerk_31 (by decide) (fun c_31 => ?_) (fun c_31 => ?_)
      · have h := h.1 c_31
        obtain ⟨x_142, ex_142⟩ : ∃ z : Int32, z = v2 + (1 : Int32) := ⟨_, rfl⟩
        have h := h x_142 ex_142
        refine lv_iinc (v := x_142) (lv' := [(2, .int (x_142)), (3, .ref (y.2 21 ((v2).toNatClampNeg))), (0, .ref (y.2 20 0)), (1, .int (v1))]) hx hb dX8_clerk_142 hl (k := 3) rfl (by rw [ex_142]; rfl) (by decide) rfl (fun ls hl => ?_)
        refine lv_goto (tgt := 2) hx hb dX8_clerk_145 (by decide) ?_
        exact ih w_28 x_142 _ _ _ _ _  h hR hS (lv_sub hl [2, 3, 0] rfl) (by omega) (by omega)
      · have h := h.2 c_31
        refine lv_aload_n hx hb dX8_clerk_34 rfl (lv_at hl 0 rfl) ?_
        refine g21_10 hx hb hts hown hK hR (hM.vil (vp_lt o_18)) q2051 dX8_clerk_35 ?_
        refine lv_if_ne (tgt := 142) hx hb dX8_clerk_38 (by decide) (fun c_38 => ?_) (fun c_38 => ?_)
        · have h := h.1 c_38
          obtain ⟨x_142_a, ex_142_a⟩ : ∃ z : Int32, z = v2 + (1 : Int32) := ⟨_, rfl⟩
          have h := h x_142_a ex_142_a
          refine lv_iinc (v := x_142_a) (lv' := [(2, .int (x_142_a)), (3, .ref (y.2 21 ((v2).toNatClampNeg))), (0, .ref (y.2 20 0)), (1, .int (v1))]) hx hb dX8_clerk_142 hl (k := 3) rfl (by rw [ex_142_a]; rfl) (by decide) rfl (fun ls hl => ?_)
          refine lv_goto (tgt := 2) hx hb dX8_clerk_145 (by decide) ?_
          exact ih w_28 x_142_a _ _ _ _ _  h hR hS (lv_sub hl [2, 3, 0] rfl) (by omega) (by omega)
        · have h := h.2 c_38
          refine lv_aload_n hx hb dX8_clerk_41 rfl (lv_at hl 1 rfl) ?_
          refine g20_13 hx hb hts hown hK hR l0 q1958 dX8_clerk_42 ?_
          refine lv_iconst (v := (4 : Int32)) hx hb dX8_clerk_45 (by decide) ?_
          refine lv_icmp_ge (tgt := 52) hx hb dX8_clerk_46 (by decide) (fun c_46 => ?_) (fun c_46 => ?_)
          · have h := h.1 c_46
            refine lv_aload_n hx hb dX8_clerk_52 rfl (lv_at hl 1 rfl) ?_
            refine lv_iconst (v := (4 : Int32)) hx hb dX8_clerk_53 (by decide) ?_
            refine ce_qv (fw := fun u => u) (fy := fun _ => y) (cr_V (n := 1) (As := [.int ((4 : Int32))]) (rest := []) ⟨hx, hb, hml, hown, hts⟩ hK hR (m_X8_treasuryPays hM l0 h) q2118 q2120 qs41 q85 q2121 rfl rfl hd_X8_treasuryPays ⟨Nat.le_of_ble_eq_true rfl, Nat.le_of_ble_eq_true rfl⟩ (rv hK hR l0 (ci := 11) rfl rfl) rfl rfl hl.1 rfl (lv_room (Nat.le_of_ble_eq_true rfl)) dX8_clerk_54 ⟨(Nat.le_trans (show cells + 1 + 0 ≤ C1 from by omega) hC), (Nat.le_trans (show slots + 4 + 0 ≤ S1 from by omega) hSl)⟩) hR hS (fun w_54 H locs h hR _ hS => ?_)
            refine lv_aload_n hx hb dX8_clerk_57 rfl (lv_at hl 1 rfl) ?_
            refine lv_iload_n hx hb dX8_clerk_58 rfl (lv_at hl 3 rfl) ?_
            refine lv_iload_n hx hb dX8_clerk_59 rfl (lv_at hl 2 rfl) ?_
            refine ce_qi (fw := fun u => u) (fy := fun _ => y) (cr_V (n := 2) (As := [.int (v2), .int (v1)]) (rest := []) ⟨hx, hb, hml, hown, hts⟩ hK hR (m_X8_byClerks hM l0 h) q2490 q2492 qs59 q85 q2493 rfl rfl hd_X8_byClerks ⟨Nat.le_of_ble_eq_true rfl, Nat.le_of_ble_eq_true rfl⟩ (rv hK hR l0 (ci := 11) rfl rfl) rfl rfl hl.1 rfl (lv_room (Nat.le_of_ble_eq_true rfl)) dX8_clerk_60 ⟨(Nat.le_trans (show cells + 1 + 0 ≤ C1 from by omega) hC), (Nat.le_trans (show slots + 4 + 0 ≤ S1 from by omega) hSl)⟩) hR hS (fun r_60 w_60 H locs h hR _ hS => ?_)
            refine lv_istore (lv' := [(4, .int (r_60)), (3, .ref (y.2 21 ((v2).toNatClampNeg))), (0, .ref (y.2 20 0)), (1, .int (v1)), (2, .int (v2))]) hx hb dX8_clerk_63 hl (by decide) rfl (fun ls hl => ?_)
            refine lv_iload_n hx hb dX8_clerk_65 rfl (lv_at hl 3 rfl) ?_
            refine lv_if_ne (tgt := 76) hx hb dX8_clerk_66 (by decide) (fun c_66 => ?_) (fun c_66 => ?_)
            · have h := h.1 c_66
              refine lv_iload hx hb dX8_clerk_76 (lv_at hl 0 rfl) ?_
              refine lv_istore (lv' := [(5, .int (r_60)), (4, .int (r_60)), (3, .ref (y.2 21 ((v2).toNatClampNeg))), (0, .ref (y.2 20 0)), (1, .int (v1)), (2, .int (v2))]) hx hb dX8_clerk_78 hl (by decide) rfl (fun ls hl => ?_)
              refine lv_iload_n hx hb dX8_clerk_80 rfl (lv_at hl 4 rfl) ?_
              refine lv_if_ne (tgt := 109) hx hb dX8_clerk_81 (by decide) (fun c_81 => ?_) (fun c_81 => ?_)
              · have h := h.1 c_81
                refine lv_aload_n hx hb dX8_clerk_109 rfl (lv_at hl 2 rfl) ?_
                refine lv_dup hx hb dX8_clerk_110 rfl ?_
                refine g21_5 hx hb hts hown hK hR (hM.vil (vp_lt o_18)) q2045 dX8_clerk_111 ?_
                refine lv_iload hx hb dX8_clerk_114 (lv_at hl 1 rfl) ?_
                refine lv_isub hx hb dX8_clerk_116 ?_
                refine p21_5 hx hb hts hown hK hR hS (hM.vil (vp_lt o_18)) q2045 dX8_clerk_117 (fun H locs w_117 ew_117 hR hS => ?_)
                have h := h w_117 ew_117
                refine lv_aload_n hx hb dX8_clerk_120 rfl (lv_at hl 3 rfl) ?_
                refine lv_dup hx hb dX8_clerk_121 rfl ?_
                refine g20_13 hx hb hts hown hK hR l0 q1958 dX8_clerk_122 ?_
                refine lv_iload hx hb dX8_clerk_125 (lv_at hl 0 rfl) ?_
                refine lv_iadd hx hb dX8_clerk_127 ?_
                refine p20_13 hx hb hts hown hK hR hS l0 q1958 dX8_clerk_128 (fun H locs w_128 ew_128 hR hS => ?_)
                have h := h w_128 ew_128
                refine lv_aload_n hx hb dX8_clerk_131 rfl (lv_at hl 3 rfl) ?_
                refine g20_11 hx hb hts hown hK hR l0 q1956 dX8_clerk_132 ?_
                refine lv_iload_n hx hb dX8_clerk_135 rfl (lv_at hl 4 rfl) ?_
                refine lv_dup2_11 hx hb dX8_clerk_136 rfl rfl ?_
                have o_137 := h.1
                have h := h.2
                refine a35 hx hb hK hR hM.r35 o_137 dX8_clerk_137 ?_
                refine lv_iload hx hb dX8_clerk_138 (lv_at hl 0 rfl) ?_
                refine lv_iadd hx hb dX8_clerk_140 ?_
                have o_141 := h.1
                have h := h.2
                refine b35 hx hb hK hR hS hM.r35 o_141 dX8_clerk_141 (fun H locs w_141 ew_141 hR hS => ?_)
                have h := h w_141 ew_141
                obtain ⟨x_142_b, ex_142_b⟩ : ∃ z : Int32, z = v2 + (1 : Int32) := ⟨_, rfl⟩
                have h := h x_142_b ex_142_b
                refine lv_iinc (v := x_142_b) (lv' := [(2, .int (x_142_b)), (5, .int (r_60)), (4, .int (r_60)), (3, .ref (y.2 21 ((v2).toNatClampNeg))), (0, .ref (y.2 20 0)), (1, .int (v1))]) hx hb dX8_clerk_142 hl (k := 5) rfl (by rw [ex_142_b]; rfl) (by decide) rfl (fun ls hl => ?_)
                refine lv_goto (tgt := 2) hx hb dX8_clerk_145 (by decide) ?_
                exact ih w_141 x_142_b _ _ _ _ _  h hR hS (lv_sub hl [4, 5, 0] rfl) (by omega) (by omega)
              · have h := h.2 c_81
                refine lv_aload_n hx hb dX8_clerk_84 rfl (lv_at hl 2 rfl) ?_
                refine lv_dup hx hb dX8_clerk_85 rfl ?_
                refine g21_4 hx hb hts hown hK hR (hM.vil (vp_lt o_18)) q2044 dX8_clerk_86 ?_
                refine lv_iload hx hb dX8_clerk_89 (lv_at hl 1 rfl) ?_
                refine lv_isub hx hb dX8_clerk_91 ?_
                refine p21_4 hx hb hts hown hK hR hS (hM.vil (vp_lt o_18)) q2044 dX8_clerk_92 (fun H locs w_92 ew_92 hR hS => ?_)
                have h := h w_92 ew_92
                refine lv_aload_n hx hb dX8_clerk_95 rfl (lv_at hl 3 rfl) ?_
                refine lv_dup hx hb dX8_clerk_96 rfl ?_
                refine g20_15 hx hb hts hown hK hR l0 q1960 dX8_clerk_97 ?_
                refine lv_iload hx hb dX8_clerk_100 (lv_at hl 0 rfl) ?_
                refine lv_isub hx hb dX8_clerk_102 ?_
                refine p20_15 hx hb hts hown hK hR hS l0 q1960 dX8_clerk_103 (fun H locs w_103 ew_103 hR hS => ?_)
                have h := h w_103 ew_103
                refine lv_goto (tgt := 120) hx hb dX8_clerk_106 (by decide) ?_
                refine lv_aload_n hx hb dX8_clerk_120 rfl (lv_at hl 3 rfl) ?_
                refine lv_dup hx hb dX8_clerk_121 rfl ?_
                refine g20_13 hx hb hts hown hK hR l0 q1958 dX8_clerk_122 ?_
                refine lv_iload hx hb dX8_clerk_125 (lv_at hl 0 rfl) ?_
                refine lv_iadd hx hb dX8_clerk_127 ?_
                refine p20_13 hx hb hts hown hK hR hS l0 q1958 dX8_clerk_128 (fun H locs w_128_a ew_128_a hR hS => ?_)
                have h := h w_128_a ew_128_a
                refine lv_aload_n hx hb dX8_clerk_131 rfl (lv_at hl 3 rfl) ?_
                refine g20_11 hx hb hts hown hK hR l0 q1956 dX8_clerk_132 ?_
                refine lv_iload_n hx hb dX8_clerk_135 rfl (lv_at hl 4 rfl) ?_
                refine lv_dup2_11 hx hb dX8_clerk_136 rfl rfl ?_
                have o_137_a := h.1
                have h := h.2
                refine a35 hx hb hK hR hM.r35 o_137_a dX8_clerk_137 ?_
                refine lv_iload hx hb dX8_clerk_138 (lv_at hl 0 rfl) ?_
                refine lv_iadd hx hb dX8_clerk_140 ?_
                have o_141_a := h.1
                have h := h.2
                refine b35 hx hb hK hR hS hM.r35 o_141_a dX8_clerk_141 (fun H locs w_141_a ew_141_a hR hS => ?_)
                have h := h w_141_a ew_141_a
                obtain ⟨x_142_c, ex_142_c⟩ : ∃ z : Int32, z = v2 + (1 : Int32) := ⟨_, rfl⟩
                have h := h x_142_c ex_142_c
                refine lv_iinc (v := x_142_c) (lv' := [(2, .int (x_142_c)), (5, .int (r_60)), (4, .int (r_60)), (3, .ref (y.2 21 ((v2).toNatClampNeg))), (0, .ref (y.2 20 0)), (1, .int (v1))]) hx hb dX8_clerk_142 hl (k := 5) rfl (by rw [ex_142_c]; rfl) (by decide) rfl (fun ls hl => ?_)
                refine lv_goto (tgt := 2) hx hb dX8_clerk_145 (by decide) ?_
                exact ih w_141_a x_142_c _ _ _ _ _  h hR hS (lv_sub hl [4, 5, 0] rfl) (by omega) (by omega)
            · have h := h.2 c_66
              refine lv_iconst (v := (2 : Int32)) hx hb dX8_clerk_69 (by decide) ?_
              refine lv_iload hx hb dX8_clerk_70 (lv_at hl 0 rfl) ?_
              refine lv_imul hx hb dX8_clerk_72 ?_
              refine lv_goto (tgt := 78) hx hb dX8_clerk_73 (by decide) ?_
              refine lv_topi (fun x_78 ex_78 => ?_)
              have h := h x_78 ex_78
              refine lv_istore (lv' := [(5, .int (x_78)), (4, .int (r_60)), (3, .ref (y.2 21 ((v2).toNatClampNeg))), (0, .ref (y.2 20 0)), (1, .int (v1)), (2, .int (v2))]) hx hb dX8_clerk_78 hl (by decide) rfl (fun ls hl => ?_)
              refine lv_iload_n hx hb dX8_clerk_80 rfl (lv_at hl 4 rfl) ?_
              refine lv_if_ne (tgt := 109) hx hb dX8_clerk_81 (by decide) (fun c_81_a => ?_) (fun c_81_a => ?_)
              · have h := h.1 c_81_a
                refine lv_aload_n hx hb dX8_clerk_109 rfl (lv_at hl 2 rfl) ?_
                refine lv_dup hx hb dX8_clerk_110 rfl ?_
                refine g21_5 hx hb hts hown hK hR (hM.vil (vp_lt o_18)) q2045 dX8_clerk_111 ?_
                refine lv_iload hx hb dX8_clerk_114 (lv_at hl 1 rfl) ?_
                refine lv_isub hx hb dX8_clerk_116 ?_
                refine p21_5 hx hb hts hown hK hR hS (hM.vil (vp_lt o_18)) q2045 dX8_clerk_117 (fun H locs w_117_a ew_117_a hR hS => ?_)
                have h := h w_117_a ew_117_a
                refine lv_aload_n hx hb dX8_clerk_120 rfl (lv_at hl 3 rfl) ?_
                refine lv_dup hx hb dX8_clerk_121 rfl ?_
                refine g20_13 hx hb hts hown hK hR l0 q1958 dX8_clerk_122 ?_
                refine lv_iload hx hb dX8_clerk_125 (lv_at hl 0 rfl) ?_
                refine lv_iadd hx hb dX8_clerk_127 ?_
                refine p20_13 hx hb hts hown hK hR hS l0 q1958 dX8_clerk_128 (fun H locs w_128_b ew_128_b hR hS => ?_)
                have h := h w_128_b ew_128_b
                refine lv_aload_n hx hb dX8_clerk_131 rfl (lv_at hl 3 rfl) ?_
                refine g20_11 hx hb hts hown hK hR l0 q1956 dX8_clerk_132 ?_
                refine lv_iload_n hx hb dX8_clerk_135 rfl (lv_at hl 4 rfl) ?_
                refine lv_dup2_11 hx hb dX8_clerk_136 rfl rfl ?_
                have o_137_b := h.1
                have h := h.2
                refine a35 hx hb hK hR hM.r35 o_137_b dX8_clerk_137 ?_
                refine lv_iload hx hb dX8_clerk_138 (lv_at hl 0 rfl) ?_
                refine lv_iadd hx hb dX8_clerk_140 ?_
                have o_141_b := h.1
                have h := h.2
                refine b35 hx hb hK hR hS hM.r35 o_141_b dX8_clerk_141 (fun H locs w_141_b ew_141_b hR hS => ?_)
                have h := h w_141_b ew_141_b
                obtain ⟨x_142_d, ex_142_d⟩ : ∃ z : Int32, z = v2 + (1 : Int32) := ⟨_, rfl⟩
                have h := h x_142_d ex_142_d
                refine lv_iinc (v := x_142_d) (lv' := [(2, .int (x_142_d)), (5, .int (x_78)), (4, .int (r_60)), (3, .ref (y.2 21 ((v2).toNatClampNeg))), (0, .ref (y.2 20 0)), (1, .int (v1))]) hx hb dX8_clerk_142 hl (k := 5) rfl (by rw [ex_142_d]; rfl) (by decide) rfl (fun ls hl => ?_)
                refine lv_goto (tgt := 2) hx hb dX8_clerk_145 (by decide) ?_
                exact ih w_141_b x_142_d _ _ _ _ _  h hR hS (lv_sub hl [4, 5, 0] rfl) (by omega) (by omega)
              · have h := h.2 c_81_a
                refine lv_aload_n hx hb dX8_clerk_84 rfl (lv_at hl 2 rfl) ?_
                refine lv_dup hx hb dX8_clerk_85 rfl ?_
                refine g21_4 hx hb hts hown hK hR (hM.vil (vp_lt o_18)) q2044 dX8_clerk_86 ?_
                refine lv_iload hx hb dX8_clerk_89 (lv_at hl 1 rfl) ?_
                refine lv_isub hx hb dX8_clerk_91 ?_
                refine p21_4 hx hb hts hown hK hR hS (hM.vil (vp_lt o_18)) q2044 dX8_clerk_92 (fun H locs w_92_a ew_92_a hR hS => ?_)
                have h := h w_92_a ew_92_a
                refine lv_aload_n hx hb dX8_clerk_95 rfl (lv_at hl 3 rfl) ?_
                refine lv_dup hx hb dX8_clerk_96 rfl ?_
                refine g20_15 hx hb hts hown hK hR l0 q1960 dX8_clerk_97 ?_
                refine lv_iload hx hb dX8_clerk_100 (lv_at hl 0 rfl) ?_
                refine lv_isub hx hb dX8_clerk_102 ?_
                refine p20_15 hx hb hts hown hK hR hS l0 q1960 dX8_clerk_103 (fun H locs w_103_a ew_103_a hR hS => ?_)
                have h := h w_103_a ew_103_a
                refine lv_goto (tgt := 120) hx hb dX8_clerk_106 (by decide) ?_
                refine lv_aload_n hx hb dX8_clerk_120 rfl (lv_at hl 3 rfl) ?_
                refine lv_dup hx hb dX8_clerk_121 rfl ?_
                refine g20_13 hx hb hts hown hK hR l0 q1958 dX8_clerk_122 ?_
                refine lv_iload hx hb dX8_clerk_125 (lv_at hl 0 rfl) ?_
                refine lv_iadd hx hb dX8_clerk_127 ?_
                refine p20_13 hx hb hts hown hK hR hS l0 q1958 dX8_clerk_128 (fun H locs w_128_c ew_128_c hR hS => ?_)
                have h := h w_128_c ew_128_c
                refine lv_aload_n hx hb dX8_clerk_131 rfl (lv_at hl 3 rfl) ?_
                refine g20_11 hx hb hts hown hK hR l0 q1956 dX8_clerk_132 ?_
                refine lv_iload_n hx hb dX8_clerk_135 rfl (lv_at hl 4 rfl) ?_
                refine lv_dup2_11 hx hb dX8_clerk_136 rfl rfl ?_
                have o_137_c := h.1
                have h := h.2
                refine a35 hx hb hK hR hM.r35 o_137_c dX8_clerk_137 ?_
                refine lv_iload hx hb dX8_clerk_138 (lv_at hl 0 rfl) ?_
                refine lv_iadd hx hb dX8_clerk_140 ?_
                have o_141_c := h.1
                have h := h.2
                refine b35 hx hb hK hR hS hM.r35 o_141_c dX8_clerk_141 (fun H locs w_141_c ew_141_c hR hS => ?_)
                have h := h w_141_c ew_141_c
                obtain ⟨x_142_e, ex_142_e⟩ : ∃ z : Int32, z = v2 + (1 : Int32) := ⟨_, rfl⟩
                have h := h x_142_e ex_142_e
                refine lv_iinc (v := x_142_e) (lv' := [(2, .int (x_142_e)), (5, .int (x_78)), (4, .int (r_60)), (3, .ref (y.2 21 ((v2).toNatClampNeg))), (0, .ref (y.2 20 0)), (1, .int (v1))]) hx hb dX8_clerk_142 hl (k := 5) rfl (by rw [ex_142_e]; rfl) (by decide) rfl (fun ls hl => ?_)
                refine lv_goto (tgt := 2) hx hb dX8_clerk_145 (by decide) ?_
                exact ih w_141_c x_142_e _ _ _ _ _  h hR hS (lv_sub hl [4, 5, 0] rfl) (by omega) (by omega)
          · have h := h.2 c_46
            refine lv_goto (tgt := 142) hx hb dX8_clerk_49 (by decide) ?_
            obtain ⟨x_142_f, ex_142_f⟩ : ∃ z : Int32, z = v2 + (1 : Int32) := ⟨_, rfl⟩
            have h := h x_142_f ex_142_f
            refine lv_iinc (v := x_142_f) (lv' := [(2, .int (x_142_f)), (3, .ref (y.2 21 ((v2).toNatClampNeg))), (0, .ref (y.2 20 0)), (1, .int (v1))]) hx hb dX8_clerk_142 hl (k := 3) rfl (by rw [ex_142_f]; rfl) (by decide) rfl (fun ls hl => ?_)
            refine lv_goto (tgt := 2) hx hb dX8_clerk_145 (by decide) ?_
            exact ih w_28 x_142_f _ _ _ _ _  h hR hS (lv_sub hl [2, 3, 0] rfl) (by omega) (by omega)
def sp_X8_clerk (κ : Kx) (y : Ly) (post : Wd → Prop) (w : Wd) (p1 : Int32) : Prop := sp_X8_clerk_2 κ y post (fun w_2  => post w_2) p1 9 w (0 : Int32)
theorem hd_X8_clerk : yX8_clerk.cls = RX8 ∧ yX8_clerk.cls ≠ "java/lang/invoke/MethodHandle" ∧ yX8_clerk.cls ≠ "java/lang/invoke/VarHandle" ∧ (parseMethodDescriptor yX8_clerk.desc).map (fun d => d.parameters.length) = some 1 := by decide +kernel
set_option maxHeartbeats 4000000 in
theorem m_X8_clerk {l : Launch} {κ : Kx} {y : Ly} {X : XR} {post : Wd → Prop} {w : Wd} {p1 : Int32}  (hM : WFm κ y) (l0 : live y 20 0) (h : sp_X8_clerk κ y post w p1) : Met l yX8_clerk (ws_ yX8_clerk cX8_clerk 6 (Option.none : Option Jvm.ClassFile.FieldType)) rm_X8_clerk (va_Pc [.ref (y.2 20 0), .int (p1)] (RC κ w y X)) (va_Qv post (fun w t => Rp κ w y X [] t.heap) (Af κ)) 9 36 (Af κ) := by
  unfold sp_X8_clerk at h
  refine Met.ofW (cc := cX8_clerk) (maxL := 6) (ret := (Option.none : Option Jvm.ClassFile.FieldType)) (by decide) rfl ?_
  intro p e s m args below meth c s₁ B hml hv
  obtain ⟨rfl, hR, hK⟩ := hv
  have hx := B.exec
  have hb := B.bytes
  have hr := B.returns
  have hts := atoms_spec (ws := ws_ yX8_clerk cX8_clerk 6 (Option.none : Option Jvm.ClassFile.FieldType)) B.pre
  have hts : ∀ w ∈ lw_all, w.before _ s = true := fun w h => hts w (List.mem_cons_of_mem _ h)
  have hown : s.vm.findClass RX8 = some m.cls := findClass_of_methodNamed B.named
  have hlocks := B.notSynchronized
  have hS : va_S (Af κ) s.heap s.heap [] := va_S.rf
  have hl := lv_entry ([.ref (y.2 20 0), .int (p1)]) (n := 6) (Nat.le_of_ble_eq_true rfl)
  rw [lg_entry_eq]
  generalize (lg_sl ([.ref (y.2 20 0), .int (p1)]) ++ List.replicate (6 - (lg_sl ([.ref (y.2 20 0), .int (p1)])).length) Slot.unset).toArray = ls at hl ⊢
  have hl : lv_has ls 6 [(0, .ref (y.2 20 0)), (1, .int (p1))] := hl
  refine lv_iconst (v := (0 : Int32)) hx hb dX8_clerk_0 (by decide) ?_
  refine lv_istore_n (lv' := [(2, .int ((0 : Int32))), (0, .ref (y.2 20 0)), (1, .int (p1))]) hx hb dX8_clerk_1 rfl hl (by decide) rfl (fun ls hl => ?_)
  refine lp_X8_clerk_2 (C1 := 9) (S1 := 36) hx hb hr hml hown hts hlocks hK hM l0 (Nat.le_of_ble_eq_true rfl) (Nat.le_of_ble_eq_true rfl) (fun w_2  H locs ls cells9 slots9 h hR hS hl hc9 hs9 => ?_) 9 w (0 : Int32) _ _ _ _ _  h hR hS (lv_sub hl [1, 2, 0] rfl) (by omega) (by omega)
  refine W.widen (k := 9) (n := 36) hc9 hs9 ?_
  refine W.widen (k := 9) (n := 36) (Nat.le_of_ble_eq_true rfl) (Nat.le_of_ble_eq_true rfl) ?_
  exact W.vret hx hb hr (fun t ht hW9 => ⟨⟨w_2, rfl, h, rpt ht hR⟩, hS.F ht⟩) hS.2.2 dX8_clerk_148
