/-! printed by wip gen: X8_ofLotNow, X8_landNow, X8_gainNow, X8_start, X8_cutStone, X8_clear, X8_survey, X8_war, X8_edict, X8_cut, X8_shareOut -/
set_option maxRecDepth 100000
abbrev rm_X8_ofLotNow : Room := { frames := 2, cells := 1, slots := 12, locals := 49 }
def sp_X8_ofLotNow (κ : Kx) (y : Ly) (post : Int32 → Wd → Prop) (w : Wd) (a1 : Nat) (p2 : Int32) : Prop := (vp_in ((0 : Int32)) 12) ∧ (∀ f_10 : Nat → Int32, f_10 = upd ((fun _ => 0)) ((0 : Int32)).toNatClampNeg (gv w 27 a1 0) → (vp_in ((1 : Int32)) 12) ∧ (∀ f_17 : Nat → Int32, f_17 = upd f_10 ((1 : Int32)).toNatClampNeg (gv w 27 a1 1) → (vp_in ((2 : Int32)) 12) ∧ (∀ f_24 : Nat → Int32, f_24 = upd f_17 ((2 : Int32)).toNatClampNeg (gv w 27 a1 2) → (vp_in ((3 : Int32)) 12) ∧ (∀ f_31 : Nat → Int32, f_31 = upd f_24 ((3 : Int32)).toNatClampNeg (gv w 27 a1 3) → (vp_in ((4 : Int32)) 12) ∧ (∀ f_38 : Nat → Int32, f_38 = upd f_31 ((4 : Int32)).toNatClampNeg (gv w 27 a1 4) → sp_X8_highest κ y (fun r_42 w_42 => (vp_in ((5 : Int32)) 12) ∧ (∀ f_45 : Nat → Int32, f_45 = upd f_38 ((5 : Int32)).toNatClampNeg (r_42) → (vp_in ((6 : Int32)) 12) ∧ (∀ f_53 : Nat → Int32, f_53 = upd f_45 ((6 : Int32)).toNatClampNeg (gv w_42 27 a1 5) → (vp_in ((7 : Int32)) 12) ∧ (∀ f_61 : Nat → Int32, f_61 = upd f_53 ((7 : Int32)).toNatClampNeg (gv w_42 27 a1 6) → ((¬ gv w_42 27 a1 4 = (1 : Int32)) → ((vp_in ((8 : Int32)) 12) ∧ (∀ f_81 : Nat → Int32, f_81 = upd f_61 ((8 : Int32)).toNatClampNeg ((0 : Int32)) → (vp_in ((9 : Int32)) 12) ∧ (∀ f_89 : Nat → Int32, f_89 = upd f_81 ((9 : Int32)).toNatClampNeg (gv w_42 27 a1 9) → sp_X8_letOnOf κ y (fun r_94 w_94 => (vp_in ((10 : Int32)) 12) ∧ (∀ f_97 : Nat → Int32, f_97 = upd f_89 ((10 : Int32)).toNatClampNeg (r_94) → (vp_in ((11 : Int32)) 12) ∧ (∀ f_105 : Nat → Int32, f_105 = upd f_97 ((11 : Int32)).toNatClampNeg (gv w_94 27 a1 8) → (vp_in (p2) 12) ∧ (post (f_105 (p2).toNatClampNeg) w_94)))) w_42 a1)))) ∧ ((gv w_42 27 a1 4 = (1 : Int32)) → ((vp_in ((8 : Int32)) 12) ∧ (∀ f_81_a : Nat → Int32, f_81_a = upd f_61 ((8 : Int32)).toNatClampNeg (gv w_42 27 a1 7) → (vp_in ((9 : Int32)) 12) ∧ (∀ f_89_a : Nat → Int32, f_89_a = upd f_81_a ((9 : Int32)).toNatClampNeg (gv w_42 27 a1 9) → sp_X8_letOnOf κ y (fun r_94_a w_94_a => (vp_in ((10 : Int32)) 12) ∧ (∀ f_97_a : Nat → Int32, f_97_a = upd f_89_a ((10 : Int32)).toNatClampNeg (r_94_a) → (vp_in ((11 : Int32)) 12) ∧ (∀ f_105_a : Nat → Int32, f_105_a = upd f_97_a ((11 : Int32)).toNatClampNeg (gv w_94_a 27 a1 8) → (vp_in (p2) 12) ∧ (post (f_105_a (p2).toNatClampNeg) w_94_a)))) w_42 a1)))))))) w a1)))))
theorem hd_X8_ofLotNow : yX8_ofLotNow.cls = RX8 ∧ yX8_ofLotNow.cls ≠ "java/lang/invoke/MethodHandle" ∧ yX8_ofLotNow.cls ≠ "java/lang/invoke/VarHandle" ∧ (parseMethodDescriptor yX8_ofLotNow.desc).map (fun d => d.parameters.length) = some 2 := by decide +kernel
set_option maxHeartbeats 4000000 in
theorem m_X8_ofLotNow {l : Launch} {κ : Kx} {y : Ly} {X : XR} {post : Int32 → Wd → Prop} {w : Wd} {a1 : Nat} {p2 : Int32}  (hM : WFm κ y) (l0 : live y 20 0) (l1 : live y 27 a1) (h : sp_X8_ofLotNow κ y post w a1 p2) : Met l yX8_ofLotNow (ws_ yX8_ofLotNow cX8_ofLotNow 4 (Option.some Jvm.ClassFile.FieldType.int)) rm_X8_ofLotNow (va_Pc [.ref (y.2 20 0), .ref (y.2 27 a1), .int (p2)] (RC κ w y X)) (va_Qi post (fun w t => Rp κ w y X [] t.heap) (Af κ)) 1 12 (Af κ) := by
  unfold sp_X8_ofLotNow at h
  refine Met.ofW (cc := cX8_ofLotNow) (maxL := 4) (ret := (Option.some Jvm.ClassFile.FieldType.int)) (by decide) rfl ?_
  intro p e s m args below meth c s₁ B hml hv
  obtain ⟨rfl, hR, hK⟩ := hv
  have hx := B.exec
  have hb := B.bytes
  have hr := B.returns
  have hts := atoms_spec (ws := ws_ yX8_ofLotNow cX8_ofLotNow 4 (Option.some Jvm.ClassFile.FieldType.int)) B.pre
  have hts : ∀ w ∈ lw_all, w.before _ s = true := fun w h => hts w (List.mem_cons_of_mem _ h)
  have hown : s.vm.findClass RX8 = some m.cls := findClass_of_methodNamed B.named
  have hlocks := B.notSynchronized
  have hS : va_S (Af κ) s.heap s.heap [] := va_S.rf
  have hl := lv_entry ([.ref (y.2 20 0), .ref (y.2 27 a1), .int (p2)]) (n := 4) (Nat.le_of_ble_eq_true rfl)
  rw [lg_entry_eq]
  generalize (lg_sl ([.ref (y.2 20 0), .ref (y.2 27 a1), .int (p2)]) ++ List.replicate (4 - (lg_sl ([.ref (y.2 20 0), .ref (y.2 27 a1), .int (p2)])).length) Slot.unset).toArray = ls at hl ⊢
  have hl : lv_has ls 4 [(0, .ref (y.2 20 0)), (1, .ref (y.2 27 a1)), (2, .int (p2))] := hl
  refine lv_bipush (v := (12 : Int32)) hx hb dX8_ofLotNow_0 (by decide) ?_
  refine xa_newa (ty := .int) (N' := 12) (a0 := (12, .inl (fun _ => 0))) hx hb hts q995 rfl hK.1 0 rfl (by intro C h9; cases h9) hS rfl (by decide) (by decide) (by decide) (Nat.le_of_ble_eq_true rfl) (Nat.le_of_ble_eq_true rfl) dX8_ofLotNow_2 (fun q_2 H1 hq h1 hz ho hS => ?_)
  have hR := hR.newL hq h1 (by omega) ho
  clear hq h1 hz ho
  generalize H1 = H at hR hS ⊢
  have hR : Rp κ w y X [(q_2, .inl (kT κ 0, (12, .inl ((fun _ => 0)))))] H := hR
  refine lv_dup hx hb dX8_ofLotNow_4 rfl ?_
  refine lv_iconst (v := (0 : Int32)) hx hb dX8_ofLotNow_5 (by decide) ?_
  refine lv_aload_n hx hb dX8_ofLotNow_6 rfl (lv_at hl 1 rfl) ?_
  refine g27_0 hx hb hts hown hK hR l1 q2259 dX8_ofLotNow_7 ?_
  have o_10 := h.1
  have h := h.2
  refine xa_iast hx hb hK.1 hS (hR.LD.2 0 _ rfl) (hR.L 0 _ rfl) 0 rfl o_10 dX8_ofLotNow_10 (fun H1 locs h1 hz ho hS => ?_)
  have hR := hR.putL (t := 0) rfl h1 hz ho
  clear h1 hz ho
  generalize H1 = H at hR hS ⊢
  obtain ⟨f_10, ef_10⟩ : ∃ z, z = upd ((fun _ => 0)) ((0 : Int32)).toNatClampNeg (gv w 27 a1 0) := ⟨_, rfl⟩
  rw [← ef_10] at hR
  have h := h f_10 ef_10
  have hR : Rp κ w y X [(q_2, .inl (kT κ 0, (12, .inl (f_10))))] H := hR
  refine lv_dup hx hb dX8_ofLotNow_11 rfl ?_
  refine lv_iconst (v := (1 : Int32)) hx hb dX8_ofLotNow_12 (by decide) ?_
  refine lv_aload_n hx hb dX8_ofLotNow_13 rfl (lv_at hl 1 rfl) ?_
  refine g27_1 hx hb hts hown hK hR l1 q2260 dX8_ofLotNow_14 ?_
  have o_17 := h.1
  have h := h.2
  refine xa_iast hx hb hK.1 hS (hR.LD.2 0 _ rfl) (hR.L 0 _ rfl) 0 rfl o_17 dX8_ofLotNow_17 (fun H1 locs h1 hz ho hS => ?_)
  have hR := hR.putL (t := 0) rfl h1 hz ho
  clear h1 hz ho
  generalize H1 = H at hR hS ⊢
  obtain ⟨f_17, ef_17⟩ : ∃ z, z = upd f_10 ((1 : Int32)).toNatClampNeg (gv w 27 a1 1) := ⟨_, rfl⟩
  rw [← ef_17] at hR
  have h := h f_17 ef_17
  have hR : Rp κ w y X [(q_2, .inl (kT κ 0, (12, .inl (f_17))))] H := hR
  refine lv_dup hx hb dX8_ofLotNow_18 rfl ?_
  refine lv_iconst (v := (2 : Int32)) hx hb dX8_ofLotNow_19 (by decide) ?_
  refine lv_aload_n hx hb dX8_ofLotNow_20 rfl (lv_at hl 1 rfl) ?_
  refine g27_2 hx hb hts hown hK hR l1 q2261 dX8_ofLotNow_21 ?_
  have o_24 := h.1
  have h := h.2
  refine xa_iast hx hb hK.1 hS (hR.LD.2 0 _ rfl) (hR.L 0 _ rfl) 0 rfl o_24 dX8_ofLotNow_24 (fun H1 locs h1 hz ho hS => ?_)
  have hR := hR.putL (t := 0) rfl h1 hz ho
  clear h1 hz ho
  generalize H1 = H at hR hS ⊢
  obtain ⟨f_24, ef_24⟩ : ∃ z, z = upd f_17 ((2 : Int32)).toNatClampNeg (gv w 27 a1 2) := ⟨_, rfl⟩
  rw [← ef_24] at hR
  have h := h f_24 ef_24
  have hR : Rp κ w y X [(q_2, .inl (kT κ 0, (12, .inl (f_24))))] H := hR
  refine lv_dup hx hb dX8_ofLotNow_25 rfl ?_
  refine lv_iconst (v := (3 : Int32)) hx hb dX8_ofLotNow_26 (by decide) ?_
  refine lv_aload_n hx hb dX8_ofLotNow_27 rfl (lv_at hl 1 rfl) ?_
  refine g27_3 hx hb hts hown hK hR l1 q2262 dX8_ofLotNow_28 ?_
  have o_31 := h.1
  have h := h.2
  refine xa_iast hx hb hK.1 hS (hR.LD.2 0 _ rfl) (hR.L 0 _ rfl) 0 rfl o_31 dX8_ofLotNow_31 (fun H1 locs h1 hz ho hS => ?_)
  have hR := hR.putL (t := 0) rfl h1 hz ho
  clear h1 hz ho
  generalize H1 = H at hR hS ⊢
  obtain ⟨f_31, ef_31⟩ : ∃ z, z = upd f_24 ((3 : Int32)).toNatClampNeg (gv w 27 a1 3) := ⟨_, rfl⟩
  rw [← ef_31] at hR
  have h := h f_31 ef_31
  have hR : Rp κ w y X [(q_2, .inl (kT κ 0, (12, .inl (f_31))))] H := hR
  refine lv_dup hx hb dX8_ofLotNow_32 rfl ?_
  refine lv_iconst (v := (4 : Int32)) hx hb dX8_ofLotNow_33 (by decide) ?_
  refine lv_aload_n hx hb dX8_ofLotNow_34 rfl (lv_at hl 1 rfl) ?_
  refine g27_4 hx hb hts hown hK hR l1 q2264 dX8_ofLotNow_35 ?_
  have o_38 := h.1
  have h := h.2
  refine xa_iast hx hb hK.1 hS (hR.LD.2 0 _ rfl) (hR.L 0 _ rfl) 0 rfl o_38 dX8_ofLotNow_38 (fun H1 locs h1 hz ho hS => ?_)
  have hR := hR.putL (t := 0) rfl h1 hz ho
  clear h1 hz ho
  generalize H1 = H at hR hS ⊢
  obtain ⟨f_38, ef_38⟩ : ∃ z, z = upd f_31 ((4 : Int32)).toNatClampNeg (gv w 27 a1 4) := ⟨_, rfl⟩
  rw [← ef_38] at hR
  have h := h f_38 ef_38
  have hR : Rp κ w y X [(q_2, .inl (kT κ 0, (12, .inl (f_38))))] H := hR
  refine lv_dup hx hb dX8_ofLotNow_39 rfl ?_
  refine lv_iconst (v := (5 : Int32)) hx hb dX8_ofLotNow_40 (by decide) ?_
  refine lv_aload_n hx hb dX8_ofLotNow_41 rfl (lv_at hl 1 rfl) ?_
  refine ce_qi (fw := fun u => u) (fy := fun _ => y) (cr_S (n := 1) (As := [.ref (y.2 27 a1)]) (rest := [.int ((5 : Int32)), .ref (q_2), .ref (q_2)]) ⟨hx, hb, hml, hown, hts⟩ hK hR (m_X8_highest hM l1 h) q2320 q2321 q85 q2322 rfl rfl hds_X8_highest ⟨Nat.le_of_ble_eq_true rfl, Nat.le_of_ble_eq_true rfl⟩ rfl rfl hl.1 rfl (lv_room (Nat.le_of_ble_eq_true rfl)) dX8_ofLotNow_42 ⟨(Nat.le_of_ble_eq_true rfl), (Nat.le_of_ble_eq_true rfl)⟩) hR hS (fun r_42 w_42 H locs h hR _ hS => ?_)
  have o_45 := h.1
  have h := h.2
  refine xa_iast hx hb hK.1 hS (hR.LD.2 0 _ rfl) (hR.L 0 _ rfl) 0 rfl o_45 dX8_ofLotNow_45 (fun H1 locs h1 hz ho hS => ?_)
  have hR := hR.putL (t := 0) rfl h1 hz ho
  clear h1 hz ho
  generalize H1 = H at hR hS ⊢
  obtain ⟨f_45, ef_45⟩ : ∃ z, z = upd f_38 ((5 : Int32)).toNatClampNeg (r_42) := ⟨_, rfl⟩
  rw [← ef_45] at hR
  have h := h f_45 ef_45
  have hR : Rp κ w_42 y X [(q_2, .inl (kT κ 0, (12, .inl (f_45))))] H := hR
  refine lv_dup hx hb dX8_ofLotNow_46 rfl ?_
  refine lv_bipush (v := (6 : Int32)) hx hb dX8_ofLotNow_47 (by decide) ?_
  refine lv_aload_n hx hb dX8_ofLotNow_49 rfl (lv_at hl 1 rfl) ?_
  refine g27_5 hx hb hts hown hK hR l1 q2266 dX8_ofLotNow_50 ?_
  have o_53 := h.1
  have h := h.2
  refine xa_iast hx hb hK.1 hS (hR.LD.2 0 _ rfl) (hR.L 0 _ rfl) 0 rfl o_53 dX8_ofLotNow_53 (fun H1 locs h1 hz ho hS => ?_)
  have hR := hR.putL (t := 0) rfl h1 hz ho
  clear h1 hz ho
  generalize H1 = H at hR hS ⊢
  obtain ⟨f_53, ef_53⟩ : ∃ z, z = upd f_45 ((6 : Int32)).toNatClampNeg (gv w_42 27 a1 5) := ⟨_, rfl⟩
  rw [← ef_53] at hR
  have h := h f_53 ef_53
  have hR : Rp κ w_42 y X [(q_2, .inl (kT κ 0, (12, .inl (f_53))))] H := hR
  refine lv_dup hx hb dX8_ofLotNow_54 rfl ?_
  refine lv_bipush (v := (7 : Int32)) hx hb dX8_ofLotNow_55 (by decide) ?_
  refine lv_aload_n hx hb dX8_ofLotNow_57 rfl (lv_at hl 1 rfl) ?_
  refine g27_6 hx hb hts hown hK hR l1 q2267 dX8_ofLotNow_58 ?_
  have o_61 := h.1
  have h := h.2
  refine xa_iast hx hb hK.1 hS (hR.LD.2 0 _ rfl) (hR.L 0 _ rfl) 0 rfl o_61 dX8_ofLotNow_61 (fun H1 locs h1 hz ho hS => ?_)
  have hR := hR.putL (t := 0) rfl h1 hz ho
  clear h1 hz ho
  generalize H1 = H at hR hS ⊢
  obtain ⟨f_61, ef_61⟩ : ∃ z, z = upd f_53 ((7 : Int32)).toNatClampNeg (gv w_42 27 a1 6) := ⟨_, rfl⟩
  rw [← ef_61] at hR
  have h := h f_61 ef_61
  have hR : Rp κ w_42 y X [(q_2, .inl (kT κ 0, (12, .inl (f_61))))] H := hR
  refine lv_dup hx hb dX8_ofLotNow_62 rfl ?_
  refine lv_bipush (v := (8 : Int32)) hx hb dX8_ofLotNow_63 (by decide) ?_
  refine lv_aload_n hx hb dX8_ofLotNow_65 rfl (lv_at hl 1 rfl) ?_
  refine g27_4 hx hb hts hown hK hR l1 q2264 dX8_ofLotNow_66 ?_
  refine lv_iconst (v := (1 : Int32)) hx hb dX8_ofLotNow_69 (by decide) ?_
  refine lv_icmp_ne (tgt := 80) hx hb dX8_ofLotNow_70 (by decide) (fun c_70 => ?_) (fun c_70 => ?_)
  · have h := h.1 c_70
    refine lv_iconst (v := (0 : Int32)) hx hb dX8_ofLotNow_80 (by decide) ?_
    have o_81 := h.1
    have h := h.2
    refine xa_iast hx hb hK.1 hS (hR.LD.2 0 _ rfl) (hR.L 0 _ rfl) 0 rfl o_81 dX8_ofLotNow_81 (fun H1 locs h1 hz ho hS => ?_)
    have hR := hR.putL (t := 0) rfl h1 hz ho
    clear h1 hz ho
    generalize H1 = H at hR hS ⊢
    obtain ⟨f_81, ef_81⟩ : ∃ z, z = upd f_61 ((8 : Int32)).toNatClampNeg ((0 : Int32)) := ⟨_, rfl⟩
    rw [← ef_81] at hR
    have h := h f_81 ef_81
    have hR : Rp κ w_42 y X [(q_2, .inl (kT κ 0, (12, .inl (f_81))))] H := hR
    refine lv_dup hx hb dX8_ofLotNow_82 rfl ?_
    refine lv_bipush (v := (9 : Int32)) hx hb dX8_ofLotNow_83 (by decide) ?_
    refine lv_aload_n hx hb dX8_ofLotNow_85 rfl (lv_at hl 1 rfl) ?_
    refine g27_9 hx hb hts hown hK hR l1 q2270 dX8_ofLotNow_86 ?_
    have o_89 := h.1
    have h := h.2
    refine xa_iast hx hb hK.1 hS (hR.LD.2 0 _ rfl) (hR.L 0 _ rfl) 0 rfl o_89 dX8_ofLotNow_89 (fun H1 locs h1 hz ho hS => ?_)
    have hR := hR.putL (t := 0) rfl h1 hz ho
    clear h1 hz ho
    generalize H1 = H at hR hS ⊢
    obtain ⟨f_89, ef_89⟩ : ∃ z, z = upd f_81 ((9 : Int32)).toNatClampNeg (gv w_42 27 a1 9) := ⟨_, rfl⟩
    rw [← ef_89] at hR
    have h := h f_89 ef_89
    have hR : Rp κ w_42 y X [(q_2, .inl (kT κ 0, (12, .inl (f_89))))] H := hR
    refine lv_dup hx hb dX8_ofLotNow_90 rfl ?_
    refine lv_bipush (v := (10 : Int32)) hx hb dX8_ofLotNow_91 (by decide) ?_
    refine lv_aload_n hx hb dX8_ofLotNow_93 rfl (lv_at hl 1 rfl) ?_
    refine ce_qi (fw := fun u => u) (fy := fun _ => y) (cr_S (n := 1) (As := [.ref (y.2 27 a1)]) (rest := [.int ((10 : Int32)), .ref (q_2), .ref (q_2)]) ⟨hx, hb, hml, hown, hts⟩ hK hR (m_X8_letOnOf hM l1 h) q2348 q2349 q85 q2350 rfl rfl hds_X8_letOnOf ⟨Nat.le_of_ble_eq_true rfl, Nat.le_of_ble_eq_true rfl⟩ rfl rfl hl.1 rfl (lv_room (Nat.le_of_ble_eq_true rfl)) dX8_ofLotNow_94 ⟨(Nat.le_of_ble_eq_true rfl), (Nat.le_of_ble_eq_true rfl)⟩) hR hS (fun r_94 w_94 H locs h hR _ hS => ?_)
    have o_97 := h.1
    have h := h.2
    refine xa_iast hx hb hK.1 hS (hR.LD.2 0 _ rfl) (hR.L 0 _ rfl) 0 rfl o_97 dX8_ofLotNow_97 (fun H1 locs h1 hz ho hS => ?_)
    have hR := hR.putL (t := 0) rfl h1 hz ho
    clear h1 hz ho
    generalize H1 = H at hR hS ⊢
    obtain ⟨f_97, ef_97⟩ : ∃ z, z = upd f_89 ((10 : Int32)).toNatClampNeg (r_94) := ⟨_, rfl⟩
    rw [← ef_97] at hR
    have h := h f_97 ef_97
    have hR : Rp κ w_94 y X [(q_2, .inl (kT κ 0, (12, .inl (f_97))))] H := hR
    refine lv_dup hx hb dX8_ofLotNow_98 rfl ?_
    refine lv_bipush (v := (11 : Int32)) hx hb dX8_ofLotNow_99 (by decide) ?_
    refine lv_aload_n hx hb dX8_ofLotNow_101 rfl (lv_at hl 1 rfl) ?_
    refine g27_8 hx hb hts hown hK hR l1 q2269 dX8_ofLotNow_102 ?_
    have o_105 := h.1
    have h := h.2
    refine xa_iast hx hb hK.1 hS (hR.LD.2 0 _ rfl) (hR.L 0 _ rfl) 0 rfl o_105 dX8_ofLotNow_105 (fun H1 locs h1 hz ho hS => ?_)
    have hR := hR.putL (t := 0) rfl h1 hz ho
    clear h1 hz ho
    generalize H1 = H at hR hS ⊢
    obtain ⟨f_105, ef_105⟩ : ∃ z, z = upd f_97 ((11 : Int32)).toNatClampNeg (gv w_94 27 a1 8) := ⟨_, rfl⟩
    rw [← ef_105] at hR
    have h := h f_105 ef_105
    have hR : Rp κ w_94 y X [(q_2, .inl (kT κ 0, (12, .inl (f_105))))] H := hR
    refine lv_astore_n (lv' := [(3, .ref (q_2)), (0, .ref (y.2 20 0)), (1, .ref (y.2 27 a1)), (2, .int (p2))]) hx hb dX8_ofLotNow_106 rfl hl (by decide) rfl (fun ls hl => ?_)
    refine lv_aload_n hx hb dX8_ofLotNow_107 rfl (lv_at hl 0 rfl) ?_
    refine lv_iload_n hx hb dX8_ofLotNow_108 rfl (lv_at hl 3 rfl) ?_
    have o_109 := h.1
    have h := h.2
    refine xa_iald hx hb hK.1 (hR.L 0 _ rfl) 0 rfl o_109 dX8_ofLotNow_109 ?_
    have hR := hR.sub (L' := []) [] rfl rfl
    refine W.widen (k := 1) (n := 12) (Nat.le_of_ble_eq_true rfl) (Nat.le_of_ble_eq_true rfl) ?_
    exact W.iret (v := f_105 (p2).toNatClampNeg) hx hb hr (fun t ht hW9 => ⟨⟨f_105 (p2).toNatClampNeg, w_94, rfl, h, rpt ht hR⟩, hS.F ht⟩) hS.2.2 dX8_ofLotNow_110
  · have h := h.2 c_70
    refine lv_aload_n hx hb dX8_ofLotNow_73 rfl (lv_at hl 1 rfl) ?_
    refine g27_7 hx hb hts hown hK hR l1 q2268 dX8_ofLotNow_74 ?_
    refine lv_goto (tgt := 81) hx hb dX8_ofLotNow_77 (by decide) ?_
    have o_81_a := h.1
    have h := h.2
    refine xa_iast hx hb hK.1 hS (hR.LD.2 0 _ rfl) (hR.L 0 _ rfl) 0 rfl o_81_a dX8_ofLotNow_81 (fun H1 locs h1 hz ho hS => ?_)
    have hR := hR.putL (t := 0) rfl h1 hz ho
    clear h1 hz ho
    generalize H1 = H at hR hS ⊢
    obtain ⟨f_81_a, ef_81_a⟩ : ∃ z, z = upd f_61 ((8 : Int32)).toNatClampNeg (gv w_42 27 a1 7) := ⟨_, rfl⟩
    rw [← ef_81_a] at hR
    have h := h f_81_a ef_81_a
    have hR : Rp κ w_42 y X [(q_2, .inl (kT κ 0, (12, .inl (f_81_a))))] H := hR
    refine lv_dup hx hb dX8_ofLotNow_82 rfl ?_
    refine lv_bipush (v := (9 : Int32)) hx hb dX8_ofLotNow_83 (by decide) ?_
    refine lv_aload_n hx hb dX8_ofLotNow_85 rfl (lv_at hl 1 rfl) ?_
    refine g27_9 hx hb hts hown hK hR l1 q2270 dX8_ofLotNow_86 ?_
    have o_89_a := h.1
    have h := h.2
    refine xa_iast hx hb hK.1 hS (hR.LD.2 0 _ rfl) (hR.L 0 _ rfl) 0 rfl o_89_a dX8_ofLotNow_89 (fun H1 locs h1 hz ho hS => ?_)
    have hR := hR.putL (t := 0) rfl h1 hz ho
    clear h1 hz ho
    generalize H1 = H at hR hS ⊢
    obtain ⟨f_89_a, ef_89_a⟩ : ∃ z, z = upd f_81_a ((9 : Int32)).toNatClampNeg (gv w_42 27 a1 9) := ⟨_, rfl⟩
    rw [← ef_89_a] at hR
    have h := h f_89_a ef_89_a
    have hR : Rp κ w_42 y X [(q_2, .inl (kT κ 0, (12, .inl (f_89_a))))] H := hR
    refine lv_dup hx hb dX8_ofLotNow_90 rfl ?_
    refine lv_bipush (v := (10 : Int32)) hx hb dX8_ofLotNow_91 (by decide) ?_
    refine lv_aload_n hx hb dX8_ofLotNow_93 rfl (lv_at hl 1 rfl) ?_
    refine ce_qi (fw := fun u => u) (fy := fun _ => y) (cr_S (n := 1) (As := [.ref (y.2 27 a1)]) (rest := [.int ((10 : Int32)), .ref (q_2), .ref (q_2)]) ⟨hx, hb, hml, hown, hts⟩ hK hR (m_X8_letOnOf hM l1 h) q2348 q2349 q85 q2350 rfl rfl hds_X8_letOnOf ⟨Nat.le_of_ble_eq_true rfl, Nat.le_of_ble_eq_true rfl⟩ rfl rfl hl.1 rfl (lv_room (Nat.le_of_ble_eq_true rfl)) dX8_ofLotNow_94 ⟨(Nat.le_of_ble_eq_true rfl), (Nat.le_of_ble_eq_true rfl)⟩) hR hS (fun r_94_a w_94_a H locs h hR _ hS => ?_)
    have o_97_a := h.1
    have h := h.2
    refine xa_iast hx hb hK.1 hS (hR.LD.2 0 _ rfl) (hR.L 0 _ rfl) 0 rfl o_97_a dX8_ofLotNow_97 (fun H1 locs h1 hz ho hS => ?_)
    have hR := hR.putL (t := 0) rfl h1 hz ho
    clear h1 hz ho
    generalize H1 = H at hR hS ⊢
    obtain ⟨f_97_a, ef_97_a⟩ : ∃ z, z = upd f_89_a ((10 : Int32)).toNatClampNeg (r_94_a) := ⟨_, rfl⟩
    rw [← ef_97_a] at hR
    have h := h f_97_a ef_97_a
    have hR : Rp κ w_94_a y X [(q_2, .inl (kT κ 0, (12, .inl (f_97_a))))] H := hR
    refine lv_dup hx hb dX8_ofLotNow_98 rfl ?_
    refine lv_bipush (v := (11 : Int32)) hx hb dX8_ofLotNow_99 (by decide) ?_
    refine lv_aload_n hx hb dX8_ofLotNow_101 rfl (lv_at hl 1 rfl) ?_
    refine g27_8 hx hb hts hown hK hR l1 q2269 dX8_ofLotNow_102 ?_
    have o_105_a := h.1
    have h := h.2
    refine xa_iast hx hb hK.1 hS (hR.LD.2 0 _ rfl) (hR.L 0 _ rfl) 0 rfl o_105_a dX8_ofLotNow_105 (fun H1 locs h1 hz ho hS => ?_)
    have hR := hR.putL (t := 0) rfl h1 hz ho
    clear h1 hz ho
    generalize H1 = H at hR hS ⊢
    obtain ⟨f_105_a, ef_105_a⟩ : ∃ z, z = upd f_97_a ((11 : Int32)).toNatClampNeg (gv w_94_a 27 a1 8) := ⟨_, rfl⟩
    rw [← ef_105_a] at hR
    have h := h f_105_a ef_105_a
    have hR : Rp κ w_94_a y X [(q_2, .inl (kT κ 0, (12, .inl (f_105_a))))] H := hR
    refine lv_astore_n (lv' := [(3, .ref (q_2)), (0, .ref (y.2 20 0)), (1, .ref (y.2 27 a1)), (2, .int (p2))]) hx hb dX8_ofLotNow_106 rfl hl (by decide) rfl (fun ls hl => ?_)
    refine lv_aload_n hx hb dX8_ofLotNow_107 rfl (lv_at hl 0 rfl) ?_
    refine lv_iload_n hx hb dX8_ofLotNow_108 rfl (lv_at hl 3 rfl) ?_
    have o_109_a := h.1
    have h := h.2
    refine xa_iald hx hb hK.1 (hR.L 0 _ rfl) 0 rfl o_109_a dX8_ofLotNow_109 ?_
    have hR := hR.sub (L' := []) [] rfl rfl
    refine W.widen (k := 1) (n := 12) (Nat.le_of_ble_eq_true rfl) (Nat.le_of_ble_eq_true rfl) ?_
    exact W.iret (v := f_105_a (p2).toNatClampNeg) hx hb hr (fun t ht hW9 => ⟨⟨f_105_a (p2).toNatClampNeg, w_94_a, rfl, h, rpt ht hR⟩, hS.F ht⟩) hS.2.2 dX8_ofLotNow_110
abbrev rm_X8_landNow : Room := { frames := 3, cells := 2, slots := 21, locals := 68 }
def st_X8_landNow_13 (κ : Kx) (y : Ly) (post : Int32 → Wd → Prop) (ex : Wd → (Int32) → (Int32) → Prop) (rec : Wd → Int32 → Int32 → Nat → Int32 → Prop) (v1 : Int32) (w : Wd) (v2 : Int32) (v3 : Int32) (c4 : Nat) (z4 : Int32) : Prop := ((¬ (¬ c4 = mV y)) → (ex w v2 v3)) ∧ (((¬ c4 = mV y)) → (∀ x_42 : Int32, x_42 = v2 + (gv w 21 c4 0) → ((gv w 21 c4 12 = gv w 20 0 12) → (∀ x_62 : Int32, x_62 = v3 + (0 : Int32) → rec w x_42 x_62 (c4 + 1) (nI c4))) ∧ ((¬ (gv w 21 c4 12 = gv w 20 0 12)) → (∀ x_62_a : Int32, x_62_a = v3 + (1 : Int32) → rec w x_42 x_62_a (c4 + 1) (nI c4)))))
def sp_X8_landNow_13 (κ : Kx) (y : Ly) (post : Int32 → Wd → Prop) (ex : Wd → (Int32) → (Int32) → Prop) (v1 : Int32) : Nat → Wd → Int32 → Int32 → Nat → Int32 → Prop
  | 0 => fun _ _ _ _ _ => False
  | n + 1 => fun w v2 v3 c4 z4 => st_X8_landNow_13 κ y post ex (sp_X8_landNow_13 κ y post ex v1 n) v1 w v2 v3 c4 z4
set_option maxHeartbeats 4000000 in
theorem lp_X8_landNow_13 {p : Program} {l : Launch} {e : Env} {s : State} {m : MethodId} {args : Array Value} {below : List Frame} {meth : Method} {c : Code} {κ : Kx} {y : Ly} {X : XR} {post : Int32 → Wd → Prop} {q4 : Nat} {v1 : Int32} (hx : p.tables.exec = Jvm.exec) (hb : c.code = cX8_landNow) (hr : meth.sig.returnType = (Option.some Jvm.ClassFile.FieldType.int)) (hml : c.maxLocals = 6) (hown : s.vm.findClass RX8 = some m.cls) (hts : ∀ w ∈ lw_all, w.before args s = true) (hlocks : meth.locks = false) (hK : KK κ s) (hM : WFm κ y) (l0 : live y 20 0) {C1 S1 : Nat} (hC : C1 ≤ 2) (hSl : S1 ≤ 21) {ex : Wd → (Int32) → (Int32) → Prop}
    (kx : ∀ (w : Wd) (v2 : Int32) (v3 : Int32) (H : Heap) (locs : List Loc) (ls : Array Slot) (cells slots : Nat) , ex w v2 v3 → Rp κ w y X [] H → va_S (Af κ) s.heap H locs → lv_has ls 6 [(0, .ref (y.2 20 0)), (1, .int (v1)), (2, .int (v2)), (3, .int (v3))] → cells ≤ C1 → slots ≤ S1 → W p l e (headSpec (ws_ yX8_landNow cX8_landNow 6 (Option.some Jvm.ClassFile.FieldType.int)) rm_X8_landNow).room s m args below meth c H locs cells slots (MQ below (va_Qi post (fun w t => Rp κ w y X [] t.heap) (Af κ)) args s 2 21 (Af κ)) (F0 m 66 ls [])) :
    ∀ (f : Nat) (w : Wd) (v2 : Int32) (v3 : Int32) (c4 : Nat) (z4 : Int32) (H : Heap) (locs : List Loc) (ls : Array Slot) (cells slots : Nat)  (hc4 : c4 ≤ mV y), sp_X8_landNow_13 κ y post ex v1 f w v2 v3 c4 z4 → Rp κ w y X [(q4, itC y 50 0 c4 z4)] H → va_S (Af κ) s.heap H locs → lv_has ls 6 [(0, .ref (y.2 20 0)), (1, .int (v1)), (2, .int (v2)), (3, .int (v3)), (4, .ref (q4))] → cells + f * 0 ≤ C1 → slots + f * 0 ≤ S1 → W p l e (headSpec (ws_ yX8_landNow cX8_landNow 6 (Option.some Jvm.ClassFile.FieldType.int)) rm_X8_landNow).room s m args below meth c H locs cells slots (MQ below (va_Qi post (fun w t => Rp κ w y X [] t.heap) (Af κ)) args s 2 21 (Af κ)) (F0 m 13 ls []) := by
  intro f
  induction f with
  | zero =>
    intro w v2 v3 c4 z4 H locs ls cells slots hc4 h
    exact False.elim h
  | succ f ih =>
    intro w v2 v3 c4 z4 H locs ls cells slots hc4 h hR hS hl hc hs
    have h : st_X8_landNow_13 κ y post ex (sp_X8_landNow_13 κ y post ex v1 f) v1 w v2 v3 c4 z4 := h
    unfold st_X8_landNow_13 at h
    refine lv_aload hx hb dX8_landNow_13 (lv_at hl 4 rfl) ?_
    refine jr_hasNext (t := 0) ⟨hx, hb, hml, hown, hts⟩ hK hR rfl ⟨fun _ _ _ _ _ => rfl, fun _ _ _ _ _ => rfl⟩ hM.lsV (by omega) (Nat.le_trans hM.mV8 (by decide)) q2250 ⟨Nat.le_of_ble_eq_true rfl, Nat.le_of_ble_eq_true rfl⟩ hl.1 (Nat.le_of_ble_eq_true rfl) dX8_landNow_15 ⟨(Nat.le_trans (show cells + 0 ≤ C1 from by omega) hC), (Nat.le_trans (show slots + 0 ≤ S1 from by omega) hSl)⟩ ?_
    refine lv_if_eq (tgt := 66) hx hb dX8_landNow_20 (by decide) (fun c_20 => ?_) (fun c_20 => ?_)
    · replace c_20 : ¬ (¬ c4 = mV y) := bi_0.mp c_20
      have h := h.1 c_20
      have hR := hR.sub (L' := []) [] rfl rfl
      exact kx w v2 v3 _ _ _ _ _ h hR hS (lv_sub hl [0, 1, 2, 3] rfl) (by omega) (by omega)
    · replace c_20 : (¬ c4 = mV y) := bi_n0.mp c_20
      have h := h.2 c_20
      refine lv_aload hx hb dX8_landNow_23 (lv_at hl 4 rfl) ?_
      have hn_25 : c4 < mV y := by omega
      refine jr_next (t := 0) (a := y.2 21 c4) ⟨hx, hb, hml, hown, hts⟩ hK hR hS rfl ⟨fun _ _ _ _ _ => rfl, fun _ _ _ _ _ => rfl⟩ hM.lsV ⟨hM.arV (Nat.lt_of_le_of_lt (Nat.zero_le _) hn_25), (Nat.le_trans hM.mV8 (by decide))⟩ hn_25 (hM.elV hn_25) q2252 ⟨Nat.le_of_ble_eq_true rfl, Nat.le_of_ble_eq_true rfl⟩ hl.1 (Nat.le_of_ble_eq_true rfl) dX8_landNow_25 ⟨(Nat.le_trans (show cells + 0 ≤ C1 from by omega) hC), (Nat.le_trans (show slots + 0 ≤ S1 from by omega) hSl)⟩ (fun H locs hR hS => ?_)
      have hR : Rp κ w y X [(q4, itC y 50 0 (c4 + 1) (nI c4))] H := hR
      refine jr_castS (ci := 12) hx hb hown hK hts (hR.role (hM.vil hn_25)) rfl q2032 dX8_landNow_30 ?_
      refine lv_astore (lv' := [(5, .ref (y.2 21 c4)), (0, .ref (y.2 20 0)), (1, .int (v1)), (2, .int (v2)), (3, .int (v3)), (4, .ref (q4))]) hx hb dX8_landNow_33 hl (by decide) rfl (fun ls hl => ?_)
      refine lv_iload_n hx hb dX8_landNow_35 rfl (lv_at hl 3 rfl) ?_
      refine lv_aload hx hb dX8_landNow_36 (lv_at hl 0 rfl) ?_
      refine g21_0 hx hb hts hown hK hR (hM.vil hn_25) q2040 dX8_landNow_38 ?_
      refine lv_iadd hx hb dX8_landNow_41 ?_
      refine lv_topi (fun x_42 ex_42 => ?_)
      have h := h x_42 ex_42
      refine lv_istore_n (lv' := [(2, .int (x_42)), (5, .ref (y.2 21 c4)), (0, .ref (y.2 20 0)), (1, .int (v1)), (3, .int (v3)), (4, .ref (q4))]) hx hb dX8_landNow_42 rfl hl (by decide) rfl (fun ls hl => ?_)
      refine lv_iload_n hx hb dX8_landNow_43 rfl (lv_at hl 4 rfl) ?_
      refine lv_aload hx hb dX8_landNow_44 (lv_at hl 1 rfl) ?_
      refine g21_12 hx hb hts hown hK hR (hM.vil hn_25) q2053 dX8_landNow_46 ?_
      refine lv_aload_n hx hb dX8_landNow_49 rfl (lv_at hl 2 rfl) ?_
      refine g20_12 hx hb hts hown hK hR l0 q1957 dX8_landNow_50 ?_
      refine lv_icmp_eq (tgt := 60) hx hb dX8_landNow_53 (by decide) (fun c_53 => ?_) (fun c_53 => ?_)
      · have h := h.1 c_53
        refine lv_iconst (v := (0 : Int32)) hx hb dX8_landNow_60 (by decide) ?_
        refine lv_iadd hx hb dX8_landNow_61 ?_
        refine lv_topi (fun x_62 ex_62 => ?_)
        have h := h x_62 ex_62
        refine lv_istore_n (lv' := [(3, .int (x_62)), (2, .int (x_42)), (5, .ref (y.2 21 c4)), (0, .ref (y.2 20 0)), (1, .int (v1)), (4, .ref (q4))]) hx hb dX8_landNow_62 rfl hl (by decide) rfl (fun ls hl => ?_)
        refine lv_goto (tgt := 13) hx hb dX8_landNow_63 (by decide) ?_
        exact ih w x_42 x_62 (c4 + 1) (nI c4) _ _ _ _ _ (by omega) h hR hS (lv_sub hl [3, 4, 1, 0, 5] rfl) (by omega) (by omega)
      · have h := h.2 c_53
        refine lv_iconst (v := (1 : Int32)) hx hb dX8_landNow_56 (by decide) ?_
        refine lv_goto (tgt := 61) hx hb dX8_landNow_57 (by decide) ?_
        refine lv_iadd hx hb dX8_landNow_61 ?_
        refine lv_topi (fun x_62_a ex_62_a => ?_)
        have h := h x_62_a ex_62_a
        refine lv_istore_n (lv' := [(3, .int (x_62_a)), (2, .int (x_42)), (5, .ref (y.2 21 c4)), (0, .ref (y.2 20 0)), (1, .int (v1)), (4, .ref (q4))]) hx hb dX8_landNow_62 rfl hl (by decide) rfl (fun ls hl => ?_)
        refine lv_goto (tgt := 13) hx hb dX8_landNow_63 (by decide) ?_
        exact ih w x_42 x_62_a (c4 + 1) (nI c4) _ _ _ _ _ (by omega) h hR hS (lv_sub hl [3, 4, 1, 0, 5] rfl) (by omega) (by omega)
def sp_X8_landNow (κ : Kx) (y : Ly) (post : Int32 → Wd → Prop) (w : Wd) (p1 : Int32) : Prop := sp_X8_landNow_13 κ y post (fun w_13 y2_13 y3_13 => (vp_in ((0 : Int32)) 17) ∧ (∀ f_76 : Nat → Int32, f_76 = upd ((fun _ => 0)) ((0 : Int32)).toNatClampNeg (gv w_13 20 0 1) → sp_X8_year κ y (fun r_80 w_80 => (vp_in ((1 : Int32)) 17) ∧ (∀ f_83 : Nat → Int32, f_83 = upd f_76 ((1 : Int32)).toNatClampNeg (r_80) → (vp_in ((2 : Int32)) 17) ∧ (∀ f_90 : Nat → Int32, f_90 = upd f_83 ((2 : Int32)).toNatClampNeg (gv w_80 20 0 2) → (vp_in ((3 : Int32)) 17) ∧ (∀ f_100 : Nat → Int32, f_100 = upd f_90 ((3 : Int32)).toNatClampNeg (nI (mV y)) → (vp_in ((4 : Int32)) 17) ∧ (∀ f_110 : Nat → Int32, f_110 = upd f_100 ((4 : Int32)).toNatClampNeg (nI (mC y)) → (vp_in ((5 : Int32)) 17) ∧ (∀ f_120 : Nat → Int32, f_120 = upd f_110 ((5 : Int32)).toNatClampNeg (nI (mL y)) → (vp_in ((6 : Int32)) 17) ∧ (∀ f_128 : Nat → Int32, f_128 = upd f_120 ((6 : Int32)).toNatClampNeg (gv w_80 20 0 13) → (vp_in ((7 : Int32)) 17) ∧ (∀ f_136 : Nat → Int32, f_136 = upd f_128 ((7 : Int32)).toNatClampNeg (gv w_80 20 0 14) → (vp_in ((8 : Int32)) 17) ∧ (∀ f_144 : Nat → Int32, f_144 = upd f_136 ((8 : Int32)).toNatClampNeg (gv w_80 20 0 15) → (vp_in ((9 : Int32)) 17) ∧ (∀ f_152 : Nat → Int32, f_152 = upd f_144 ((9 : Int32)).toNatClampNeg (gv w_80 20 0 16) → (vp_in ((10 : Int32)) 17) ∧ (∀ f_160 : Nat → Int32, f_160 = upd f_152 ((10 : Int32)).toNatClampNeg (gv w_80 20 0 17) → (vp_in ((11 : Int32)) 17) ∧ (∀ f_168 : Nat → Int32, f_168 = upd f_160 ((11 : Int32)).toNatClampNeg (gv w_80 20 0 18) → (vp_in ((12 : Int32)) 17) ∧ (∀ f_176 : Nat → Int32, f_176 = upd f_168 ((12 : Int32)).toNatClampNeg (gv w_80 20 0 19) → (vp_in ((13 : Int32)) 17) ∧ (∀ f_181 : Nat → Int32, f_181 = upd f_176 ((13 : Int32)).toNatClampNeg (y2_13) → (vp_in ((14 : Int32)) 17) ∧ (∀ f_189 : Nat → Int32, f_189 = upd f_181 ((14 : Int32)).toNatClampNeg (gv w_80 20 0 12) → (vp_in ((15 : Int32)) 17) ∧ (∀ f_194 : Nat → Int32, f_194 = upd f_189 ((15 : Int32)).toNatClampNeg (y3_13) → (vp_in ((16 : Int32)) 17) ∧ (∀ f_202 : Nat → Int32, f_202 = upd f_194 ((16 : Int32)).toNatClampNeg (gv w_80 20 0 21) → (vp_in (p1) 17) ∧ (post (f_202 (p1).toNatClampNeg) w_80)))))))))))))))))) w_13 )) p1 9 w (0 : Int32) (0 : Int32) 0 (-1)
theorem hd_X8_landNow : yX8_landNow.cls = RX8 ∧ yX8_landNow.cls ≠ "java/lang/invoke/MethodHandle" ∧ yX8_landNow.cls ≠ "java/lang/invoke/VarHandle" ∧ (parseMethodDescriptor yX8_landNow.desc).map (fun d => d.parameters.length) = some 1 := by decide +kernel
set_option maxHeartbeats 4000000 in
theorem m_X8_landNow {l : Launch} {κ : Kx} {y : Ly} {X : XR} {post : Int32 → Wd → Prop} {w : Wd} {p1 : Int32}  (hM : WFm κ y) (l0 : live y 20 0) (h : sp_X8_landNow κ y post w p1) : Met l yX8_landNow (ws_ yX8_landNow cX8_landNow 6 (Option.some Jvm.ClassFile.FieldType.int)) rm_X8_landNow (va_Pc [.ref (y.2 20 0), .int (p1)] (RC κ w y X)) (va_Qi post (fun w t => Rp κ w y X [] t.heap) (Af κ)) 2 21 (Af κ) := by
  unfold sp_X8_landNow at h
  refine Met.ofW (cc := cX8_landNow) (maxL := 6) (ret := (Option.some Jvm.ClassFile.FieldType.int)) (by decide) rfl ?_
  intro p e s m args below meth c s₁ B hml hv
  obtain ⟨rfl, hR, hK⟩ := hv
  have hx := B.exec
  have hb := B.bytes
  have hr := B.returns
  have hts := atoms_spec (ws := ws_ yX8_landNow cX8_landNow 6 (Option.some Jvm.ClassFile.FieldType.int)) B.pre
  have hts : ∀ w ∈ lw_all, w.before _ s = true := fun w h => hts w (List.mem_cons_of_mem _ h)
  have hown : s.vm.findClass RX8 = some m.cls := findClass_of_methodNamed B.named
  have hlocks := B.notSynchronized
  have hS : va_S (Af κ) s.heap s.heap [] := va_S.rf
  have hl := lv_entry ([.ref (y.2 20 0), .int (p1)]) (n := 6) (Nat.le_of_ble_eq_true rfl)
  rw [lg_entry_eq]
  generalize (lg_sl ([.ref (y.2 20 0), .int (p1)]) ++ List.replicate (6 - (lg_sl ([.ref (y.2 20 0), .int (p1)])).length) Slot.unset).toArray = ls at hl ⊢
  have hl : lv_has ls 6 [(0, .ref (y.2 20 0)), (1, .int (p1))] := hl
  refine lv_iconst (v := (0 : Int32)) hx hb dX8_landNow_0 (by decide) ?_
  refine lv_istore_n (lv' := [(2, .int ((0 : Int32))), (0, .ref (y.2 20 0)), (1, .int (p1))]) hx hb dX8_landNow_1 rfl hl (by decide) rfl (fun ls hl => ?_)
  refine lv_iconst (v := (0 : Int32)) hx hb dX8_landNow_2 (by decide) ?_
  refine lv_istore_n (lv' := [(3, .int ((0 : Int32))), (2, .int ((0 : Int32))), (0, .ref (y.2 20 0)), (1, .int (p1))]) hx hb dX8_landNow_3 rfl hl (by decide) rfl (fun ls hl => ?_)
  refine lv_aload_n hx hb dX8_landNow_4 rfl (lv_at hl 2 rfl) ?_
  refine g20_3 hx hb hts hown hK hR l0 q1948 dX8_landNow_5 ?_
  refine jr_iter ⟨hx, hb, hml, hown, hts⟩ hK hR hS ⟨fun _ _ _ _ _ => rfl, fun _ _ _ _ _ => rfl⟩ hM.lsV q2248 ⟨Nat.le_of_ble_eq_true rfl, Nat.le_of_ble_eq_true rfl⟩ hl.1 (Nat.le_of_ble_eq_true rfl) dX8_landNow_8 ⟨(Nat.le_of_ble_eq_true rfl), (Nat.le_of_ble_eq_true rfl)⟩ (fun q_8 H locs hR hS => ?_)
  have hR : Rp κ w y X [(q_8, itC y 50 0 0 (-1))] H := hR
  refine lv_astore (lv' := [(4, .ref (q_8)), (3, .int ((0 : Int32))), (2, .int ((0 : Int32))), (0, .ref (y.2 20 0)), (1, .int (p1))]) hx hb dX8_landNow_11 hl (by decide) rfl (fun ls hl => ?_)
  refine lp_X8_landNow_13 (C1 := 1) (S1 := 4) hx hb hr hml hown hts hlocks hK hM l0 (Nat.le_of_ble_eq_true rfl) (Nat.le_of_ble_eq_true rfl) (fun w_13 y2_13 y3_13 H locs ls cells9 slots9 h hR hS hl hc9 hs9 => ?_) 9 w (0 : Int32) (0 : Int32) 0 (-1) _ _ _ _ _ (by omega) h hR hS (lv_sub hl [3, 4, 2, 1, 0] rfl) (by omega) (by omega)
  refine W.widen (k := 1) (n := 4) hc9 hs9 ?_
  refine lv_bipush (v := (17 : Int32)) hx hb dX8_landNow_66 (by decide) ?_
  refine xa_newa (ty := .int) (N' := 17) (a0 := (17, .inl (fun _ => 0))) hx hb hts q995 rfl hK.1 0 rfl (by intro C h9; cases h9) hS rfl (by decide) (by decide) (by decide) (Nat.le_of_ble_eq_true rfl) (Nat.le_of_ble_eq_true rfl) dX8_landNow_68 (fun q_68 H1 hq h1 hz ho hS => ?_)
  have hR := hR.newL hq h1 (by omega) ho
  clear hq h1 hz ho
  generalize H1 = H at hR hS ⊢
  have hR : Rp κ w_13 y X [(q_68, .inl (kT κ 0, (17, .inl ((fun _ => 0)))))] H := hR
  refine lv_dup hx hb dX8_landNow_70 rfl ?_
  refine lv_iconst (v := (0 : Int32)) hx hb dX8_landNow_71 (by decide) ?_
  refine lv_aload_n hx hb dX8_landNow_72 rfl (lv_at hl 0 rfl) ?_
  refine g20_1 hx hb hts hown hK hR l0 q1946 dX8_landNow_73 ?_
  have o_76 := h.1
  have h := h.2
  refine xa_iast hx hb hK.1 hS (hR.LD.2 0 _ rfl) (hR.L 0 _ rfl) 0 rfl o_76 dX8_landNow_76 (fun H1 locs h1 hz ho hS => ?_)
  have hR := hR.putL (t := 0) rfl h1 hz ho
  clear h1 hz ho
  generalize H1 = H at hR hS ⊢
  obtain ⟨f_76, ef_76⟩ : ∃ z, z = upd ((fun _ => 0)) ((0 : Int32)).toNatClampNeg (gv w_13 20 0 1) := ⟨_, rfl⟩
  rw [← ef_76] at hR
  have h := h f_76 ef_76
  have hR : Rp κ w_13 y X [(q_68, .inl (kT κ 0, (17, .inl (f_76))))] H := hR
  refine lv_dup hx hb dX8_landNow_77 rfl ?_
  refine lv_iconst (v := (1 : Int32)) hx hb dX8_landNow_78 (by decide) ?_
  refine lv_aload_n hx hb dX8_landNow_79 rfl (lv_at hl 0 rfl) ?_
  refine ce_qi (fw := fun u => u) (fy := fun _ => y) (cr_V (n := 0) (As := []) (rest := [.int ((1 : Int32)), .ref (q_68), .ref (q_68)]) ⟨hx, hb, hml, hown, hts⟩ hK hR (m_X8_year hM l0 h) q2359 q2361 qs50 q85 q2362 rfl rfl hd_X8_year ⟨Nat.le_of_ble_eq_true rfl, Nat.le_of_ble_eq_true rfl⟩ (rv hK hR l0 (ci := 11) rfl rfl) rfl rfl hl.1 rfl (lv_room (Nat.le_of_ble_eq_true rfl)) dX8_landNow_80 ⟨(Nat.le_of_ble_eq_true rfl), (Nat.le_of_ble_eq_true rfl)⟩) hR hS (fun r_80 w_80 H locs h hR _ hS => ?_)
  have o_83 := h.1
  have h := h.2
  refine xa_iast hx hb hK.1 hS (hR.LD.2 0 _ rfl) (hR.L 0 _ rfl) 0 rfl o_83 dX8_landNow_83 (fun H1 locs h1 hz ho hS => ?_)
  have hR := hR.putL (t := 0) rfl h1 hz ho
  clear h1 hz ho
  generalize H1 = H at hR hS ⊢
  obtain ⟨f_83, ef_83⟩ : ∃ z, z = upd f_76 ((1 : Int32)).toNatClampNeg (r_80) := ⟨_, rfl⟩
  rw [← ef_83] at hR
  have h := h f_83 ef_83
  have hR : Rp κ w_80 y X [(q_68, .inl (kT κ 0, (17, .inl (f_83))))] H := hR
  refine lv_dup hx hb dX8_landNow_84 rfl ?_
  refine lv_iconst (v := (2 : Int32)) hx hb dX8_landNow_85 (by decide) ?_
  refine lv_aload_n hx hb dX8_landNow_86 rfl (lv_at hl 0 rfl) ?_
  refine g20_2 hx hb hts hown hK hR l0 q1947 dX8_landNow_87 ?_
  have o_90 := h.1
  have h := h.2
  refine xa_iast hx hb hK.1 hS (hR.LD.2 0 _ rfl) (hR.L 0 _ rfl) 0 rfl o_90 dX8_landNow_90 (fun H1 locs h1 hz ho hS => ?_)
  have hR := hR.putL (t := 0) rfl h1 hz ho
  clear h1 hz ho
  generalize H1 = H at hR hS ⊢
  obtain ⟨f_90, ef_90⟩ : ∃ z, z = upd f_83 ((2 : Int32)).toNatClampNeg (gv w_80 20 0 2) := ⟨_, rfl⟩
  rw [← ef_90] at hR
  have h := h f_90 ef_90
  have hR : Rp κ w_80 y X [(q_68, .inl (kT κ 0, (17, .inl (f_90))))] H := hR
  refine lv_dup hx hb dX8_landNow_91 rfl ?_
  refine lv_iconst (v := (3 : Int32)) hx hb dX8_landNow_92 (by decide) ?_
  refine lv_aload_n hx hb dX8_landNow_93 rfl (lv_at hl 0 rfl) ?_
  refine g20_3 hx hb hts hown hK hR l0 q1948 dX8_landNow_94 ?_
  refine jr_size ⟨hx, hb, hml, hown, hts⟩ hK hR ⟨fun _ _ _ _ _ => rfl, fun _ _ _ _ _ => rfl⟩ hM.lsV q2031 ⟨Nat.le_of_ble_eq_true rfl, Nat.le_of_ble_eq_true rfl⟩ hl.1 (Nat.le_of_ble_eq_true rfl) dX8_landNow_97 ⟨(Nat.le_of_ble_eq_true rfl), (Nat.le_of_ble_eq_true rfl)⟩ ?_
  have o_100 := h.1
  have h := h.2
  refine xa_iast hx hb hK.1 hS (hR.LD.2 0 _ rfl) (hR.L 0 _ rfl) 0 rfl o_100 dX8_landNow_100 (fun H1 locs h1 hz ho hS => ?_)
  have hR := hR.putL (t := 0) rfl h1 hz ho
  clear h1 hz ho
  generalize H1 = H at hR hS ⊢
  obtain ⟨f_100, ef_100⟩ : ∃ z, z = upd f_90 ((3 : Int32)).toNatClampNeg (nI (mV y)) := ⟨_, rfl⟩
  rw [← ef_100] at hR
  have h := h f_100 ef_100
  have hR : Rp κ w_80 y X [(q_68, .inl (kT κ 0, (17, .inl (f_100))))] H := hR
  refine lv_dup hx hb dX8_landNow_101 rfl ?_
  refine lv_iconst (v := (4 : Int32)) hx hb dX8_landNow_102 (by decide) ?_
  refine lv_aload_n hx hb dX8_landNow_103 rfl (lv_at hl 0 rfl) ?_
  refine g20_4 hx hb hts hown hK hR l0 q1949 dX8_landNow_104 ?_
  refine jr_size ⟨hx, hb, hml, hown, hts⟩ hK hR ⟨fun _ _ _ _ _ => rfl, fun _ _ _ _ _ => rfl⟩ hM.lsC q2031 ⟨Nat.le_of_ble_eq_true rfl, Nat.le_of_ble_eq_true rfl⟩ hl.1 (Nat.le_of_ble_eq_true rfl) dX8_landNow_107 ⟨(Nat.le_of_ble_eq_true rfl), (Nat.le_of_ble_eq_true rfl)⟩ ?_
  have o_110 := h.1
  have h := h.2
  refine xa_iast hx hb hK.1 hS (hR.LD.2 0 _ rfl) (hR.L 0 _ rfl) 0 rfl o_110 dX8_landNow_110 (fun H1 locs h1 hz ho hS => ?_)
  have hR := hR.putL (t := 0) rfl h1 hz ho
  clear h1 hz ho
  generalize H1 = H at hR hS ⊢
  obtain ⟨f_110, ef_110⟩ : ∃ z, z = upd f_100 ((4 : Int32)).toNatClampNeg (nI (mC y)) := ⟨_, rfl⟩
  rw [← ef_110] at hR
  have h := h f_110 ef_110
  have hR : Rp κ w_80 y X [(q_68, .inl (kT κ 0, (17, .inl (f_110))))] H := hR
  refine lv_dup hx hb dX8_landNow_111 rfl ?_
  refine lv_iconst (v := (5 : Int32)) hx hb dX8_landNow_112 (by decide) ?_
  refine lv_aload_n hx hb dX8_landNow_113 rfl (lv_at hl 0 rfl) ?_
  refine g20_5 hx hb hts hown hK hR l0 q1950 dX8_landNow_114 ?_
  refine jr_size ⟨hx, hb, hml, hown, hts⟩ hK hR ⟨fun _ _ _ _ _ => rfl, fun _ _ _ _ _ => rfl⟩ hM.lsL q2031 ⟨Nat.le_of_ble_eq_true rfl, Nat.le_of_ble_eq_true rfl⟩ hl.1 (Nat.le_of_ble_eq_true rfl) dX8_landNow_117 ⟨(Nat.le_of_ble_eq_true rfl), (Nat.le_of_ble_eq_true rfl)⟩ ?_
  have o_120 := h.1
  have h := h.2
  refine xa_iast hx hb hK.1 hS (hR.LD.2 0 _ rfl) (hR.L 0 _ rfl) 0 rfl o_120 dX8_landNow_120 (fun H1 locs h1 hz ho hS => ?_)
  have hR := hR.putL (t := 0) rfl h1 hz ho
  clear h1 hz ho
  generalize H1 = H at hR hS ⊢
  obtain ⟨f_120, ef_120⟩ : ∃ z, z = upd f_110 ((5 : Int32)).toNatClampNeg (nI (mL y)) := ⟨_, rfl⟩
  rw [← ef_120] at hR
  have h := h f_120 ef_120
  have hR : Rp κ w_80 y X [(q_68, .inl (kT κ 0, (17, .inl (f_120))))] H := hR
  refine lv_dup hx hb dX8_landNow_121 rfl ?_
  refine lv_bipush (v := (6 : Int32)) hx hb dX8_landNow_122 (by decide) ?_
  refine lv_aload_n hx hb dX8_landNow_124 rfl (lv_at hl 0 rfl) ?_
  refine g20_13 hx hb hts hown hK hR l0 q1958 dX8_landNow_125 ?_
  have o_128 := h.1
  have h := h.2
  refine xa_iast hx hb hK.1 hS (hR.LD.2 0 _ rfl) (hR.L 0 _ rfl) 0 rfl o_128 dX8_landNow_128 (fun H1 locs h1 hz ho hS => ?_)
  have hR := hR.putL (t := 0) rfl h1 hz ho
  clear h1 hz ho
  generalize H1 = H at hR hS ⊢
  obtain ⟨f_128, ef_128⟩ : ∃ z, z = upd f_120 ((6 : Int32)).toNatClampNeg (gv w_80 20 0 13) := ⟨_, rfl⟩
  rw [← ef_128] at hR
  have h := h f_128 ef_128
  have hR : Rp κ w_80 y X [(q_68, .inl (kT κ 0, (17, .inl (f_128))))] H := hR
  refine lv_dup hx hb dX8_landNow_129 rfl ?_
  refine lv_bipush (v := (7 : Int32)) hx hb dX8_landNow_130 (by decide) ?_
  refine lv_aload_n hx hb dX8_landNow_132 rfl (lv_at hl 0 rfl) ?_
  refine g20_14 hx hb hts hown hK hR l0 q1959 dX8_landNow_133 ?_
  have o_136 := h.1
  have h := h.2
  refine xa_iast hx hb hK.1 hS (hR.LD.2 0 _ rfl) (hR.L 0 _ rfl) 0 rfl o_136 dX8_landNow_136 (fun H1 locs h1 hz ho hS => ?_)
  have hR := hR.putL (t := 0) rfl h1 hz ho
  clear h1 hz ho
  generalize H1 = H at hR hS ⊢
  obtain ⟨f_136, ef_136⟩ : ∃ z, z = upd f_128 ((7 : Int32)).toNatClampNeg (gv w_80 20 0 14) := ⟨_, rfl⟩
  rw [← ef_136] at hR
  have h := h f_136 ef_136
  have hR : Rp κ w_80 y X [(q_68, .inl (kT κ 0, (17, .inl (f_136))))] H := hR
  refine lv_dup hx hb dX8_landNow_137 rfl ?_
  refine lv_bipush (v := (8 : Int32)) hx hb dX8_landNow_138 (by decide) ?_
  refine lv_aload_n hx hb dX8_landNow_140 rfl (lv_at hl 0 rfl) ?_
  refine g20_15 hx hb hts hown hK hR l0 q1960 dX8_landNow_141 ?_
  have o_144 := h.1
  have h := h.2
  refine xa_iast hx hb hK.1 hS (hR.LD.2 0 _ rfl) (hR.L 0 _ rfl) 0 rfl o_144 dX8_landNow_144 (fun H1 locs h1 hz ho hS => ?_)
  have hR := hR.putL (t := 0) rfl h1 hz ho
  clear h1 hz ho
  generalize H1 = H at hR hS ⊢
  obtain ⟨f_144, ef_144⟩ : ∃ z, z = upd f_136 ((8 : Int32)).toNatClampNeg (gv w_80 20 0 15) := ⟨_, rfl⟩
  rw [← ef_144] at hR
  have h := h f_144 ef_144
  have hR : Rp κ w_80 y X [(q_68, .inl (kT κ 0, (17, .inl (f_144))))] H := hR
  refine lv_dup hx hb dX8_landNow_145 rfl ?_
  refine lv_bipush (v := (9 : Int32)) hx hb dX8_landNow_146 (by decide) ?_
  refine lv_aload_n hx hb dX8_landNow_148 rfl (lv_at hl 0 rfl) ?_
  refine g20_16 hx hb hts hown hK hR l0 q1961 dX8_landNow_149 ?_
  have o_152 := h.1
  have h := h.2
  refine xa_iast hx hb hK.1 hS (hR.LD.2 0 _ rfl) (hR.L 0 _ rfl) 0 rfl o_152 dX8_landNow_152 (fun H1 locs h1 hz ho hS => ?_)
  have hR := hR.putL (t := 0) rfl h1 hz ho
  clear h1 hz ho
  generalize H1 = H at hR hS ⊢
  obtain ⟨f_152, ef_152⟩ : ∃ z, z = upd f_144 ((9 : Int32)).toNatClampNeg (gv w_80 20 0 16) := ⟨_, rfl⟩
  rw [← ef_152] at hR
  have h := h f_152 ef_152
  have hR : Rp κ w_80 y X [(q_68, .inl (kT κ 0, (17, .inl (f_152))))] H := hR
  refine lv_dup hx hb dX8_landNow_153 rfl ?_
  refine lv_bipush (v := (10 : Int32)) hx hb dX8_landNow_154 (by decide) ?_
  refine lv_aload_n hx hb dX8_landNow_156 rfl (lv_at hl 0 rfl) ?_
  refine g20_17 hx hb hts hown hK hR l0 q1962 dX8_landNow_157 ?_
  have o_160 := h.1
  have h := h.2
  refine xa_iast hx hb hK.1 hS (hR.LD.2 0 _ rfl) (hR.L 0 _ rfl) 0 rfl o_160 dX8_landNow_160 (fun H1 locs h1 hz ho hS => ?_)
  have hR := hR.putL (t := 0) rfl h1 hz ho
  clear h1 hz ho
  generalize H1 = H at hR hS ⊢
  obtain ⟨f_160, ef_160⟩ : ∃ z, z = upd f_152 ((10 : Int32)).toNatClampNeg (gv w_80 20 0 17) := ⟨_, rfl⟩
  rw [← ef_160] at hR
  have h := h f_160 ef_160
  have hR : Rp κ w_80 y X [(q_68, .inl (kT κ 0, (17, .inl (f_160))))] H := hR
  refine lv_dup hx hb dX8_landNow_161 rfl ?_
  refine lv_bipush (v := (11 : Int32)) hx hb dX8_landNow_162 (by decide) ?_
  refine lv_aload_n hx hb dX8_landNow_164 rfl (lv_at hl 0 rfl) ?_
  refine g20_18 hx hb hts hown hK hR l0 q1963 dX8_landNow_165 ?_
  have o_168 := h.1
  have h := h.2
  refine xa_iast hx hb hK.1 hS (hR.LD.2 0 _ rfl) (hR.L 0 _ rfl) 0 rfl o_168 dX8_landNow_168 (fun H1 locs h1 hz ho hS => ?_)
  have hR := hR.putL (t := 0) rfl h1 hz ho
  clear h1 hz ho
  generalize H1 = H at hR hS ⊢
  obtain ⟨f_168, ef_168⟩ : ∃ z, z = upd f_160 ((11 : Int32)).toNatClampNeg (gv w_80 20 0 18) := ⟨_, rfl⟩
  rw [← ef_168] at hR
  have h := h f_168 ef_168
  have hR : Rp κ w_80 y X [(q_68, .inl (kT κ 0, (17, .inl (f_168))))] H := hR
  refine lv_dup hx hb dX8_landNow_169 rfl ?_
  refine lv_bipush (v := (12 : Int32)) hx hb dX8_landNow_170 (by decide) ?_
  refine lv_aload_n hx hb dX8_landNow_172 rfl (lv_at hl 0 rfl) ?_
  refine g20_19 hx hb hts hown hK hR l0 q1964 dX8_landNow_173 ?_
  have o_176 := h.1
  have h := h.2
  refine xa_iast hx hb hK.1 hS (hR.LD.2 0 _ rfl) (hR.L 0 _ rfl) 0 rfl o_176 dX8_landNow_176 (fun H1 locs h1 hz ho hS => ?_)
  have hR := hR.putL (t := 0) rfl h1 hz ho
  clear h1 hz ho
  generalize H1 = H at hR hS ⊢
  obtain ⟨f_176, ef_176⟩ : ∃ z, z = upd f_168 ((12 : Int32)).toNatClampNeg (gv w_80 20 0 19) := ⟨_, rfl⟩
  rw [← ef_176] at hR
  have h := h f_176 ef_176
  have hR : Rp κ w_80 y X [(q_68, .inl (kT κ 0, (17, .inl (f_176))))] H := hR
  refine lv_dup hx hb dX8_landNow_177 rfl ?_
  refine lv_bipush (v := (13 : Int32)) hx hb dX8_landNow_178 (by decide) ?_
  refine lv_iload_n hx hb dX8_landNow_180 rfl (lv_at hl 2 rfl) ?_
  have o_181 := h.1
  have h := h.2
  refine xa_iast hx hb hK.1 hS (hR.LD.2 0 _ rfl) (hR.L 0 _ rfl) 0 rfl o_181 dX8_landNow_181 (fun H1 locs h1 hz ho hS => ?_)
  have hR := hR.putL (t := 0) rfl h1 hz ho
  clear h1 hz ho
  generalize H1 = H at hR hS ⊢
  obtain ⟨f_181, ef_181⟩ : ∃ z, z = upd f_176 ((13 : Int32)).toNatClampNeg (y2_13) := ⟨_, rfl⟩
  rw [← ef_181] at hR
  have h := h f_181 ef_181
  have hR : Rp κ w_80 y X [(q_68, .inl (kT κ 0, (17, .inl (f_181))))] H := hR
  refine lv_dup hx hb dX8_landNow_182 rfl ?_
  refine lv_bipush (v := (14 : Int32)) hx hb dX8_landNow_183 (by decide) ?_
  refine lv_aload_n hx hb dX8_landNow_185 rfl (lv_at hl 0 rfl) ?_
  refine g20_12 hx hb hts hown hK hR l0 q1957 dX8_landNow_186 ?_
  have o_189 := h.1
  have h := h.2
  refine xa_iast hx hb hK.1 hS (hR.LD.2 0 _ rfl) (hR.L 0 _ rfl) 0 rfl o_189 dX8_landNow_189 (fun H1 locs h1 hz ho hS => ?_)
  have hR := hR.putL (t := 0) rfl h1 hz ho
  clear h1 hz ho
  generalize H1 = H at hR hS ⊢
  obtain ⟨f_189, ef_189⟩ : ∃ z, z = upd f_181 ((14 : Int32)).toNatClampNeg (gv w_80 20 0 12) := ⟨_, rfl⟩
  rw [← ef_189] at hR
  have h := h f_189 ef_189
  have hR : Rp κ w_80 y X [(q_68, .inl (kT κ 0, (17, .inl (f_189))))] H := hR
  refine lv_dup hx hb dX8_landNow_190 rfl ?_
  refine lv_bipush (v := (15 : Int32)) hx hb dX8_landNow_191 (by decide) ?_
  refine lv_iload_n hx hb dX8_landNow_193 rfl (lv_at hl 3 rfl) ?_
  have o_194 := h.1
  have h := h.2
  refine xa_iast hx hb hK.1 hS (hR.LD.2 0 _ rfl) (hR.L 0 _ rfl) 0 rfl o_194 dX8_landNow_194 (fun H1 locs h1 hz ho hS => ?_)
  have hR := hR.putL (t := 0) rfl h1 hz ho
  clear h1 hz ho
  generalize H1 = H at hR hS ⊢
  obtain ⟨f_194, ef_194⟩ : ∃ z, z = upd f_189 ((15 : Int32)).toNatClampNeg (y3_13) := ⟨_, rfl⟩
  rw [← ef_194] at hR
  have h := h f_194 ef_194
  have hR : Rp κ w_80 y X [(q_68, .inl (kT κ 0, (17, .inl (f_194))))] H := hR
  refine lv_dup hx hb dX8_landNow_195 rfl ?_
  refine lv_bipush (v := (16 : Int32)) hx hb dX8_landNow_196 (by decide) ?_
  refine lv_aload_n hx hb dX8_landNow_198 rfl (lv_at hl 0 rfl) ?_
  refine g20_21 hx hb hts hown hK hR l0 q1966 dX8_landNow_199 ?_
  have o_202 := h.1
  have h := h.2
  refine xa_iast hx hb hK.1 hS (hR.LD.2 0 _ rfl) (hR.L 0 _ rfl) 0 rfl o_202 dX8_landNow_202 (fun H1 locs h1 hz ho hS => ?_)
  have hR := hR.putL (t := 0) rfl h1 hz ho
  clear h1 hz ho
  generalize H1 = H at hR hS ⊢
  obtain ⟨f_202, ef_202⟩ : ∃ z, z = upd f_194 ((16 : Int32)).toNatClampNeg (gv w_80 20 0 21) := ⟨_, rfl⟩
  rw [← ef_202] at hR
  have h := h f_202 ef_202
  have hR : Rp κ w_80 y X [(q_68, .inl (kT κ 0, (17, .inl (f_202))))] H := hR
  refine lv_astore (lv' := [(4, .ref (q_68)), (0, .ref (y.2 20 0)), (1, .int (p1)), (2, .int (y2_13)), (3, .int (y3_13))]) hx hb dX8_landNow_203 hl (by decide) rfl (fun ls hl => ?_)
  refine lv_aload hx hb dX8_landNow_205 (lv_at hl 0 rfl) ?_
  refine lv_iload_n hx hb dX8_landNow_207 rfl (lv_at hl 2 rfl) ?_
  have o_208 := h.1
  have h := h.2
  refine xa_iald hx hb hK.1 (hR.L 0 _ rfl) 0 rfl o_208 dX8_landNow_208 ?_
  have hR := hR.sub (L' := []) [] rfl rfl
  refine W.widen (k := 2) (n := 21) (Nat.le_of_ble_eq_true rfl) (Nat.le_of_ble_eq_true rfl) ?_
  exact W.iret (v := f_202 (p1).toNatClampNeg) hx hb hr (fun t ht hW9 => ⟨⟨f_202 (p1).toNatClampNeg, w_80, rfl, h, rpt ht hR⟩, hS.F ht⟩) hS.2.2 dX8_landNow_209
abbrev rm_X8_gainNow : Room := { frames := 3, cells := 0, slots := 0, locals := 93 }
def sp_X8_gainNow (κ : Kx) (y : Ly) (post : UInt64 → Wd → Prop) (w : Wd) (p1 : Int32) : Prop := (vp_in (p1) (mC y)) ∧ (((¬ gv w 26 (((p1).toNatClampNeg)) 8 = 0) → ((vf_n64 (FP.ddiv (FP.i2d (gv w 26 (((p1).toNatClampNeg)) 7)) (FP.i2d (gv w 26 (((p1).toNatClampNeg)) 8)))) ∧ (post (FP.ddiv (FP.i2d (gv w 26 (((p1).toNatClampNeg)) 7)) (FP.i2d (gv w 26 (((p1).toNatClampNeg)) 8))) w))) ∧ ((gv w 26 (((p1).toNatClampNeg)) 8 = 0) → (post (FP.dconst0) w)))
theorem hd_X8_gainNow : yX8_gainNow.cls = RX8 ∧ yX8_gainNow.cls ≠ "java/lang/invoke/MethodHandle" ∧ yX8_gainNow.cls ≠ "java/lang/invoke/VarHandle" ∧ (parseMethodDescriptor yX8_gainNow.desc).map (fun d => d.parameters.length) = some 1 := by decide +kernel
set_option maxHeartbeats 4000000 in
theorem m_X8_gainNow {l : Launch} {κ : Kx} {y : Ly} {X : XR} {post : UInt64 → Wd → Prop} {w : Wd} {p1 : Int32}  (hM : WFm κ y) (l0 : live y 20 0) (h : sp_X8_gainNow κ y post w p1) : Met l yX8_gainNow (ws_ yX8_gainNow cX8_gainNow 3 (Option.some Jvm.ClassFile.FieldType.double)) rm_X8_gainNow (va_Pc [.ref (y.2 20 0), .int (p1)] (RC κ w y X)) (va_Qd post (fun w t => Rp κ w y X [] t.heap) (Af κ)) 0 0 (Af κ) := by
  unfold sp_X8_gainNow at h
  refine Met.ofW (cc := cX8_gainNow) (maxL := 3) (ret := (Option.some Jvm.ClassFile.FieldType.double)) (by decide) rfl ?_
  intro p e s m args below meth c s₁ B hml hv
  obtain ⟨rfl, hR, hK⟩ := hv
  have hx := B.exec
  have hb := B.bytes
  have hr := B.returns
  have hts := atoms_spec (ws := ws_ yX8_gainNow cX8_gainNow 3 (Option.some Jvm.ClassFile.FieldType.double)) B.pre
  have hts : ∀ w ∈ lw_all, w.before _ s = true := fun w h => hts w (List.mem_cons_of_mem _ h)
  have hown : s.vm.findClass RX8 = some m.cls := findClass_of_methodNamed B.named
  have hlocks := B.notSynchronized
  have hS : va_S (Af κ) s.heap s.heap [] := va_S.rf
  have hl := lv_entry ([.ref (y.2 20 0), .int (p1)]) (n := 3) (Nat.le_of_ble_eq_true rfl)
  rw [lg_entry_eq]
  generalize (lg_sl ([.ref (y.2 20 0), .int (p1)]) ++ List.replicate (3 - (lg_sl ([.ref (y.2 20 0), .int (p1)])).length) Slot.unset).toArray = ls at hl ⊢
  have hl : lv_has ls 3 [(0, .ref (y.2 20 0)), (1, .int (p1))] := hl
  refine lv_aload_n hx hb dX8_gainNow_0 rfl (lv_at hl 0 rfl) ?_
  refine g20_4 hx hb hts hown hK hR l0 q1949 dX8_gainNow_1 ?_
  refine lv_iload_n hx hb dX8_gainNow_4 rfl (lv_at hl 1 rfl) ?_
  have o_5 := h.1
  have h := h.2
  refine jr_get (a := y.2 26 ((p1).toNatClampNeg)) ⟨hx, hb, hml, hown, hts⟩ hK hR ⟨fun _ _ _ _ _ => rfl, fun _ _ _ _ _ => rfl⟩ hM.lsC ⟨hM.arC (Nat.lt_of_le_of_lt (Nat.zero_le _) (vp_lt o_5)), (Nat.le_trans hM.mC4 (by decide))⟩ o_5 (hM.elC (vp_lt o_5)) q2101 ⟨Nat.le_of_ble_eq_true rfl, Nat.le_of_ble_eq_true rfl⟩ hl.1 (Nat.le_of_ble_eq_true rfl) dX8_gainNow_5 ⟨(Nat.le_of_ble_eq_true rfl), (Nat.le_of_ble_eq_true rfl)⟩ ?_
  refine jr_castS (ci := 13) hx hb hown hK hts (hR.role (hM.com (vp_lt o_5))) rfl q2141 dX8_gainNow_8 ?_
  refine lv_astore_n (lv' := [(2, .ref (y.2 26 ((p1).toNatClampNeg))), (0, .ref (y.2 20 0)), (1, .int (p1))]) hx hb dX8_gainNow_11 rfl hl (by decide) rfl (fun ls hl => ?_)
  refine lv_aload_n hx hb dX8_gainNow_12 rfl (lv_at hl 0 rfl) ?_
  refine g26_8 hx hb hts hown hK hR (hM.com (vp_lt o_5)) q2157 dX8_gainNow_13 ?_
  refine lv_if_ne (tgt := 23) hx hb dX8_gainNow_16 (by decide) (fun c_16 => ?_) (fun c_16 => ?_)
  · have h := h.1 c_16
    refine lv_aload_n hx hb dX8_gainNow_23 rfl (lv_at hl 0 rfl) ?_
    refine g26_7 hx hb hts hown hK hR (hM.com (vp_lt o_5)) q2156 dX8_gainNow_24 ?_
    refine lv_i2d hx hb dX8_gainNow_27 ?_
    refine lv_aload_n hx hb dX8_gainNow_28 rfl (lv_at hl 0 rfl) ?_
    refine g26_8 hx hb hts hown hK hR (hM.com (vp_lt o_5)) q2157 dX8_gainNow_29 ?_
    refine lv_i2d hx hb dX8_gainNow_32 ?_
    have o_33 := h.1
    have h := h.2
    refine lv_ddiv hx hb dX8_gainNow_33 o_33 ?_
    refine W.widen (k := 0) (n := 0) (Nat.le_of_ble_eq_true rfl) (Nat.le_of_ble_eq_true rfl) ?_
    exact W.dret (v := FP.ddiv (FP.i2d (gv w 26 (((p1).toNatClampNeg)) 7)) (FP.i2d (gv w 26 (((p1).toNatClampNeg)) 8))) hx hb hr (fun t ht hW9 => ⟨⟨FP.ddiv (FP.i2d (gv w 26 (((p1).toNatClampNeg)) 7)) (FP.i2d (gv w 26 (((p1).toNatClampNeg)) 8)), w, rfl, h, rpt ht hR⟩, hS.F ht⟩) hS.2.2 dX8_gainNow_34
  · have h := h.2 c_16
    refine lv_dconst0 hx hb dX8_gainNow_19 ?_
    refine lv_goto (tgt := 34) hx hb dX8_gainNow_20 (by decide) ?_
    refine W.widen (k := 0) (n := 0) (Nat.le_of_ble_eq_true rfl) (Nat.le_of_ble_eq_true rfl) ?_
    exact W.dret (v := FP.dconst0) hx hb hr (fun t ht hW9 => ⟨⟨FP.dconst0, w, rfl, h, rpt ht hR⟩, hS.F ht⟩) hS.2.2 dX8_gainNow_34
abbrev rm_X8_start : Room := { frames := 1, cells := 0, slots := 0, locals := 22 }
def sp_X8_start (κ : Kx) (y : Ly) (post : Int32 → Wd → Prop) (w : Wd) (p1 : Int32) (p2 : Int32) : Prop := ∀ w_2 : Wd, w_2 = sv w 20 0 0 ((0 : Int32)) → sp_X8_refuse κ y (fun r_8 w_8 => (nbo (r_8)) ∧ (post (r_8) w_8)) w_2 p1 p2
theorem hd_X8_start : yX8_start.cls = RX8 ∧ yX8_start.cls ≠ "java/lang/invoke/MethodHandle" ∧ yX8_start.cls ≠ "java/lang/invoke/VarHandle" ∧ (parseMethodDescriptor yX8_start.desc).map (fun d => d.parameters.length) = some 2 := by decide +kernel
set_option maxHeartbeats 4000000 in
theorem m_X8_start {l : Launch} {κ : Kx} {y : Ly} {X : XR} {post : Int32 → Wd → Prop} {w : Wd} {p1 : Int32} {p2 : Int32}  (hM : WFm κ y) (l0 : live y 20 0) (h : sp_X8_start κ y post w p1 p2) : Met l yX8_start (ws_ yX8_start cX8_start 3 (Option.some Jvm.ClassFile.FieldType.boolean)) rm_X8_start (va_Pc [.ref (y.2 20 0), .int (p1), .int (p2)] (RC κ w y X)) (va_Qi post (fun w t => Rp κ w y X [] t.heap) (Af κ)) 0 0 (Af κ) := by
  unfold sp_X8_start at h
  refine Met.ofW (cc := cX8_start) (maxL := 3) (ret := (Option.some Jvm.ClassFile.FieldType.boolean)) (by decide) rfl ?_
  intro p e s m args below meth c s₁ B hml hv
  obtain ⟨rfl, hR, hK⟩ := hv
  have hx := B.exec
  have hb := B.bytes
  have hr := B.returns
  have hts := atoms_spec (ws := ws_ yX8_start cX8_start 3 (Option.some Jvm.ClassFile.FieldType.boolean)) B.pre
  have hts : ∀ w ∈ lw_all, w.before _ s = true := fun w h => hts w (List.mem_cons_of_mem _ h)
  have hown : s.vm.findClass RX8 = some m.cls := findClass_of_methodNamed B.named
  have hlocks := B.notSynchronized
  have hS : va_S (Af κ) s.heap s.heap [] := va_S.rf
  have hl := lv_entry ([.ref (y.2 20 0), .int (p1), .int (p2)]) (n := 3) (Nat.le_of_ble_eq_true rfl)
  rw [lg_entry_eq]
  generalize (lg_sl ([.ref (y.2 20 0), .int (p1), .int (p2)]) ++ List.replicate (3 - (lg_sl ([.ref (y.2 20 0), .int (p1), .int (p2)])).length) Slot.unset).toArray = ls at hl ⊢
  have hl : lv_has ls 3 [(0, .ref (y.2 20 0)), (1, .int (p1)), (2, .int (p2))] := hl
  refine lv_aload_n hx hb dX8_start_0 rfl (lv_at hl 0 rfl) ?_
  refine lv_iconst (v := (0 : Int32)) hx hb dX8_start_1 (by decide) ?_
  refine p20_0 hx hb hts hown hK hR hS l0 q1945 dX8_start_2 (fun H locs w_2 ew_2 hR hS => ?_)
  have h := h w_2 ew_2
  refine lv_aload_n hx hb dX8_start_5 rfl (lv_at hl 0 rfl) ?_
  refine lv_iload_n hx hb dX8_start_6 rfl (lv_at hl 1 rfl) ?_
  refine lv_iload_n hx hb dX8_start_7 rfl (lv_at hl 2 rfl) ?_
  refine ce_qi (fw := fun u => u) (fy := fun _ => y) (cr_V (n := 2) (As := [.int (p1), .int (p2)]) (rest := []) ⟨hx, hb, hml, hown, hts⟩ hK hR (m_X8_refuse hM l0 h) q2027 q2029 qs38 q85 q2030 rfl rfl hd_X8_refuse ⟨Nat.le_of_ble_eq_true rfl, Nat.le_of_ble_eq_true rfl⟩ (rv hK hR l0 (ci := 11) rfl rfl) rfl rfl hl.1 rfl (lv_room (Nat.le_of_ble_eq_true rfl)) dX8_start_8 ⟨(Nat.le_of_ble_eq_true rfl), (Nat.le_of_ble_eq_true rfl)⟩) hR hS (fun r_8 w_8 H locs h hR _ hS => ?_)
  have o_11 := h.1
  have h := h.2
  refine W.widen (k := 0) (n := 0) (Nat.le_of_ble_eq_true rfl) (Nat.le_of_ble_eq_true rfl) ?_
  exact W.zret (v := r_8) hx hb hr o_11.n (fun t ht hW9 => ⟨⟨r_8, w_8, rfl, h, rpt ht hR⟩, hS.F ht⟩) hS.2.2 dX8_start_11
abbrev rm_X8_cutStone : Room := { frames := 3, cells := 0, slots := 0, locals := 93 }
def st_X8_cutStone_14 (κ : Kx) (y : Ly) (post : Wd → Prop) (ex : Wd → Prop) (rec : Wd → Int32 → Prop) (v1 : Int32) (i2 : Nat) (w : Wd) (v3 : Int32) : Prop := (((3 : Int32) ≤ v3) → (ex w )) ∧ ((¬ ((3 : Int32) ≤ v3)) → ((vp_in (v3) 3) ∧ ((vp_in (v3) 3) ∧ (∀ w_30 : Wd, w_30 = sv w 22 i2 (v3).toNatClampNeg (gv w 30 0 (v3).toNatClampNeg) → (vp_in (v3) 3) ∧ (sp_X8_has κ y (fun r_43 w_43 => (vp_in (v3) 3) ∧ ((nbo (r_43)) ∧ (∀ w_46 : Wd, w_46 = sv w_43 23 i2 (v3).toNatClampNeg (r_43) → ∀ x_47 : Int32, x_47 = v3 + (1 : Int32) → rec w_46 x_47))) w_30 (gv w_30 31 0 (v3).toNatClampNeg) v1)))))
def sp_X8_cutStone_14 (κ : Kx) (y : Ly) (post : Wd → Prop) (ex : Wd → Prop) (v1 : Int32) (i2 : Nat) : Nat → Wd → Int32 → Prop
  | 0 => fun _ _ => False
  | n + 1 => fun w v3 => st_X8_cutStone_14 κ y post ex (sp_X8_cutStone_14 κ y post ex v1 i2 n) v1 i2 w v3
set_option maxHeartbeats 4000000 in
theorem lp_X8_cutStone_14 {p : Program} {l : Launch} {e : Env} {s : State} {m : MethodId} {args : Array Value} {below : List Frame} {meth : Method} {c : Code} {κ : Kx} {y : Ly} {X : XR} {post : Wd → Prop} {v1 : Int32} {i2 : Nat} (hx : p.tables.exec = Jvm.exec) (hb : c.code = cX8_cutStone) (hr : meth.sig.returnType = (Option.none : Option Jvm.ClassFile.FieldType)) (hml : c.maxLocals = 4) (hown : s.vm.findClass RX8 = some m.cls) (hts : ∀ w ∈ lw_all, w.before args s = true) (hlocks : meth.locks = false) (hK : KK κ s) (hM : WFm κ y) (l0 : live y 20 0) (l2 : live y 21 i2) {C1 S1 : Nat} (hC : C1 ≤ 0) (hSl : S1 ≤ 0) {ex : Wd → Prop}
    (kx : ∀ (w : Wd)  (H : Heap) (locs : List Loc) (ls : Array Slot) (cells slots : Nat) , ex w  → Rp κ w y X [] H → va_S (Af κ) s.heap H locs → lv_has ls 4 [(0, .ref (y.2 20 0)), (2, .ref (y.2 21 i2))] → cells ≤ C1 → slots ≤ S1 → W p l e (headSpec (ws_ yX8_cutStone cX8_cutStone 4 (Option.none : Option Jvm.ClassFile.FieldType)) rm_X8_cutStone).room s m args below meth c H locs cells slots (MQ below (va_Qv post (fun w t => Rp κ w y X [] t.heap) (Af κ)) args s 0 0 (Af κ)) (F0 m 53 ls [])) :
    ∀ (f : Nat) (w : Wd) (v3 : Int32) (H : Heap) (locs : List Loc) (ls : Array Slot) (cells slots : Nat)  , sp_X8_cutStone_14 κ y post ex v1 i2 f w v3 → Rp κ w y X [] H → va_S (Af κ) s.heap H locs → lv_has ls 4 [(0, .ref (y.2 20 0)), (1, .int (v1)), (2, .ref (y.2 21 i2)), (3, .int (v3))] → cells + f * 0 ≤ C1 → slots + f * 0 ≤ S1 → W p l e (headSpec (ws_ yX8_cutStone cX8_cutStone 4 (Option.none : Option Jvm.ClassFile.FieldType)) rm_X8_cutStone).room s m args below meth c H locs cells slots (MQ below (va_Qv post (fun w t => Rp κ w y X [] t.heap) (Af κ)) args s 0 0 (Af κ)) (F0 m 14 ls []) := by
  intro f
  induction f with
  | zero =>
    intro w v3 H locs ls cells slots  h
    exact False.elim h
  | succ f ih =>
    intro w v3 H locs ls cells slots  h hR hS hl hc hs
    have h : st_X8_cutStone_14 κ y post ex (sp_X8_cutStone_14 κ y post ex v1 i2 f) v1 i2 w v3 := h
    unfold st_X8_cutStone_14 at h
    refine lv_iload_n hx hb dX8_cutStone_14 rfl (lv_at hl 3 rfl) ?_
    refine lv_iconst (v := (3 : Int32)) hx hb dX8_cutStone_15 (by decide) ?_
    refine lv_icmp_ge (tgt := 53) hx hb dX8_cutStone_16 (by decide) (fun c_16 => ?_) (fun c_16 => ?_)
    · have h := h.1 c_16
      exact kx w  _ _ _ _ _ h hR hS (lv_sub hl [0, 2] rfl) (by omega) (by omega)
    · have h := h.2 c_16
      refine lv_aload_n hx hb dX8_cutStone_19 rfl (lv_at hl 2 rfl) ?_
      refine g21_14 hx hb hts hown hK hR l2 q2056 dX8_cutStone_20 ?_
      refine lv_iload_n hx hb dX8_cutStone_23 rfl (lv_at hl 3 rfl) ?_
      refine lv_aload_n hx hb dX8_cutStone_24 rfl (lv_at hl 0 rfl) ?_
      refine g20_6 hx hb hts hown hK hR l0 q1951 dX8_cutStone_25 ?_
      refine lv_iload_n hx hb dX8_cutStone_28 rfl (lv_at hl 3 rfl) ?_
      have o_29 := h.1
      have h := h.2
      refine a30 hx hb hK hR hM.r30 o_29 dX8_cutStone_29 ?_
      have o_30 := h.1
      have h := h.2
      refine b22 hx hb hK hR hS (hM.vra l2) o_30 dX8_cutStone_30 (fun H locs w_30 ew_30 hR hS => ?_)
      have h := h w_30 ew_30
      refine lv_aload_n hx hb dX8_cutStone_31 rfl (lv_at hl 2 rfl) ?_
      refine g21_15 hx hb hts hown hK hR l2 q2058 dX8_cutStone_32 ?_
      refine lv_iload_n hx hb dX8_cutStone_35 rfl (lv_at hl 3 rfl) ?_
      refine lv_aload_n hx hb dX8_cutStone_36 rfl (lv_at hl 0 rfl) ?_
      refine g20_7 hx hb hts hown hK hR l0 q1952 dX8_cutStone_37 ?_
      refine lv_iload_n hx hb dX8_cutStone_40 rfl (lv_at hl 3 rfl) ?_
      have o_41 := h.1
      have h := h.2
      refine a31 hx hb hK hR hM.r31 o_41 dX8_cutStone_41 ?_
      refine lv_iload_n hx hb dX8_cutStone_42 rfl (lv_at hl 1 rfl) ?_
      refine ce_qi (fw := fun u => u) (fy := fun _ => y) (cr_S (n := 2) (As := [.int (gv w_30 31 0 (v3).toNatClampNeg), .int (v1)]) (rest := [.int (v3), .ref (y.2 23 i2)]) ⟨hx, hb, hml, hown, hts⟩ hK hR (m_X8_has hM h) q2102 q2103 q85 q2104 rfl rfl hds_X8_has ⟨Nat.le_of_ble_eq_true rfl, Nat.le_of_ble_eq_true rfl⟩ rfl rfl hl.1 rfl (lv_room (Nat.le_of_ble_eq_true rfl)) dX8_cutStone_43 ⟨(Nat.le_trans (show cells + 0 ≤ C1 from by omega) hC), (Nat.le_trans (show slots + 0 ≤ S1 from by omega) hSl)⟩) hR hS (fun r_43 w_43 H locs h hR _ hS => ?_)
      have o_46 := h.1
      have h := h.2
      have o_46_a := h.1
      have h := h.2
      refine b23 hx hb hK hR hS (hM.vex l2) o_46 o_46_a dX8_cutStone_46 (fun H locs w_46 ew_46 hR hS => ?_)
      have h := h w_46 ew_46
      obtain ⟨x_47, ex_47⟩ : ∃ z : Int32, z = v3 + (1 : Int32) := ⟨_, rfl⟩
      have h := h x_47 ex_47
      refine lv_iinc (v := x_47) (lv' := [(3, .int (x_47)), (0, .ref (y.2 20 0)), (1, .int (v1)), (2, .ref (y.2 21 i2))]) hx hb dX8_cutStone_47 hl (k := 3) rfl (by rw [ex_47]; rfl) (by decide) rfl (fun ls hl => ?_)
      refine lv_goto (tgt := 14) hx hb dX8_cutStone_50 (by decide) ?_
      exact ih w_46 x_47 _ _ _ _ _  h hR hS (lv_sub hl [1, 2, 3, 0] rfl) (by omega) (by omega)
def sp_X8_cutStone (κ : Kx) (y : Ly) (post : Wd → Prop) (w : Wd) (p1 : Int32) : Prop := (vp_in (p1) (mV y)) ∧ (sp_X8_cutStone_14 κ y post (fun w_14  => ∀ w_58 : Wd, w_58 = sv w_14 21 (((p1).toNatClampNeg)) 12 (gv w_14 20 0 12) → post w_58) p1 (((p1).toNatClampNeg)) 4 w (0 : Int32))
theorem hd_X8_cutStone : yX8_cutStone.cls = RX8 ∧ yX8_cutStone.cls ≠ "java/lang/invoke/MethodHandle" ∧ yX8_cutStone.cls ≠ "java/lang/invoke/VarHandle" ∧ (parseMethodDescriptor yX8_cutStone.desc).map (fun d => d.parameters.length) = some 1 := by decide +kernel
set_option maxHeartbeats 4000000 in
theorem m_X8_cutStone {l : Launch} {κ : Kx} {y : Ly} {X : XR} {post : Wd → Prop} {w : Wd} {p1 : Int32}  (hM : WFm κ y) (l0 : live y 20 0) (h : sp_X8_cutStone κ y post w p1) : Met l yX8_cutStone (ws_ yX8_cutStone cX8_cutStone 4 (Option.none : Option Jvm.ClassFile.FieldType)) rm_X8_cutStone (va_Pc [.ref (y.2 20 0), .int (p1)] (RC κ w y X)) (va_Qv post (fun w t => Rp κ w y X [] t.heap) (Af κ)) 0 0 (Af κ) := by
  unfold sp_X8_cutStone at h
  refine Met.ofW (cc := cX8_cutStone) (maxL := 4) (ret := (Option.none : Option Jvm.ClassFile.FieldType)) (by decide) rfl ?_
  intro p e s m args below meth c s₁ B hml hv
  obtain ⟨rfl, hR, hK⟩ := hv
  have hx := B.exec
  have hb := B.bytes
  have hr := B.returns
  have hts := atoms_spec (ws := ws_ yX8_cutStone cX8_cutStone 4 (Option.none : Option Jvm.ClassFile.FieldType)) B.pre
  have hts : ∀ w ∈ lw_all, w.before _ s = true := fun w h => hts w (List.mem_cons_of_mem _ h)
  have hown : s.vm.findClass RX8 = some m.cls := findClass_of_methodNamed B.named
  have hlocks := B.notSynchronized
  have hS : va_S (Af κ) s.heap s.heap [] := va_S.rf
  have hl := lv_entry ([.ref (y.2 20 0), .int (p1)]) (n := 4) (Nat.le_of_ble_eq_true rfl)
  rw [lg_entry_eq]
  generalize (lg_sl ([.ref (y.2 20 0), .int (p1)]) ++ List.replicate (4 - (lg_sl ([.ref (y.2 20 0), .int (p1)])).length) Slot.unset).toArray = ls at hl ⊢
  have hl : lv_has ls 4 [(0, .ref (y.2 20 0)), (1, .int (p1))] := hl
  refine lv_aload_n hx hb dX8_cutStone_0 rfl (lv_at hl 0 rfl) ?_
  refine g20_3 hx hb hts hown hK hR l0 q1948 dX8_cutStone_1 ?_
  refine lv_iload_n hx hb dX8_cutStone_4 rfl (lv_at hl 1 rfl) ?_
  have o_5 := h.1
  have h := h.2
  refine jr_get (a := y.2 21 ((p1).toNatClampNeg)) ⟨hx, hb, hml, hown, hts⟩ hK hR ⟨fun _ _ _ _ _ => rfl, fun _ _ _ _ _ => rfl⟩ hM.lsV ⟨hM.arV (Nat.lt_of_le_of_lt (Nat.zero_le _) (vp_lt o_5)), (Nat.le_trans hM.mV8 (by decide))⟩ o_5 (hM.elV (vp_lt o_5)) q2101 ⟨Nat.le_of_ble_eq_true rfl, Nat.le_of_ble_eq_true rfl⟩ hl.1 (Nat.le_of_ble_eq_true rfl) dX8_cutStone_5 ⟨(Nat.le_of_ble_eq_true rfl), (Nat.le_of_ble_eq_true rfl)⟩ ?_
  refine jr_castS (ci := 12) hx hb hown hK hts (hR.role (hM.vil (vp_lt o_5))) rfl q2032 dX8_cutStone_8 ?_
  refine lv_astore_n (lv' := [(2, .ref (y.2 21 ((p1).toNatClampNeg))), (0, .ref (y.2 20 0)), (1, .int (p1))]) hx hb dX8_cutStone_11 rfl hl (by decide) rfl (fun ls hl => ?_)
  refine lv_iconst (v := (0 : Int32)) hx hb dX8_cutStone_12 (by decide) ?_
  refine lv_istore_n (lv' := [(3, .int ((0 : Int32))), (2, .ref (y.2 21 ((p1).toNatClampNeg))), (0, .ref (y.2 20 0)), (1, .int (p1))]) hx hb dX8_cutStone_13 rfl hl (by decide) rfl (fun ls hl => ?_)
  refine lp_X8_cutStone_14 (C1 := 0) (S1 := 0) hx hb hr hml hown hts hlocks hK hM l0 (hM.vil (vp_lt o_5)) (Nat.le_of_ble_eq_true rfl) (Nat.le_of_ble_eq_true rfl) (fun w_14  H locs ls cells9 slots9 h hR hS hl hc9 hs9 => ?_) 4 w (0 : Int32) _ _ _ _ _  h hR hS (lv_sub hl [2, 3, 1, 0] rfl) (by omega) (by omega)
  refine W.widen (k := 0) (n := 0) hc9 hs9 ?_
  refine lv_aload_n hx hb dX8_cutStone_53 rfl (lv_at hl 1 rfl) ?_
  refine lv_aload_n hx hb dX8_cutStone_54 rfl (lv_at hl 0 rfl) ?_
  refine g20_12 hx hb hts hown hK hR l0 q1957 dX8_cutStone_55 ?_
  refine p21_12 hx hb hts hown hK hR hS (hM.vil (vp_lt o_5)) q2053 dX8_cutStone_58 (fun H locs w_58 ew_58 hR hS => ?_)
  have h := h w_58 ew_58
  refine W.widen (k := 0) (n := 0) (Nat.le_of_ble_eq_true rfl) (Nat.le_of_ble_eq_true rfl) ?_
  exact W.vret hx hb hr (fun t ht hW9 => ⟨⟨w_58, rfl, h, rpt ht hR⟩, hS.F ht⟩) hS.2.2 dX8_cutStone_61
abbrev rm_X8_clear : Room := { frames := 3, cells := 0, slots := 0, locals := 93 }
def sp_X8_clear (κ : Kx) (y : Ly) (post : Int32 → Wd → Prop) (w : Wd) (p1 : Int32) (p2 : Int32) : Prop := sp_X8_isNoVillage κ y (fun r_3 w_3 => sp_X8_start κ y (fun r_7 w_7 => ((¬ r_7 = 0) → (post ((0 : Int32)) w_7)) ∧ ((r_7 = 0) → (sp_X8_isIn κ y (fun r_18 w_18 => ((¬ r_18 = 0) → (sp_X8_refuse κ y (fun r_30 w_30 => ((r_30 = 0) → ((vp_in (p1) (mV y)) ∧ (∀ w_63 : Wd, w_63 = sv w_30 21 (((p1).toNatClampNeg)) 1 (jmin (600 : Int32) ((gv w_30 21 (((p1).toNatClampNeg)) 1) + p2)) → post (gv w_63 21 (((p1).toNatClampNeg)) 1) w_63))) ∧ ((¬ (r_30 = 0)) → (post ((0 : Int32)) w_30))) w_18 (0 : Int32) (2 : Int32))) ∧ ((r_18 = 0) → (sp_X8_refuse κ y (fun r_30_a w_30_a => ((r_30_a = 0) → ((vp_in (p1) (mV y)) ∧ (∀ w_63_a : Wd, w_63_a = sv w_30_a 21 (((p1).toNatClampNeg)) 1 (jmin (600 : Int32) ((gv w_30_a 21 (((p1).toNatClampNeg)) 1) + p2)) → post (gv w_63_a 21 (((p1).toNatClampNeg)) 1) w_63_a))) ∧ ((¬ (r_30_a = 0)) → (post ((0 : Int32)) w_30_a))) w_18 (1 : Int32) (2 : Int32)))) w_7 p2 (1 : Int32) (100 : Int32)))) w_3 r_3 (1 : Int32)) w p1
theorem hd_X8_clear : yX8_clear.cls = RX8 ∧ yX8_clear.cls ≠ "java/lang/invoke/MethodHandle" ∧ yX8_clear.cls ≠ "java/lang/invoke/VarHandle" ∧ (parseMethodDescriptor yX8_clear.desc).map (fun d => d.parameters.length) = some 2 := by decide +kernel
set_option maxHeartbeats 4000000 in
theorem m_X8_clear {l : Launch} {κ : Kx} {y : Ly} {X : XR} {post : Int32 → Wd → Prop} {w : Wd} {p1 : Int32} {p2 : Int32}  (hM : WFm κ y) (l0 : live y 20 0) (h : sp_X8_clear κ y post w p1 p2) : Met l yX8_clear (ws_ yX8_clear cX8_clear 4 (Option.some Jvm.ClassFile.FieldType.int)) rm_X8_clear (va_Pc [.ref (y.2 20 0), .int (p1), .int (p2)] (RC κ w y X)) (va_Qi post (fun w t => Rp κ w y X [] t.heap) (Af κ)) 0 0 (Af κ) := by
  unfold sp_X8_clear at h
  refine Met.ofW (cc := cX8_clear) (maxL := 4) (ret := (Option.some Jvm.ClassFile.FieldType.int)) (by decide) rfl ?_
  intro p e s m args below meth c s₁ B hml hv
  obtain ⟨rfl, hR, hK⟩ := hv
  have hx := B.exec
  have hb := B.bytes
  have hr := B.returns
  have hts := atoms_spec (ws := ws_ yX8_clear cX8_clear 4 (Option.some Jvm.ClassFile.FieldType.int)) B.pre
  have hts : ∀ w ∈ lw_all, w.before _ s = true := fun w h => hts w (List.mem_cons_of_mem _ h)
  have hown : s.vm.findClass RX8 = some m.cls := findClass_of_methodNamed B.named
  have hlocks := B.notSynchronized
  have hS : va_S (Af κ) s.heap s.heap [] := va_S.rf
  have hl := lv_entry ([.ref (y.2 20 0), .int (p1), .int (p2)]) (n := 4) (Nat.le_of_ble_eq_true rfl)
  rw [lg_entry_eq]
  generalize (lg_sl ([.ref (y.2 20 0), .int (p1), .int (p2)]) ++ List.replicate (4 - (lg_sl ([.ref (y.2 20 0), .int (p1), .int (p2)])).length) Slot.unset).toArray = ls at hl ⊢
  have hl : lv_has ls 4 [(0, .ref (y.2 20 0)), (1, .int (p1)), (2, .int (p2))] := hl
  refine lv_aload_n hx hb dX8_clear_0 rfl (lv_at hl 0 rfl) ?_
  refine lv_aload_n hx hb dX8_clear_1 rfl (lv_at hl 0 rfl) ?_
  refine lv_iload_n hx hb dX8_clear_2 rfl (lv_at hl 1 rfl) ?_
  refine ce_qi (fw := fun u => u) (fy := fun _ => y) (cr_V (n := 1) (As := [.int (p1)]) (rest := [.ref (y.2 20 0)]) ⟨hx, hb, hml, hown, hts⟩ hK hR (m_X8_isNoVillage hM l0 h) q2109 q2111 qs40 q85 q2112 rfl rfl hd_X8_isNoVillage ⟨Nat.le_of_ble_eq_true rfl, Nat.le_of_ble_eq_true rfl⟩ (rv hK hR l0 (ci := 11) rfl rfl) rfl rfl hl.1 rfl (lv_room (Nat.le_of_ble_eq_true rfl)) dX8_clear_3 ⟨(Nat.le_of_ble_eq_true rfl), (Nat.le_of_ble_eq_true rfl)⟩) hR hS (fun r_3 w_3 H locs h hR _ hS => ?_)
  refine lv_iconst (v := (1 : Int32)) hx hb dX8_clear_6 (by decide) ?_
  refine ce_qi (fw := fun u => u) (fy := fun _ => y) (cr_V (n := 2) (As := [.int (r_3), .int ((1 : Int32))]) (rest := []) ⟨hx, hb, hml, hown, hts⟩ hK hR (m_X8_start hM l0 h) q2023 q2025 qs37 q85 q2026 rfl rfl hd_X8_start ⟨Nat.le_of_ble_eq_true rfl, Nat.le_of_ble_eq_true rfl⟩ (rv hK hR l0 (ci := 11) rfl rfl) rfl rfl hl.1 rfl (lv_room (Nat.le_of_ble_eq_true rfl)) dX8_clear_7 ⟨(Nat.le_of_ble_eq_true rfl), (Nat.le_of_ble_eq_true rfl)⟩) hR hS (fun r_7 w_7 H locs h hR _ hS => ?_)
  refine lv_if_ne (tgt := 36) hx hb dX8_clear_10 (by decide) (fun c_10 => ?_) (fun c_10 => ?_)
  · have h := h.1 c_10
    refine lv_iconst (v := (0 : Int32)) hx hb dX8_clear_36 (by decide) ?_
    refine W.widen (k := 0) (n := 0) (Nat.le_of_ble_eq_true rfl) (Nat.le_of_ble_eq_true rfl) ?_
    exact W.iret (v := (0 : Int32)) hx hb hr (fun t ht hW9 => ⟨⟨(0 : Int32), w_7, rfl, h, rpt ht hR⟩, hS.F ht⟩) hS.2.2 dX8_clear_37
  · have h := h.2 c_10
    refine lv_aload_n hx hb dX8_clear_13 rfl (lv_at hl 0 rfl) ?_
    refine lv_iload_n hx hb dX8_clear_14 rfl (lv_at hl 2 rfl) ?_
    refine lv_iconst (v := (1 : Int32)) hx hb dX8_clear_15 (by decide) ?_
    refine lv_bipush (v := (100 : Int32)) hx hb dX8_clear_16 (by decide) ?_
    refine ce_qi (fw := fun u => u) (fy := fun _ => y) (cr_S (n := 3) (As := [.int (p2), .int ((1 : Int32)), .int ((100 : Int32))]) (rest := [.ref (y.2 20 0)]) ⟨hx, hb, hml, hown, hts⟩ hK hR (m_X8_isIn hM h) q2020 q2021 q85 q2022 rfl rfl hds_X8_isIn ⟨Nat.le_of_ble_eq_true rfl, Nat.le_of_ble_eq_true rfl⟩ rfl rfl hl.1 rfl (lv_room (Nat.le_of_ble_eq_true rfl)) dX8_clear_18 ⟨(Nat.le_of_ble_eq_true rfl), (Nat.le_of_ble_eq_true rfl)⟩) hR hS (fun r_18 w_18 H locs h hR _ hS => ?_)
    refine lv_if_ne (tgt := 28) hx hb dX8_clear_21 (by decide) (fun c_21 => ?_) (fun c_21 => ?_)
    · have h := h.1 c_21
      refine lv_iconst (v := (0 : Int32)) hx hb dX8_clear_28 (by decide) ?_
      refine lv_iconst (v := (2 : Int32)) hx hb dX8_clear_29 (by decide) ?_
      refine ce_qi (fw := fun u => u) (fy := fun _ => y) (cr_V (n := 2) (As := [.int ((0 : Int32)), .int ((2 : Int32))]) (rest := []) ⟨hx, hb, hml, hown, hts⟩ hK hR (m_X8_refuse hM l0 h) q2027 q2029 qs38 q85 q2030 rfl rfl hd_X8_refuse ⟨Nat.le_of_ble_eq_true rfl, Nat.le_of_ble_eq_true rfl⟩ (rv hK hR l0 (ci := 11) rfl rfl) rfl rfl hl.1 rfl (lv_room (Nat.le_of_ble_eq_true rfl)) dX8_clear_30 ⟨(Nat.le_of_ble_eq_true rfl), (Nat.le_of_ble_eq_true rfl)⟩) hR hS (fun r_30 w_30 H locs h hR _ hS => ?_)
      refine lv_if_eq (tgt := 38) hx hb dX8_clear_33 (by decide) (fun c_33 => ?_) (fun c_33 => ?_)
      · have h := h.1 c_33
        refine lv_aload_n hx hb dX8_clear_38 rfl (lv_at hl 0 rfl) ?_
        refine g20_3 hx hb hts hown hK hR l0 q1948 dX8_clear_39 ?_
        refine lv_iload_n hx hb dX8_clear_42 rfl (lv_at hl 1 rfl) ?_
        have o_43 := h.1
        have h := h.2
        refine jr_get (a := y.2 21 ((p1).toNatClampNeg)) ⟨hx, hb, hml, hown, hts⟩ hK hR ⟨fun _ _ _ _ _ => rfl, fun _ _ _ _ _ => rfl⟩ hM.lsV ⟨hM.arV (Nat.lt_of_le_of_lt (Nat.zero_le _) (vp_lt o_43)), (Nat.le_trans hM.mV8 (by decide))⟩ o_43 (hM.elV (vp_lt o_43)) q2101 ⟨Nat.le_of_ble_eq_true rfl, Nat.le_of_ble_eq_true rfl⟩ hl.1 (Nat.le_of_ble_eq_true rfl) dX8_clear_43 ⟨(Nat.le_of_ble_eq_true rfl), (Nat.le_of_ble_eq_true rfl)⟩ ?_
        refine jr_castS (ci := 12) hx hb hown hK hts (hR.role (hM.vil (vp_lt o_43))) rfl q2032 dX8_clear_46 ?_
        refine lv_astore_n (lv' := [(3, .ref (y.2 21 ((p1).toNatClampNeg))), (0, .ref (y.2 20 0)), (1, .int (p1)), (2, .int (p2))]) hx hb dX8_clear_49 rfl hl (by decide) rfl (fun ls hl => ?_)
        refine lv_aload_n hx hb dX8_clear_50 rfl (lv_at hl 0 rfl) ?_
        refine lv_sipush (v := (600 : Int32)) hx hb dX8_clear_51 (by decide) ?_
        refine lv_aload_n hx hb dX8_clear_54 rfl (lv_at hl 0 rfl) ?_
        refine g21_1 hx hb hts hown hK hR (hM.vil (vp_lt o_43)) q2041 dX8_clear_55 ?_
        refine lv_iload_n hx hb dX8_clear_58 rfl (lv_at hl 3 rfl) ?_
        refine lv_iadd hx hb dX8_clear_59 ?_
        refine va_mmin hx hb (hml.trans hl.1.symm) hown (hts _ q2113) (hts _ q322) (hts _ q95) (hts _ q323) (Nat.le_of_ble_eq_true rfl) (Nat.le_of_ble_eq_true rfl) (Nat.le_of_ble_eq_true rfl) (Nat.le_of_ble_eq_true rfl) dX8_clear_60 ?_
        refine p21_1 hx hb hts hown hK hR hS (hM.vil (vp_lt o_43)) q2041 dX8_clear_63 (fun H locs w_63 ew_63 hR hS => ?_)
        have h := h w_63 ew_63
        refine lv_aload_n hx hb dX8_clear_66 rfl (lv_at hl 0 rfl) ?_
        refine g21_1 hx hb hts hown hK hR (hM.vil (vp_lt o_43)) q2041 dX8_clear_67 ?_
        refine W.widen (k := 0) (n := 0) (Nat.le_of_ble_eq_true rfl) (Nat.le_of_ble_eq_true rfl) ?_
        exact W.iret (v := gv w_63 21 (((p1).toNatClampNeg)) 1) hx hb hr (fun t ht hW9 => ⟨⟨gv w_63 21 (((p1).toNatClampNeg)) 1, w_63, rfl, h, rpt ht hR⟩, hS.F ht⟩) hS.2.2 dX8_clear_70
      · have h := h.2 c_33
        refine lv_iconst (v := (0 : Int32)) hx hb dX8_clear_36 (by decide) ?_
        refine W.widen (k := 0) (n := 0) (Nat.le_of_ble_eq_true rfl) (Nat.le_of_ble_eq_true rfl) ?_
        exact W.iret (v := (0 : Int32)) hx hb hr (fun t ht hW9 => ⟨⟨(0 : Int32), w_30, rfl, h, rpt ht hR⟩, hS.F ht⟩) hS.2.2 dX8_clear_37
    · have h := h.2 c_21
      refine lv_iconst (v := (1 : Int32)) hx hb dX8_clear_24 (by decide) ?_
      refine lv_goto (tgt := 29) hx hb dX8_clear_25 (by decide) ?_
      refine lv_iconst (v := (2 : Int32)) hx hb dX8_clear_29 (by decide) ?_
      refine ce_qi (fw := fun u => u) (fy := fun _ => y) (cr_V (n := 2) (As := [.int ((1 : Int32)), .int ((2 : Int32))]) (rest := []) ⟨hx, hb, hml, hown, hts⟩ hK hR (m_X8_refuse hM l0 h) q2027 q2029 qs38 q85 q2030 rfl rfl hd_X8_refuse ⟨Nat.le_of_ble_eq_true rfl, Nat.le_of_ble_eq_true rfl⟩ (rv hK hR l0 (ci := 11) rfl rfl) rfl rfl hl.1 rfl (lv_room (Nat.le_of_ble_eq_true rfl)) dX8_clear_30 ⟨(Nat.le_of_ble_eq_true rfl), (Nat.le_of_ble_eq_true rfl)⟩) hR hS (fun r_30_a w_30_a H locs h hR _ hS => ?_)
      refine lv_if_eq (tgt := 38) hx hb dX8_clear_33 (by decide) (fun c_33_a => ?_) (fun c_33_a => ?_)
      · have h := h.1 c_33_a
        refine lv_aload_n hx hb dX8_clear_38 rfl (lv_at hl 0 rfl) ?_
        refine g20_3 hx hb hts hown hK hR l0 q1948 dX8_clear_39 ?_
        refine lv_iload_n hx hb dX8_clear_42 rfl (lv_at hl 1 rfl) ?_
        have o_43_a := h.1
        have h := h.2
        refine jr_get (a := y.2 21 ((p1).toNatClampNeg)) ⟨hx, hb, hml, hown, hts⟩ hK hR ⟨fun _ _ _ _ _ => rfl, fun _ _ _ _ _ => rfl⟩ hM.lsV ⟨hM.arV (Nat.lt_of_le_of_lt (Nat.zero_le _) (vp_lt o_43_a)), (Nat.le_trans hM.mV8 (by decide))⟩ o_43_a (hM.elV (vp_lt o_43_a)) q2101 ⟨Nat.le_of_ble_eq_true rfl, Nat.le_of_ble_eq_true rfl⟩ hl.1 (Nat.le_of_ble_eq_true rfl) dX8_clear_43 ⟨(Nat.le_of_ble_eq_true rfl), (Nat.le_of_ble_eq_true rfl)⟩ ?_
        refine jr_castS (ci := 12) hx hb hown hK hts (hR.role (hM.vil (vp_lt o_43_a))) rfl q2032 dX8_clear_46 ?_
        refine lv_astore_n (lv' := [(3, .ref (y.2 21 ((p1).toNatClampNeg))), (0, .ref (y.2 20 0)), (1, .int (p1)), (2, .int (p2))]) hx hb dX8_clear_49 rfl hl (by decide) rfl (fun ls hl => ?_)
        refine lv_aload_n hx hb dX8_clear_50 rfl (lv_at hl 0 rfl) ?_
        refine lv_sipush (v := (600 : Int32)) hx hb dX8_clear_51 (by decide) ?_
        refine lv_aload_n hx hb dX8_clear_54 rfl (lv_at hl 0 rfl) ?_
        refine g21_1 hx hb hts hown hK hR (hM.vil (vp_lt o_43_a)) q2041 dX8_clear_55 ?_
        refine lv_iload_n hx hb dX8_clear_58 rfl (lv_at hl 3 rfl) ?_
        refine lv_iadd hx hb dX8_clear_59 ?_
        refine va_mmin hx hb (hml.trans hl.1.symm) hown (hts _ q2113) (hts _ q322) (hts _ q95) (hts _ q323) (Nat.le_of_ble_eq_true rfl) (Nat.le_of_ble_eq_true rfl) (Nat.le_of_ble_eq_true rfl) (Nat.le_of_ble_eq_true rfl) dX8_clear_60 ?_
        refine p21_1 hx hb hts hown hK hR hS (hM.vil (vp_lt o_43_a)) q2041 dX8_clear_63 (fun H locs w_63_a ew_63_a hR hS => ?_)
        have h := h w_63_a ew_63_a
        refine lv_aload_n hx hb dX8_clear_66 rfl (lv_at hl 0 rfl) ?_
        refine g21_1 hx hb hts hown hK hR (hM.vil (vp_lt o_43_a)) q2041 dX8_clear_67 ?_
        refine W.widen (k := 0) (n := 0) (Nat.le_of_ble_eq_true rfl) (Nat.le_of_ble_eq_true rfl) ?_
        exact W.iret (v := gv w_63_a 21 (((p1).toNatClampNeg)) 1) hx hb hr (fun t ht hW9 => ⟨⟨gv w_63_a 21 (((p1).toNatClampNeg)) 1, w_63_a, rfl, h, rpt ht hR⟩, hS.F ht⟩) hS.2.2 dX8_clear_70
      · have h := h.2 c_33_a
        refine lv_iconst (v := (0 : Int32)) hx hb dX8_clear_36 (by decide) ?_
        refine W.widen (k := 0) (n := 0) (Nat.le_of_ble_eq_true rfl) (Nat.le_of_ble_eq_true rfl) ?_
        exact W.iret (v := (0 : Int32)) hx hb hr (fun t ht hW9 => ⟨⟨(0 : Int32), w_30_a, rfl, h, rpt ht hR⟩, hS.F ht⟩) hS.2.2 dX8_clear_37
abbrev rm_X8_survey : Room := { frames := 3, cells := 0, slots := 0, locals := 93 }
def sp_X8_survey (κ : Kx) (y : Ly) (post : Int32 → Wd → Prop) (w : Wd) (p1 : Int32) : Prop := sp_X8_isNoVillage κ y (fun r_3 w_3 => sp_X8_start κ y (fun r_7 w_7 => ((r_7 = 0) → ((vp_in (p1) (mV y)) ∧ (∀ x_31 : Int32, x_31 = gv w_7 21 (((p1).toNatClampNeg)) 8 → ∀ w_37 : Wd, w_37 = sv w_7 21 (((p1).toNatClampNeg)) 8 (gv w_7 21 (((p1).toNatClampNeg)) 1) → sp_X8_treasuryPays κ y (fun w_50 => post (x_31) w_50) w_37 ((2 : Int32) + ((gv w_37 21 (((p1).toNatClampNeg)) 1) / (50 : Int32)))))) ∧ ((¬ (r_7 = 0)) → (post ((0 : Int32)) w_7))) w_3 r_3 (1 : Int32)) w p1
theorem hd_X8_survey : yX8_survey.cls = RX8 ∧ yX8_survey.cls ≠ "java/lang/invoke/MethodHandle" ∧ yX8_survey.cls ≠ "java/lang/invoke/VarHandle" ∧ (parseMethodDescriptor yX8_survey.desc).map (fun d => d.parameters.length) = some 1 := by decide +kernel
set_option maxHeartbeats 4000000 in
theorem m_X8_survey {l : Launch} {κ : Kx} {y : Ly} {X : XR} {post : Int32 → Wd → Prop} {w : Wd} {p1 : Int32}  (hM : WFm κ y) (l0 : live y 20 0) (h : sp_X8_survey κ y post w p1) : Met l yX8_survey (ws_ yX8_survey cX8_survey 4 (Option.some Jvm.ClassFile.FieldType.int)) rm_X8_survey (va_Pc [.ref (y.2 20 0), .int (p1)] (RC κ w y X)) (va_Qi post (fun w t => Rp κ w y X [] t.heap) (Af κ)) 0 0 (Af κ) := by
  unfold sp_X8_survey at h
  refine Met.ofW (cc := cX8_survey) (maxL := 4) (ret := (Option.some Jvm.ClassFile.FieldType.int)) (by decide) rfl ?_
  intro p e s m args below meth c s₁ B hml hv
  obtain ⟨rfl, hR, hK⟩ := hv
  have hx := B.exec
  have hb := B.bytes
  have hr := B.returns
  have hts := atoms_spec (ws := ws_ yX8_survey cX8_survey 4 (Option.some Jvm.ClassFile.FieldType.int)) B.pre
  have hts : ∀ w ∈ lw_all, w.before _ s = true := fun w h => hts w (List.mem_cons_of_mem _ h)
  have hown : s.vm.findClass RX8 = some m.cls := findClass_of_methodNamed B.named
  have hlocks := B.notSynchronized
  have hS : va_S (Af κ) s.heap s.heap [] := va_S.rf
  have hl := lv_entry ([.ref (y.2 20 0), .int (p1)]) (n := 4) (Nat.le_of_ble_eq_true rfl)
  rw [lg_entry_eq]
  generalize (lg_sl ([.ref (y.2 20 0), .int (p1)]) ++ List.replicate (4 - (lg_sl ([.ref (y.2 20 0), .int (p1)])).length) Slot.unset).toArray = ls at hl ⊢
  have hl : lv_has ls 4 [(0, .ref (y.2 20 0)), (1, .int (p1))] := hl
  refine lv_aload_n hx hb dX8_survey_0 rfl (lv_at hl 0 rfl) ?_
  refine lv_aload_n hx hb dX8_survey_1 rfl (lv_at hl 0 rfl) ?_
  refine lv_iload_n hx hb dX8_survey_2 rfl (lv_at hl 1 rfl) ?_
  refine ce_qi (fw := fun u => u) (fy := fun _ => y) (cr_V (n := 1) (As := [.int (p1)]) (rest := [.ref (y.2 20 0)]) ⟨hx, hb, hml, hown, hts⟩ hK hR (m_X8_isNoVillage hM l0 h) q2109 q2111 qs40 q85 q2112 rfl rfl hd_X8_isNoVillage ⟨Nat.le_of_ble_eq_true rfl, Nat.le_of_ble_eq_true rfl⟩ (rv hK hR l0 (ci := 11) rfl rfl) rfl rfl hl.1 rfl (lv_room (Nat.le_of_ble_eq_true rfl)) dX8_survey_3 ⟨(Nat.le_of_ble_eq_true rfl), (Nat.le_of_ble_eq_true rfl)⟩) hR hS (fun r_3 w_3 H locs h hR _ hS => ?_)
  refine lv_iconst (v := (1 : Int32)) hx hb dX8_survey_6 (by decide) ?_
  refine ce_qi (fw := fun u => u) (fy := fun _ => y) (cr_V (n := 2) (As := [.int (r_3), .int ((1 : Int32))]) (rest := []) ⟨hx, hb, hml, hown, hts⟩ hK hR (m_X8_start hM l0 h) q2023 q2025 qs37 q85 q2026 rfl rfl hd_X8_start ⟨Nat.le_of_ble_eq_true rfl, Nat.le_of_ble_eq_true rfl⟩ (rv hK hR l0 (ci := 11) rfl rfl) rfl rfl hl.1 rfl (lv_room (Nat.le_of_ble_eq_true rfl)) dX8_survey_7 ⟨(Nat.le_of_ble_eq_true rfl), (Nat.le_of_ble_eq_true rfl)⟩) hR hS (fun r_7 w_7 H locs h hR _ hS => ?_)
  refine lv_if_eq (tgt := 15) hx hb dX8_survey_10 (by decide) (fun c_10 => ?_) (fun c_10 => ?_)
  · have h := h.1 c_10
    refine lv_aload_n hx hb dX8_survey_15 rfl (lv_at hl 0 rfl) ?_
    refine g20_3 hx hb hts hown hK hR l0 q1948 dX8_survey_16 ?_
    refine lv_iload_n hx hb dX8_survey_19 rfl (lv_at hl 1 rfl) ?_
    have o_20 := h.1
    have h := h.2
    refine jr_get (a := y.2 21 ((p1).toNatClampNeg)) ⟨hx, hb, hml, hown, hts⟩ hK hR ⟨fun _ _ _ _ _ => rfl, fun _ _ _ _ _ => rfl⟩ hM.lsV ⟨hM.arV (Nat.lt_of_le_of_lt (Nat.zero_le _) (vp_lt o_20)), (Nat.le_trans hM.mV8 (by decide))⟩ o_20 (hM.elV (vp_lt o_20)) q2101 ⟨Nat.le_of_ble_eq_true rfl, Nat.le_of_ble_eq_true rfl⟩ hl.1 (Nat.le_of_ble_eq_true rfl) dX8_survey_20 ⟨(Nat.le_of_ble_eq_true rfl), (Nat.le_of_ble_eq_true rfl)⟩ ?_
    refine jr_castS (ci := 12) hx hb hown hK hts (hR.role (hM.vil (vp_lt o_20))) rfl q2032 dX8_survey_23 ?_
    refine lv_astore_n (lv' := [(2, .ref (y.2 21 ((p1).toNatClampNeg))), (0, .ref (y.2 20 0)), (1, .int (p1))]) hx hb dX8_survey_26 rfl hl (by decide) rfl (fun ls hl => ?_)
    refine lv_aload_n hx hb dX8_survey_27 rfl (lv_at hl 0 rfl) ?_
    refine g21_8 hx hb hts hown hK hR (hM.vil (vp_lt o_20)) q2049 dX8_survey_28 ?_
    refine lv_topi (fun x_31 ex_31 => ?_)
    have h := h x_31 ex_31
    refine lv_istore_n (lv' := [(3, .int (x_31)), (2, .ref (y.2 21 ((p1).toNatClampNeg))), (0, .ref (y.2 20 0)), (1, .int (p1))]) hx hb dX8_survey_31 rfl hl (by decide) rfl (fun ls hl => ?_)
    refine lv_aload_n hx hb dX8_survey_32 rfl (lv_at hl 1 rfl) ?_
    refine lv_aload_n hx hb dX8_survey_33 rfl (lv_at hl 1 rfl) ?_
    refine g21_1 hx hb hts hown hK hR (hM.vil (vp_lt o_20)) q2041 dX8_survey_34 ?_
    refine p21_8 hx hb hts hown hK hR hS (hM.vil (vp_lt o_20)) q2049 dX8_survey_37 (fun H locs w_37 ew_37 hR hS => ?_)
    have h := h w_37 ew_37
    refine lv_aload_n hx hb dX8_survey_40 rfl (lv_at hl 2 rfl) ?_
    refine lv_iconst (v := (2 : Int32)) hx hb dX8_survey_41 (by decide) ?_
    refine lv_aload_n hx hb dX8_survey_42 rfl (lv_at hl 1 rfl) ?_
    refine g21_1 hx hb hts hown hK hR (hM.vil (vp_lt o_20)) q2041 dX8_survey_43 ?_
    refine lv_bipush (v := (50 : Int32)) hx hb dX8_survey_46 (by decide) ?_
    refine lv_idiv hx hb dX8_survey_48 (by decide) ?_
    refine lv_iadd hx hb dX8_survey_49 ?_
    refine ce_qv (fw := fun u => u) (fy := fun _ => y) (cr_V (n := 1) (As := [.int ((2 : Int32) + ((gv w_37 21 (((p1).toNatClampNeg)) 1) / (50 : Int32)))]) (rest := []) ⟨hx, hb, hml, hown, hts⟩ hK hR (m_X8_treasuryPays hM l0 h) q2118 q2120 qs41 q85 q2121 rfl rfl hd_X8_treasuryPays ⟨Nat.le_of_ble_eq_true rfl, Nat.le_of_ble_eq_true rfl⟩ (rv hK hR l0 (ci := 11) rfl rfl) rfl rfl hl.1 rfl (lv_room (Nat.le_of_ble_eq_true rfl)) dX8_survey_50 ⟨(Nat.le_of_ble_eq_true rfl), (Nat.le_of_ble_eq_true rfl)⟩) hR hS (fun w_50 H locs h hR _ hS => ?_)
    refine lv_iload_n hx hb dX8_survey_53 rfl (lv_at hl 0 rfl) ?_
    refine W.widen (k := 0) (n := 0) (Nat.le_of_ble_eq_true rfl) (Nat.le_of_ble_eq_true rfl) ?_
    exact W.iret (v := x_31) hx hb hr (fun t ht hW9 => ⟨⟨x_31, w_50, rfl, h, rpt ht hR⟩, hS.F ht⟩) hS.2.2 dX8_survey_54
  · have h := h.2 c_10
    refine lv_iconst (v := (0 : Int32)) hx hb dX8_survey_13 (by decide) ?_
    refine W.widen (k := 0) (n := 0) (Nat.le_of_ble_eq_true rfl) (Nat.le_of_ble_eq_true rfl) ?_
    exact W.iret (v := (0 : Int32)) hx hb hr (fun t ht hW9 => ⟨⟨(0 : Int32), w_7, rfl, h, rpt ht hR⟩, hS.F ht⟩) hS.2.2 dX8_survey_14
abbrev rm_X8_war : Room := { frames := 3, cells := 0, slots := 0, locals := 93 }
def st_X8_war_35 (κ : Kx) (y : Ly) (post : Int32 → Wd → Prop) (ex : Wd → (Int32) → Prop) (rec : Wd → Int32 → Int32 → Prop) (v1 : Int32) (w : Wd) (v2 : Int32) (v3 : Int32) : Prop := ((nI (mV y) ≤ v3) → (ex w v2)) ∧ ((¬ (nI (mV y) ≤ v3)) → ((vp_in (v3) (mV y)) ∧ (sp_X8_has κ y (fun r_63 w_63 => (nbo ((gv w 21 (((v3).toNatClampNeg)) 11) ||| r_63)) ∧ (∀ w_67 : Wd, w_67 = sv w_63 21 (((v3).toNatClampNeg)) 11 ((gv w 21 (((v3).toNatClampNeg)) 11) ||| r_63) → (vp_in (v3) (mV y)) ∧ (((gv w_67 21 (((v3).toNatClampNeg)) 11 = 0) → (∀ x_94 : Int32, x_94 = v2 + (0 : Int32) → ∀ x_95 : Int32, x_95 = v3 + (1 : Int32) → rec w_67 x_94 x_95)) ∧ ((¬ (gv w_67 21 (((v3).toNatClampNeg)) 11 = 0)) → (∀ x_94_a : Int32, x_94_a = v2 + (1 : Int32) → ∀ x_95_a : Int32, x_95_a = v3 + (1 : Int32) → rec w_67 x_94_a x_95_a))))) w v1 v3)))
def sp_X8_war_35 (κ : Kx) (y : Ly) (post : Int32 → Wd → Prop) (ex : Wd → (Int32) → Prop) (v1 : Int32) : Nat → Wd → Int32 → Int32 → Prop
  | 0 => fun _ _ _ => False
  | n + 1 => fun w v2 v3 => st_X8_war_35 κ y post ex (sp_X8_war_35 κ y post ex v1 n) v1 w v2 v3
set_option maxHeartbeats 4000000 in
theorem lp_X8_war_35 {p : Program} {l : Launch} {e : Env} {s : State} {m : MethodId} {args : Array Value} {below : List Frame} {meth : Method} {c : Code} {κ : Kx} {y : Ly} {X : XR} {post : Int32 → Wd → Prop} {v1 : Int32} (hx : p.tables.exec = Jvm.exec) (hb : c.code = cX8_war) (hr : meth.sig.returnType = (Option.some Jvm.ClassFile.FieldType.int)) (hml : c.maxLocals = 4) (hown : s.vm.findClass RX8 = some m.cls) (hts : ∀ w ∈ lw_all, w.before args s = true) (hlocks : meth.locks = false) (hK : KK κ s) (hM : WFm κ y) (l0 : live y 20 0) {C1 S1 : Nat} (hC : C1 ≤ 0) (hSl : S1 ≤ 0) {ex : Wd → (Int32) → Prop}
    (kx : ∀ (w : Wd) (v2 : Int32) (H : Heap) (locs : List Loc) (ls : Array Slot) (cells slots : Nat) , ex w v2 → Rp κ w y X [] H → va_S (Af κ) s.heap H locs → lv_has ls 4 [(2, .int (v2))] → cells ≤ C1 → slots ≤ S1 → W p l e (headSpec (ws_ yX8_war cX8_war 4 (Option.some Jvm.ClassFile.FieldType.int)) rm_X8_war).room s m args below meth c H locs cells slots (MQ below (va_Qi post (fun w t => Rp κ w y X [] t.heap) (Af κ)) args s 0 0 (Af κ)) (F0 m 101 ls [])) :
    ∀ (f : Nat) (w : Wd) (v2 : Int32) (v3 : Int32) (H : Heap) (locs : List Loc) (ls : Array Slot) (cells slots : Nat)  , sp_X8_war_35 κ y post ex v1 f w v2 v3 → Rp κ w y X [] H → va_S (Af κ) s.heap H locs → lv_has ls 4 [(0, .ref (y.2 20 0)), (1, .int (v1)), (2, .int (v2)), (3, .int (v3))] → cells + f * 0 ≤ C1 → slots + f * 0 ≤ S1 → W p l e (headSpec (ws_ yX8_war cX8_war 4 (Option.some Jvm.ClassFile.FieldType.int)) rm_X8_war).room s m args below meth c H locs cells slots (MQ below (va_Qi post (fun w t => Rp κ w y X [] t.heap) (Af κ)) args s 0 0 (Af κ)) (F0 m 35 ls []) := by
  intro f
  induction f with
  | zero =>
    intro w v2 v3 H locs ls cells slots  h
    exact False.elim h
  | succ f ih =>
    intro w v2 v3 H locs ls cells slots  h hR hS hl hc hs
    have h : st_X8_war_35 κ y post ex (sp_X8_war_35 κ y post ex v1 f) v1 w v2 v3 := h
    unfold st_X8_war_35 at h
    refine lv_iload_n hx hb dX8_war_35 rfl (lv_at hl 3 rfl) ?_
    refine lv_aload_n hx hb dX8_war_36 rfl (lv_at hl 0 rfl) ?_
    refine g20_3 hx hb hts hown hK hR l0 q1948 dX8_war_37 ?_
    refine jr_size ⟨hx, hb, hml, hown, hts⟩ hK hR ⟨fun _ _ _ _ _ => rfl, fun _ _ _ _ _ => rfl⟩ hM.lsV q2031 ⟨Nat.le_of_ble_eq_true rfl, Nat.le_of_ble_eq_true rfl⟩ hl.1 (Nat.le_of_ble_eq_true rfl) dX8_war_40 ⟨(Nat.le_trans (show cells + 0 ≤ C1 from by omega) hC), (Nat.le_trans (show slots + 0 ≤ S1 from by omega) hSl)⟩ ?_
    refine lv_icmp_ge (tgt := 101) hx hb dX8_war_43 (by decide) (fun c_43 => ?_) (fun c_43 => ?_)
    · have h := h.1 c_43
      exact kx w v2 _ _ _ _ _ h hR hS (lv_sub hl [2] rfl) (by omega) (by omega)
    · have h := h.2 c_43
      refine lv_aload_n hx hb dX8_war_46 rfl (lv_at hl 0 rfl) ?_
      refine g20_3 hx hb hts hown hK hR l0 q1948 dX8_war_47 ?_
      refine lv_iload_n hx hb dX8_war_50 rfl (lv_at hl 3 rfl) ?_
      have o_51 := h.1
      have h := h.2
      refine jr_get (a := y.2 21 ((v3).toNatClampNeg)) ⟨hx, hb, hml, hown, hts⟩ hK hR ⟨fun _ _ _ _ _ => rfl, fun _ _ _ _ _ => rfl⟩ hM.lsV ⟨hM.arV (Nat.lt_of_le_of_lt (Nat.zero_le _) (vp_lt o_51)), (Nat.le_trans hM.mV8 (by decide))⟩ o_51 (hM.elV (vp_lt o_51)) q2101 ⟨Nat.le_of_ble_eq_true rfl, Nat.le_of_ble_eq_true rfl⟩ hl.1 (Nat.le_of_ble_eq_true rfl) dX8_war_51 ⟨(Nat.le_trans (show cells + 0 ≤ C1 from by omega) hC), (Nat.le_trans (show slots + 0 ≤ S1 from by omega) hSl)⟩ ?_
      refine jr_castS (ci := 12) hx hb hown hK hts (hR.role (hM.vil (vp_lt o_51))) rfl q2032 dX8_war_54 ?_
      refine lv_dup hx hb dX8_war_57 rfl ?_
      refine g21_11 hx hb hts hown hK hR (hM.vil (vp_lt o_51)) q2052 dX8_war_58 ?_
      refine lv_iload_n hx hb dX8_war_61 rfl (lv_at hl 1 rfl) ?_
      refine lv_iload_n hx hb dX8_war_62 rfl (lv_at hl 3 rfl) ?_
      refine ce_qi (fw := fun u => u) (fy := fun _ => y) (cr_S (n := 2) (As := [.int (v1), .int (v3)]) (rest := [.int (gv w 21 (((v3).toNatClampNeg)) 11), .ref (y.2 21 ((v3).toNatClampNeg))]) ⟨hx, hb, hml, hown, hts⟩ hK hR (m_X8_has hM h) q2102 q2103 q85 q2104 rfl rfl hds_X8_has ⟨Nat.le_of_ble_eq_true rfl, Nat.le_of_ble_eq_true rfl⟩ rfl rfl hl.1 rfl (lv_room (Nat.le_of_ble_eq_true rfl)) dX8_war_63 ⟨(Nat.le_trans (show cells + 0 ≤ C1 from by omega) hC), (Nat.le_trans (show slots + 0 ≤ S1 from by omega) hSl)⟩) hR hS (fun r_63 w_63 H locs h hR _ hS => ?_)
      refine lv_ior hx hb dX8_war_66 ?_
      have o_67 := h.1
      have h := h.2
      refine p21_11 hx hb hts hown hK hR hS (hM.vil (vp_lt o_51)) o_67 q2052 dX8_war_67 (fun H locs w_67 ew_67 hR hS => ?_)
      have h := h w_67 ew_67
      refine lv_iload_n hx hb dX8_war_70 rfl (lv_at hl 2 rfl) ?_
      refine lv_aload_n hx hb dX8_war_71 rfl (lv_at hl 0 rfl) ?_
      refine g20_3 hx hb hts hown hK hR l0 q1948 dX8_war_72 ?_
      refine lv_iload_n hx hb dX8_war_75 rfl (lv_at hl 3 rfl) ?_
      have o_76 := h.1
      have h := h.2
      refine jr_get (a := y.2 21 ((v3).toNatClampNeg)) ⟨hx, hb, hml, hown, hts⟩ hK hR ⟨fun _ _ _ _ _ => rfl, fun _ _ _ _ _ => rfl⟩ hM.lsV ⟨hM.arV (Nat.lt_of_le_of_lt (Nat.zero_le _) (vp_lt o_76)), (Nat.le_trans hM.mV8 (by decide))⟩ o_76 (hM.elV (vp_lt o_76)) q2101 ⟨Nat.le_of_ble_eq_true rfl, Nat.le_of_ble_eq_true rfl⟩ hl.1 (Nat.le_of_ble_eq_true rfl) dX8_war_76 ⟨(Nat.le_trans (show cells + 0 ≤ C1 from by omega) hC), (Nat.le_trans (show slots + 0 ≤ S1 from by omega) hSl)⟩ ?_
      refine jr_castS (ci := 12) hx hb hown hK hts (hR.role (hM.vil (vp_lt o_76))) rfl q2032 dX8_war_79 ?_
      refine g21_11 hx hb hts hown hK hR (hM.vil (vp_lt o_76)) q2052 dX8_war_82 ?_
      refine lv_if_eq (tgt := 92) hx hb dX8_war_85 (by decide) (fun c_85 => ?_) (fun c_85 => ?_)
      · have h := h.1 c_85
        refine lv_iconst (v := (0 : Int32)) hx hb dX8_war_92 (by decide) ?_
        refine lv_iadd hx hb dX8_war_93 ?_
        refine lv_topi (fun x_94 ex_94 => ?_)
        have h := h x_94 ex_94
        refine lv_istore_n (lv' := [(2, .int (x_94)), (0, .ref (y.2 20 0)), (1, .int (v1)), (3, .int (v3))]) hx hb dX8_war_94 rfl hl (by decide) rfl (fun ls hl => ?_)
        obtain ⟨x_95, ex_95⟩ : ∃ z : Int32, z = v3 + (1 : Int32) := ⟨_, rfl⟩
        have h := h x_95 ex_95
        refine lv_iinc (v := x_95) (lv' := [(3, .int (x_95)), (2, .int (x_94)), (0, .ref (y.2 20 0)), (1, .int (v1))]) hx hb dX8_war_95 hl (k := 3) rfl (by rw [ex_95]; rfl) (by decide) rfl (fun ls hl => ?_)
        refine lv_goto (tgt := 35) hx hb dX8_war_98 (by decide) ?_
        exact ih w_67 x_94 x_95 _ _ _ _ _  h hR hS (lv_sub hl [2, 3, 1, 0] rfl) (by omega) (by omega)
      · have h := h.2 c_85
        refine lv_iconst (v := (1 : Int32)) hx hb dX8_war_88 (by decide) ?_
        refine lv_goto (tgt := 93) hx hb dX8_war_89 (by decide) ?_
        refine lv_iadd hx hb dX8_war_93 ?_
        refine lv_topi (fun x_94_a ex_94_a => ?_)
        have h := h x_94_a ex_94_a
        refine lv_istore_n (lv' := [(2, .int (x_94_a)), (0, .ref (y.2 20 0)), (1, .int (v1)), (3, .int (v3))]) hx hb dX8_war_94 rfl hl (by decide) rfl (fun ls hl => ?_)
        obtain ⟨x_95_a, ex_95_a⟩ : ∃ z : Int32, z = v3 + (1 : Int32) := ⟨_, rfl⟩
        have h := h x_95_a ex_95_a
        refine lv_iinc (v := x_95_a) (lv' := [(3, .int (x_95_a)), (2, .int (x_94_a)), (0, .ref (y.2 20 0)), (1, .int (v1))]) hx hb dX8_war_95 hl (k := 3) rfl (by rw [ex_95_a]; rfl) (by decide) rfl (fun ls hl => ?_)
        refine lv_goto (tgt := 35) hx hb dX8_war_98 (by decide) ?_
        exact ih w_67 x_94_a x_95_a _ _ _ _ _  h hR hS (lv_sub hl [2, 3, 1, 0] rfl) (by omega) (by omega)
def st_X8_war_35x1 (κ : Kx) (y : Ly) (post : Int32 → Wd → Prop) (ex : Wd → (Int32) → Prop) (rec : Wd → Int32 → Int32 → Prop) (v1 : Int32) (w : Wd) (v2 : Int32) (v3 : Int32) : Prop := ((nI (mV y) ≤ v3) → (ex w v2)) ∧ ((¬ (nI (mV y) ≤ v3)) → ((vp_in (v3) (mV y)) ∧ (sp_X8_has κ y (fun r_63_a w_63_a => (nbo ((gv w 21 (((v3).toNatClampNeg)) 11) ||| r_63_a)) ∧ (∀ w_67_a : Wd, w_67_a = sv w_63_a 21 (((v3).toNatClampNeg)) 11 ((gv w 21 (((v3).toNatClampNeg)) 11) ||| r_63_a) → (vp_in (v3) (mV y)) ∧ (((gv w_67_a 21 (((v3).toNatClampNeg)) 11 = 0) → (∀ x_94_b : Int32, x_94_b = v2 + (0 : Int32) → ∀ x_95_b : Int32, x_95_b = v3 + (1 : Int32) → rec w_67_a x_94_b x_95_b)) ∧ ((¬ (gv w_67_a 21 (((v3).toNatClampNeg)) 11 = 0)) → (∀ x_94_c : Int32, x_94_c = v2 + (1 : Int32) → ∀ x_95_c : Int32, x_95_c = v3 + (1 : Int32) → rec w_67_a x_94_c x_95_c))))) w v1 v3)))
def sp_X8_war_35x1 (κ : Kx) (y : Ly) (post : Int32 → Wd → Prop) (ex : Wd → (Int32) → Prop) (v1 : Int32) : Nat → Wd → Int32 → Int32 → Prop
  | 0 => fun _ _ _ => False
  | n + 1 => fun w v2 v3 => st_X8_war_35x1 κ y post ex (sp_X8_war_35x1 κ y post ex v1 n) v1 w v2 v3
set_option maxHeartbeats 4000000 in
theorem lp_X8_war_35x1 {p : Program} {l : Launch} {e : Env} {s : State} {m : MethodId} {args : Array Value} {below : List Frame} {meth : Method} {c : Code} {κ : Kx} {y : Ly} {X : XR} {post : Int32 → Wd → Prop} {v1 : Int32} (hx : p.tables.exec = Jvm.exec) (hb : c.code = cX8_war) (hr : meth.sig.returnType = (Option.some Jvm.ClassFile.FieldType.int)) (hml : c.maxLocals = 4) (hown : s.vm.findClass RX8 = some m.cls) (hts : ∀ w ∈ lw_all, w.before args s = true) (hlocks : meth.locks = false) (hK : KK κ s) (hM : WFm κ y) (l0 : live y 20 0) {C1 S1 : Nat} (hC : C1 ≤ 0) (hSl : S1 ≤ 0) {ex : Wd → (Int32) → Prop}
    (kx : ∀ (w : Wd) (v2 : Int32) (H : Heap) (locs : List Loc) (ls : Array Slot) (cells slots : Nat) , ex w v2 → Rp κ w y X [] H → va_S (Af κ) s.heap H locs → lv_has ls 4 [(2, .int (v2))] → cells ≤ C1 → slots ≤ S1 → W p l e (headSpec (ws_ yX8_war cX8_war 4 (Option.some Jvm.ClassFile.FieldType.int)) rm_X8_war).room s m args below meth c H locs cells slots (MQ below (va_Qi post (fun w t => Rp κ w y X [] t.heap) (Af κ)) args s 0 0 (Af κ)) (F0 m 101 ls [])) :
    ∀ (f : Nat) (w : Wd) (v2 : Int32) (v3 : Int32) (H : Heap) (locs : List Loc) (ls : Array Slot) (cells slots : Nat)  , sp_X8_war_35x1 κ y post ex v1 f w v2 v3 → Rp κ w y X [] H → va_S (Af κ) s.heap H locs → lv_has ls 4 [(0, .ref (y.2 20 0)), (1, .int (v1)), (2, .int (v2)), (3, .int (v3))] → cells + f * 0 ≤ C1 → slots + f * 0 ≤ S1 → W p l e (headSpec (ws_ yX8_war cX8_war 4 (Option.some Jvm.ClassFile.FieldType.int)) rm_X8_war).room s m args below meth c H locs cells slots (MQ below (va_Qi post (fun w t => Rp κ w y X [] t.heap) (Af κ)) args s 0 0 (Af κ)) (F0 m 35 ls []) := by
  intro f
  induction f with
  | zero =>
    intro w v2 v3 H locs ls cells slots  h
    exact False.elim h
  | succ f ih =>
    intro w v2 v3 H locs ls cells slots  h hR hS hl hc hs
    have h : st_X8_war_35x1 κ y post ex (sp_X8_war_35x1 κ y post ex v1 f) v1 w v2 v3 := h
    unfold st_X8_war_35x1 at h
    refine lv_iload_n hx hb dX8_war_35 rfl (lv_at hl 3 rfl) ?_
    refine lv_aload_n hx hb dX8_war_36 rfl (lv_at hl 0 rfl) ?_
    refine g20_3 hx hb hts hown hK hR l0 q1948 dX8_war_37 ?_
    refine jr_size ⟨hx, hb, hml, hown, hts⟩ hK hR ⟨fun _ _ _ _ _ => rfl, fun _ _ _ _ _ => rfl⟩ hM.lsV q2031 ⟨Nat.le_of_ble_eq_true rfl, Nat.le_of_ble_eq_true rfl⟩ hl.1 (Nat.le_of_ble_eq_true rfl) dX8_war_40 ⟨(Nat.le_trans (show cells + 0 ≤ C1 from by omega) hC), (Nat.le_trans (show slots + 0 ≤ S1 from by omega) hSl)⟩ ?_
    refine lv_icmp_ge (tgt := 101) hx hb dX8_war_43 (by decide) (fun c_43_a => ?_) (fun c_43_a => ?_)
    · have h := h.1 c_43_a
      exact kx w v2 _ _ _ _ _ h hR hS (lv_sub hl [2] rfl) (by omega) (by omega)
    · have h := h.2 c_43_a
      refine lv_aload_n hx hb dX8_war_46 rfl (lv_at hl 0 rfl) ?_
      refine g20_3 hx hb hts hown hK hR l0 q1948 dX8_war_47 ?_
      refine lv_iload_n hx hb dX8_war_50 rfl (lv_at hl 3 rfl) ?_
      have o_51_a := h.1
      have h := h.2
      refine jr_get (a := y.2 21 ((v3).toNatClampNeg)) ⟨hx, hb, hml, hown, hts⟩ hK hR ⟨fun _ _ _ _ _ => rfl, fun _ _ _ _ _ => rfl⟩ hM.lsV ⟨hM.arV (Nat.lt_of_le_of_lt (Nat.zero_le _) (vp_lt o_51_a)), (Nat.le_trans hM.mV8 (by decide))⟩ o_51_a (hM.elV (vp_lt o_51_a)) q2101 ⟨Nat.le_of_ble_eq_true rfl, Nat.le_of_ble_eq_true rfl⟩ hl.1 (Nat.le_of_ble_eq_true rfl) dX8_war_51 ⟨(Nat.le_trans (show cells + 0 ≤ C1 from by omega) hC), (Nat.le_trans (show slots + 0 ≤ S1 from by omega) hSl)⟩ ?_
      refine jr_castS (ci := 12) hx hb hown hK hts (hR.role (hM.vil (vp_lt o_51_a))) rfl q2032 dX8_war_54 ?_
      refine lv_dup hx hb dX8_war_57 rfl ?_
      refine g21_11 hx hb hts hown hK hR (hM.vil (vp_lt o_51_a)) q2052 dX8_war_58 ?_
      refine lv_iload_n hx hb dX8_war_61 rfl (lv_at hl 1 rfl) ?_
      refine lv_iload_n hx hb dX8_war_62 rfl (lv_at hl 3 rfl) ?_
      refine ce_qi (fw := fun u => u) (fy := fun _ => y) (cr_S (n := 2) (As := [.int (v1), .int (v3)]) (rest := [.int (gv w 21 (((v3).toNatClampNeg)) 11), .ref (y.2 21 ((v3).toNatClampNeg))]) ⟨hx, hb, hml, hown, hts⟩ hK hR (m_X8_has hM h) q2102 q2103 q85 q2104 rfl rfl hds_X8_has ⟨Nat.le_of_ble_eq_true rfl, Nat.le_of_ble_eq_true rfl⟩ rfl rfl hl.1 rfl (lv_room (Nat.le_of_ble_eq_true rfl)) dX8_war_63 ⟨(Nat.le_trans (show cells + 0 ≤ C1 from by omega) hC), (Nat.le_trans (show slots + 0 ≤ S1 from by omega) hSl)⟩) hR hS (fun r_63_a w_63_a H locs h hR _ hS => ?_)
      refine lv_ior hx hb dX8_war_66 ?_
      have o_67_a := h.1
      have h := h.2
      refine p21_11 hx hb hts hown hK hR hS (hM.vil (vp_lt o_51_a)) o_67_a q2052 dX8_war_67 (fun H locs w_67_a ew_67_a hR hS => ?_)
      have h := h w_67_a ew_67_a
      refine lv_iload_n hx hb dX8_war_70 rfl (lv_at hl 2 rfl) ?_
      refine lv_aload_n hx hb dX8_war_71 rfl (lv_at hl 0 rfl) ?_
      refine g20_3 hx hb hts hown hK hR l0 q1948 dX8_war_72 ?_
      refine lv_iload_n hx hb dX8_war_75 rfl (lv_at hl 3 rfl) ?_
      have o_76_a := h.1
      have h := h.2
      refine jr_get (a := y.2 21 ((v3).toNatClampNeg)) ⟨hx, hb, hml, hown, hts⟩ hK hR ⟨fun _ _ _ _ _ => rfl, fun _ _ _ _ _ => rfl⟩ hM.lsV ⟨hM.arV (Nat.lt_of_le_of_lt (Nat.zero_le _) (vp_lt o_76_a)), (Nat.le_trans hM.mV8 (by decide))⟩ o_76_a (hM.elV (vp_lt o_76_a)) q2101 ⟨Nat.le_of_ble_eq_true rfl, Nat.le_of_ble_eq_true rfl⟩ hl.1 (Nat.le_of_ble_eq_true rfl) dX8_war_76 ⟨(Nat.le_trans (show cells + 0 ≤ C1 from by omega) hC), (Nat.le_trans (show slots + 0 ≤ S1 from by omega) hSl)⟩ ?_
      refine jr_castS (ci := 12) hx hb hown hK hts (hR.role (hM.vil (vp_lt o_76_a))) rfl q2032 dX8_war_79 ?_
      refine g21_11 hx hb hts hown hK hR (hM.vil (vp_lt o_76_a)) q2052 dX8_war_82 ?_
      refine lv_if_eq (tgt := 92) hx hb dX8_war_85 (by decide) (fun c_85_a => ?_) (fun c_85_a => ?_)
      · have h := h.1 c_85_a
        refine lv_iconst (v := (0 : Int32)) hx hb dX8_war_92 (by decide) ?_
        refine lv_iadd hx hb dX8_war_93 ?_
        refine lv_topi (fun x_94_b ex_94_b => ?_)
        have h := h x_94_b ex_94_b
        refine lv_istore_n (lv' := [(2, .int (x_94_b)), (0, .ref (y.2 20 0)), (1, .int (v1)), (3, .int (v3))]) hx hb dX8_war_94 rfl hl (by decide) rfl (fun ls hl => ?_)
        obtain ⟨x_95_b, ex_95_b⟩ : ∃ z : Int32, z = v3 + (1 : Int32) := ⟨_, rfl⟩
        have h := h x_95_b ex_95_b
        refine lv_iinc (v := x_95_b) (lv' := [(3, .int (x_95_b)), (2, .int (x_94_b)), (0, .ref (y.2 20 0)), (1, .int (v1))]) hx hb dX8_war_95 hl (k := 3) rfl (by rw [ex_95_b]; rfl) (by decide) rfl (fun ls hl => ?_)
        refine lv_goto (tgt := 35) hx hb dX8_war_98 (by decide) ?_
        exact ih w_67_a x_94_b x_95_b _ _ _ _ _  h hR hS (lv_sub hl [2, 3, 1, 0] rfl) (by omega) (by omega)
      · have h := h.2 c_85_a
        refine lv_iconst (v := (1 : Int32)) hx hb dX8_war_88 (by decide) ?_
        refine lv_goto (tgt := 93) hx hb dX8_war_89 (by decide) ?_
        refine lv_iadd hx hb dX8_war_93 ?_
        refine lv_topi (fun x_94_c ex_94_c => ?_)
        have h := h x_94_c ex_94_c
        refine lv_istore_n (lv' := [(2, .int (x_94_c)), (0, .ref (y.2 20 0)), (1, .int (v1)), (3, .int (v3))]) hx hb dX8_war_94 rfl hl (by decide) rfl (fun ls hl => ?_)
        obtain ⟨x_95_c, ex_95_c⟩ : ∃ z : Int32, z = v3 + (1 : Int32) := ⟨_, rfl⟩
        have h := h x_95_c ex_95_c
        refine lv_iinc (v := x_95_c) (lv' := [(3, .int (x_95_c)), (2, .int (x_94_c)), (0, .ref (y.2 20 0)), (1, .int (v1))]) hx hb dX8_war_95 hl (k := 3) rfl (by rw [ex_95_c]; rfl) (by decide) rfl (fun ls hl => ?_)
        refine lv_goto (tgt := 35) hx hb dX8_war_98 (by decide) ?_
        exact ih w_67_a x_94_c x_95_c _ _ _ _ _  h hR hS (lv_sub hl [2, 3, 1, 0] rfl) (by omega) (by omega)
def st_X8_war_35x2 (κ : Kx) (y : Ly) (post : Int32 → Wd → Prop) (ex : Wd → (Int32) → Prop) (rec : Wd → Int32 → Int32 → Prop) (v1 : Int32) (w : Wd) (v2 : Int32) (v3 : Int32) : Prop := ((nI (mV y) ≤ v3) → (ex w v2)) ∧ ((¬ (nI (mV y) ≤ v3)) → ((vp_in (v3) (mV y)) ∧ (sp_X8_has κ y (fun r_63_b w_63_b => (nbo ((gv w 21 (((v3).toNatClampNeg)) 11) ||| r_63_b)) ∧ (∀ w_67_b : Wd, w_67_b = sv w_63_b 21 (((v3).toNatClampNeg)) 11 ((gv w 21 (((v3).toNatClampNeg)) 11) ||| r_63_b) → (vp_in (v3) (mV y)) ∧ (((gv w_67_b 21 (((v3).toNatClampNeg)) 11 = 0) → (∀ x_94_d : Int32, x_94_d = v2 + (0 : Int32) → ∀ x_95_d : Int32, x_95_d = v3 + (1 : Int32) → rec w_67_b x_94_d x_95_d)) ∧ ((¬ (gv w_67_b 21 (((v3).toNatClampNeg)) 11 = 0)) → (∀ x_94_e : Int32, x_94_e = v2 + (1 : Int32) → ∀ x_95_e : Int32, x_95_e = v3 + (1 : Int32) → rec w_67_b x_94_e x_95_e))))) w v1 v3)))
def sp_X8_war_35x2 (κ : Kx) (y : Ly) (post : Int32 → Wd → Prop) (ex : Wd → (Int32) → Prop) (v1 : Int32) : Nat → Wd → Int32 → Int32 → Prop
  | 0 => fun _ _ _ => False
  | n + 1 => fun w v2 v3 => st_X8_war_35x2 κ y post ex (sp_X8_war_35x2 κ y post ex v1 n) v1 w v2 v3
set_option maxHeartbeats 4000000 in
theorem lp_X8_war_35x2 {p : Program} {l : Launch} {e : Env} {s : State} {m : MethodId} {args : Array Value} {below : List Frame} {meth : Method} {c : Code} {κ : Kx} {y : Ly} {X : XR} {post : Int32 → Wd → Prop} {v1 : Int32} (hx : p.tables.exec = Jvm.exec) (hb : c.code = cX8_war) (hr : meth.sig.returnType = (Option.some Jvm.ClassFile.FieldType.int)) (hml : c.maxLocals = 4) (hown : s.vm.findClass RX8 = some m.cls) (hts : ∀ w ∈ lw_all, w.before args s = true) (hlocks : meth.locks = false) (hK : KK κ s) (hM : WFm κ y) (l0 : live y 20 0) {C1 S1 : Nat} (hC : C1 ≤ 0) (hSl : S1 ≤ 0) {ex : Wd → (Int32) → Prop}
    (kx : ∀ (w : Wd) (v2 : Int32) (H : Heap) (locs : List Loc) (ls : Array Slot) (cells slots : Nat) , ex w v2 → Rp κ w y X [] H → va_S (Af κ) s.heap H locs → lv_has ls 4 [(2, .int (v2))] → cells ≤ C1 → slots ≤ S1 → W p l e (headSpec (ws_ yX8_war cX8_war 4 (Option.some Jvm.ClassFile.FieldType.int)) rm_X8_war).room s m args below meth c H locs cells slots (MQ below (va_Qi post (fun w t => Rp κ w y X [] t.heap) (Af κ)) args s 0 0 (Af κ)) (F0 m 101 ls [])) :
    ∀ (f : Nat) (w : Wd) (v2 : Int32) (v3 : Int32) (H : Heap) (locs : List Loc) (ls : Array Slot) (cells slots : Nat)  , sp_X8_war_35x2 κ y post ex v1 f w v2 v3 → Rp κ w y X [] H → va_S (Af κ) s.heap H locs → lv_has ls 4 [(0, .ref (y.2 20 0)), (1, .int (v1)), (2, .int (v2)), (3, .int (v3))] → cells + f * 0 ≤ C1 → slots + f * 0 ≤ S1 → W p l e (headSpec (ws_ yX8_war cX8_war 4 (Option.some Jvm.ClassFile.FieldType.int)) rm_X8_war).room s m args below meth c H locs cells slots (MQ below (va_Qi post (fun w t => Rp κ w y X [] t.heap) (Af κ)) args s 0 0 (Af κ)) (F0 m 35 ls []) := by
  intro f
  induction f with
  | zero =>
    intro w v2 v3 H locs ls cells slots  h
    exact False.elim h
  | succ f ih =>
    intro w v2 v3 H locs ls cells slots  h hR hS hl hc hs
    have h : st_X8_war_35x2 κ y post ex (sp_X8_war_35x2 κ y post ex v1 f) v1 w v2 v3 := h
    unfold st_X8_war_35x2 at h
    refine lv_iload_n hx hb dX8_war_35 rfl (lv_at hl 3 rfl) ?_
    refine lv_aload_n hx hb dX8_war_36 rfl (lv_at hl 0 rfl) ?_
    refine g20_3 hx hb hts hown hK hR l0 q1948 dX8_war_37 ?_
    refine jr_size ⟨hx, hb, hml, hown, hts⟩ hK hR ⟨fun _ _ _ _ _ => rfl, fun _ _ _ _ _ => rfl⟩ hM.lsV q2031 ⟨Nat.le_of_ble_eq_true rfl, Nat.le_of_ble_eq_true rfl⟩ hl.1 (Nat.le_of_ble_eq_true rfl) dX8_war_40 ⟨(Nat.le_trans (show cells + 0 ≤ C1 from by omega) hC), (Nat.le_trans (show slots + 0 ≤ S1 from by omega) hSl)⟩ ?_
    refine lv_icmp_ge (tgt := 101) hx hb dX8_war_43 (by decide) (fun c_43_b => ?_) (fun c_43_b => ?_)
    · have h := h.1 c_43_b
      exact kx w v2 _ _ _ _ _ h hR hS (lv_sub hl [2] rfl) (by omega) (by omega)
    · have h := h.2 c_43_b
      refine lv_aload_n hx hb dX8_war_46 rfl (lv_at hl 0 rfl) ?_
      refine g20_3 hx hb hts hown hK hR l0 q1948 dX8_war_47 ?_
      refine lv_iload_n hx hb dX8_war_50 rfl (lv_at hl 3 rfl) ?_
      have o_51_b := h.1
      have h := h.2
      refine jr_get (a := y.2 21 ((v3).toNatClampNeg)) ⟨hx, hb, hml, hown, hts⟩ hK hR ⟨fun _ _ _ _ _ => rfl, fun _ _ _ _ _ => rfl⟩ hM.lsV ⟨hM.arV (Nat.lt_of_le_of_lt (Nat.zero_le _) (vp_lt o_51_b)), (Nat.le_trans hM.mV8 (by decide))⟩ o_51_b (hM.elV (vp_lt o_51_b)) q2101 ⟨Nat.le_of_ble_eq_true rfl, Nat.le_of_ble_eq_true rfl⟩ hl.1 (Nat.le_of_ble_eq_true rfl) dX8_war_51 ⟨(Nat.le_trans (show cells + 0 ≤ C1 from by omega) hC), (Nat.le_trans (show slots + 0 ≤ S1 from by omega) hSl)⟩ ?_
      refine jr_castS (ci := 12) hx hb hown hK hts (hR.role (hM.vil (vp_lt o_51_b))) rfl q2032 dX8_war_54 ?_
      refine lv_dup hx hb dX8_war_57 rfl ?_
      refine g21_11 hx hb hts hown hK hR (hM.vil (vp_lt o_51_b)) q2052 dX8_war_58 ?_
      refine lv_iload_n hx hb dX8_war_61 rfl (lv_at hl 1 rfl) ?_
      refine lv_iload_n hx hb dX8_war_62 rfl (lv_at hl 3 rfl) ?_
      refine ce_qi (fw := fun u => u) (fy := fun _ => y) (cr_S (n := 2) (As := [.int (v1), .int (v3)]) (rest := [.int (gv w 21 (((v3).toNatClampNeg)) 11), .ref (y.2 21 ((v3).toNatClampNeg))]) ⟨hx, hb, hml, hown, hts⟩ hK hR (m_X8_has hM h) q2102 q2103 q85 q2104 rfl rfl hds_X8_has ⟨Nat.le_of_ble_eq_true rfl, Nat.le_of_ble_eq_true rfl⟩ rfl rfl hl.1 rfl (lv_room (Nat.le_of_ble_eq_true rfl)) dX8_war_63 ⟨(Nat.le_trans (show cells + 0 ≤ C1 from by omega) hC), (Nat.le_trans (show slots + 0 ≤ S1 from by omega) hSl)⟩) hR hS (fun r_63_b w_63_b H locs h hR _ hS => ?_)
      refine lv_ior hx hb dX8_war_66 ?_
      have o_67_b := h.1
      have h := h.2
      refine p21_11 hx hb hts hown hK hR hS (hM.vil (vp_lt o_51_b)) o_67_b q2052 dX8_war_67 (fun H locs w_67_b ew_67_b hR hS => ?_)
      have h := h w_67_b ew_67_b
      refine lv_iload_n hx hb dX8_war_70 rfl (lv_at hl 2 rfl) ?_
      refine lv_aload_n hx hb dX8_war_71 rfl (lv_at hl 0 rfl) ?_
      refine g20_3 hx hb hts hown hK hR l0 q1948 dX8_war_72 ?_
      refine lv_iload_n hx hb dX8_war_75 rfl (lv_at hl 3 rfl) ?_
      have o_76_b := h.1
      have h := h.2
      refine jr_get (a := y.2 21 ((v3).toNatClampNeg)) ⟨hx, hb, hml, hown, hts⟩ hK hR ⟨fun _ _ _ _ _ => rfl, fun _ _ _ _ _ => rfl⟩ hM.lsV ⟨hM.arV (Nat.lt_of_le_of_lt (Nat.zero_le _) (vp_lt o_76_b)), (Nat.le_trans hM.mV8 (by decide))⟩ o_76_b (hM.elV (vp_lt o_76_b)) q2101 ⟨Nat.le_of_ble_eq_true rfl, Nat.le_of_ble_eq_true rfl⟩ hl.1 (Nat.le_of_ble_eq_true rfl) dX8_war_76 ⟨(Nat.le_trans (show cells + 0 ≤ C1 from by omega) hC), (Nat.le_trans (show slots + 0 ≤ S1 from by omega) hSl)⟩ ?_
      refine jr_castS (ci := 12) hx hb hown hK hts (hR.role (hM.vil (vp_lt o_76_b))) rfl q2032 dX8_war_79 ?_
      refine g21_11 hx hb hts hown hK hR (hM.vil (vp_lt o_76_b)) q2052 dX8_war_82 ?_
      refine lv_if_eq (tgt := 92) hx hb dX8_war_85 (by decide) (fun c_85_b => ?_) (fun c_85_b => ?_)
      · have h := h.1 c_85_b
        refine lv_iconst (v := (0 : Int32)) hx hb dX8_war_92 (by decide) ?_
        refine lv_iadd hx hb dX8_war_93 ?_
        refine lv_topi (fun x_94_d ex_94_d => ?_)
        have h := h x_94_d ex_94_d
        refine lv_istore_n (lv' := [(2, .int (x_94_d)), (0, .ref (y.2 20 0)), (1, .int (v1)), (3, .int (v3))]) hx hb dX8_war_94 rfl hl (by decide) rfl (fun ls hl => ?_)
        obtain ⟨x_95_d, ex_95_d⟩ : ∃ z : Int32, z = v3 + (1 : Int32) := ⟨_, rfl⟩
        have h := h x_95_d ex_95_d
        refine lv_iinc (v := x_95_d) (lv' := [(3, .int (x_95_d)), (2, .int (x_94_d)), (0, .ref (y.2 20 0)), (1, .int (v1))]) hx hb dX8_war_95 hl (k := 3) rfl (by rw [ex_95_d]; rfl) (by decide) rfl (fun ls hl => ?_)
        refine lv_goto (tgt := 35) hx hb dX8_war_98 (by decide) ?_
        exact ih w_67_b x_94_d x_95_d _ _ _ _ _  h hR hS (lv_sub hl [2, 3, 1, 0] rfl) (by omega) (by omega)
      · have h := h.2 c_85_b
        refine lv_iconst (v := (1 : Int32)) hx hb dX8_war_88 (by decide) ?_
        refine lv_goto (tgt := 93) hx hb dX8_war_89 (by decide) ?_
        refine lv_iadd hx hb dX8_war_93 ?_
        refine lv_topi (fun x_94_e ex_94_e => ?_)
        have h := h x_94_e ex_94_e
        refine lv_istore_n (lv' := [(2, .int (x_94_e)), (0, .ref (y.2 20 0)), (1, .int (v1)), (3, .int (v3))]) hx hb dX8_war_94 rfl hl (by decide) rfl (fun ls hl => ?_)
        obtain ⟨x_95_e, ex_95_e⟩ : ∃ z : Int32, z = v3 + (1 : Int32) := ⟨_, rfl⟩
        have h := h x_95_e ex_95_e
        refine lv_iinc (v := x_95_e) (lv' := [(3, .int (x_95_e)), (2, .int (x_94_e)), (0, .ref (y.2 20 0)), (1, .int (v1))]) hx hb dX8_war_95 hl (k := 3) rfl (by rw [ex_95_e]; rfl) (by decide) rfl (fun ls hl => ?_)
        refine lv_goto (tgt := 35) hx hb dX8_war_98 (by decide) ?_
        exact ih w_67_b x_94_e x_95_e _ _ _ _ _  h hR hS (lv_sub hl [2, 3, 1, 0] rfl) (by omega) (by omega)
def sp_X8_war (κ : Kx) (y : Ly) (post : Int32 → Wd → Prop) (w : Wd) (p1 : Int32) : Prop := ((p1 < 0) → (sp_X8_start κ y (fun r_23 w_23 => ((r_23 = 0) → (sp_X8_war_35 κ y post (fun w_35 y2_35 => post (y2_35) w_35) p1 9 w_23 (0 : Int32) (0 : Int32))) ∧ ((¬ (r_23 = 0)) → (post ((0 : Int32)) w_23))) w (1 : Int32) (1 : Int32))) ∧ ((¬ (p1 < 0)) → (((p1 >>> ((nI (mV y)) &&& 31) = 0) → (sp_X8_start κ y (fun r_23_a w_23_a => ((r_23_a = 0) → (sp_X8_war_35x1 κ y post (fun w_35_a y2_35_a => post (y2_35_a) w_35_a) p1 9 w_23_a (0 : Int32) (0 : Int32))) ∧ ((¬ (r_23_a = 0)) → (post ((0 : Int32)) w_23_a))) w (0 : Int32) (1 : Int32))) ∧ ((¬ (p1 >>> ((nI (mV y)) &&& 31) = 0)) → (sp_X8_start κ y (fun r_23_b w_23_b => ((r_23_b = 0) → (sp_X8_war_35x2 κ y post (fun w_35_b y2_35_b => post (y2_35_b) w_35_b) p1 9 w_23_b (0 : Int32) (0 : Int32))) ∧ ((¬ (r_23_b = 0)) → (post ((0 : Int32)) w_23_b))) w (1 : Int32) (1 : Int32)))))
theorem hd_X8_war : yX8_war.cls = RX8 ∧ yX8_war.cls ≠ "java/lang/invoke/MethodHandle" ∧ yX8_war.cls ≠ "java/lang/invoke/VarHandle" ∧ (parseMethodDescriptor yX8_war.desc).map (fun d => d.parameters.length) = some 1 := by decide +kernel
set_option maxHeartbeats 4000000 in
theorem m_X8_war {l : Launch} {κ : Kx} {y : Ly} {X : XR} {post : Int32 → Wd → Prop} {w : Wd} {p1 : Int32}  (hM : WFm κ y) (l0 : live y 20 0) (h : sp_X8_war κ y post w p1) : Met l yX8_war (ws_ yX8_war cX8_war 4 (Option.some Jvm.ClassFile.FieldType.int)) rm_X8_war (va_Pc [.ref (y.2 20 0), .int (p1)] (RC κ w y X)) (va_Qi post (fun w t => Rp κ w y X [] t.heap) (Af κ)) 0 0 (Af κ) := by
  unfold sp_X8_war at h
  refine Met.ofW (cc := cX8_war) (maxL := 4) (ret := (Option.some Jvm.ClassFile.FieldType.int)) (by decide) rfl ?_
  intro p e s m args below meth c s₁ B hml hv
  obtain ⟨rfl, hR, hK⟩ := hv
  have hx := B.exec
  have hb := B.bytes
  have hr := B.returns
  have hts := atoms_spec (ws := ws_ yX8_war cX8_war 4 (Option.some Jvm.ClassFile.FieldType.int)) B.pre
  have hts : ∀ w ∈ lw_all, w.before _ s = true := fun w h => hts w (List.mem_cons_of_mem _ h)
  have hown : s.vm.findClass RX8 = some m.cls := findClass_of_methodNamed B.named
  have hlocks := B.notSynchronized
  have hS : va_S (Af κ) s.heap s.heap [] := va_S.rf
  have hl := lv_entry ([.ref (y.2 20 0), .int (p1)]) (n := 4) (Nat.le_of_ble_eq_true rfl)
  rw [lg_entry_eq]
  generalize (lg_sl ([.ref (y.2 20 0), .int (p1)]) ++ List.replicate (4 - (lg_sl ([.ref (y.2 20 0), .int (p1)])).length) Slot.unset).toArray = ls at hl ⊢
  have hl : lv_has ls 4 [(0, .ref (y.2 20 0)), (1, .int (p1))] := hl
  refine lv_aload_n hx hb dX8_war_0 rfl (lv_at hl 0 rfl) ?_
  refine lv_iload_n hx hb dX8_war_1 rfl (lv_at hl 1 rfl) ?_
  refine lv_if_lt (tgt := 17) hx hb dX8_war_2 (by decide) (fun c_2 => ?_) (fun c_2 => ?_)
  · have h := h.1 c_2
    refine lv_iconst (v := (1 : Int32)) hx hb dX8_war_17 (by decide) ?_
    refine lv_goto (tgt := 22) hx hb dX8_war_18 (by decide) ?_
    refine lv_iconst (v := (1 : Int32)) hx hb dX8_war_22 (by decide) ?_
    refine ce_qi (fw := fun u => u) (fy := fun _ => y) (cr_V (n := 2) (As := [.int ((1 : Int32)), .int ((1 : Int32))]) (rest := []) ⟨hx, hb, hml, hown, hts⟩ hK hR (m_X8_start hM l0 h) q2023 q2025 qs37 q85 q2026 rfl rfl hd_X8_start ⟨Nat.le_of_ble_eq_true rfl, Nat.le_of_ble_eq_true rfl⟩ (rv hK hR l0 (ci := 11) rfl rfl) rfl rfl hl.1 rfl (lv_room (Nat.le_of_ble_eq_true rfl)) dX8_war_23 ⟨(Nat.le_of_ble_eq_true rfl), (Nat.le_of_ble_eq_true rfl)⟩) hR hS (fun r_23 w_23 H locs h hR _ hS => ?_)
    refine lv_if_eq (tgt := 31) hx hb dX8_war_26 (by decide) (fun c_26 => ?_) (fun c_26 => ?_)
    · have h := h.1 c_26
      refine lv_iconst (v := (0 : Int32)) hx hb dX8_war_31 (by decide) ?_
      refine lv_istore_n (lv' := [(2, .int ((0 : Int32))), (0, .ref (y.2 20 0)), (1, .int (p1))]) hx hb dX8_war_32 rfl hl (by decide) rfl (fun ls hl => ?_)
      refine lv_iconst (v := (0 : Int32)) hx hb dX8_war_33 (by decide) ?_
      refine lv_istore_n (lv' := [(3, .int ((0 : Int32))), (2, .int ((0 : Int32))), (0, .ref (y.2 20 0)), (1, .int (p1))]) hx hb dX8_war_34 rfl hl (by decide) rfl (fun ls hl => ?_)
      refine lp_X8_war_35 (C1 := 0) (S1 := 0) hx hb hr hml hown hts hlocks hK hM l0 (Nat.le_of_ble_eq_true rfl) (Nat.le_of_ble_eq_true rfl) (fun w_35 y2_35 H locs ls cells9 slots9 h hR hS hl hc9 hs9 => ?_) 9 w_23 (0 : Int32) (0 : Int32) _ _ _ _ _  h hR hS (lv_sub hl [2, 3, 1, 0] rfl) (by omega) (by omega)
      refine W.widen (k := 0) (n := 0) hc9 hs9 ?_
      refine lv_iload_n hx hb dX8_war_101 rfl (lv_at hl 0 rfl) ?_
      refine W.widen (k := 0) (n := 0) (Nat.le_of_ble_eq_true rfl) (Nat.le_of_ble_eq_true rfl) ?_
      exact W.iret (v := y2_35) hx hb hr (fun t ht hW9 => ⟨⟨y2_35, w_35, rfl, h, rpt ht hR⟩, hS.F ht⟩) hS.2.2 dX8_war_102
    · have h := h.2 c_26
      refine lv_iconst (v := (0 : Int32)) hx hb dX8_war_29 (by decide) ?_
      refine W.widen (k := 0) (n := 0) (Nat.le_of_ble_eq_true rfl) (Nat.le_of_ble_eq_true rfl) ?_
      exact W.iret (v := (0 : Int32)) hx hb hr (fun t ht hW9 => ⟨⟨(0 : Int32), w_23, rfl, h, rpt ht hR⟩, hS.F ht⟩) hS.2.2 dX8_war_30
  · have h := h.2 c_2
    refine lv_iload_n hx hb dX8_war_5 rfl (lv_at hl 1 rfl) ?_
    refine lv_aload_n hx hb dX8_war_6 rfl (lv_at hl 0 rfl) ?_
    refine g20_3 hx hb hts hown hK hR l0 q1948 dX8_war_7 ?_
    refine jr_size ⟨hx, hb, hml, hown, hts⟩ hK hR ⟨fun _ _ _ _ _ => rfl, fun _ _ _ _ _ => rfl⟩ hM.lsV q2031 ⟨Nat.le_of_ble_eq_true rfl, Nat.le_of_ble_eq_true rfl⟩ hl.1 (Nat.le_of_ble_eq_true rfl) dX8_war_10 ⟨(Nat.le_of_ble_eq_true rfl), (Nat.le_of_ble_eq_true rfl)⟩ ?_
    refine lv_ishr hx hb dX8_war_13 ?_
    refine lv_if_eq (tgt := 21) hx hb dX8_war_14 (by decide) (fun c_14 => ?_) (fun c_14 => ?_)
    · have h := h.1 c_14
      refine lv_iconst (v := (0 : Int32)) hx hb dX8_war_21 (by decide) ?_
      refine lv_iconst (v := (1 : Int32)) hx hb dX8_war_22 (by decide) ?_
      refine ce_qi (fw := fun u => u) (fy := fun _ => y) (cr_V (n := 2) (As := [.int ((0 : Int32)), .int ((1 : Int32))]) (rest := []) ⟨hx, hb, hml, hown, hts⟩ hK hR (m_X8_start hM l0 h) q2023 q2025 qs37 q85 q2026 rfl rfl hd_X8_start ⟨Nat.le_of_ble_eq_true rfl, Nat.le_of_ble_eq_true rfl⟩ (rv hK hR l0 (ci := 11) rfl rfl) rfl rfl hl.1 rfl (lv_room (Nat.le_of_ble_eq_true rfl)) dX8_war_23 ⟨(Nat.le_of_ble_eq_true rfl), (Nat.le_of_ble_eq_true rfl)⟩) hR hS (fun r_23_a w_23_a H locs h hR _ hS => ?_)
      refine lv_if_eq (tgt := 31) hx hb dX8_war_26 (by decide) (fun c_26_a => ?_) (fun c_26_a => ?_)
      · have h := h.1 c_26_a
        refine lv_iconst (v := (0 : Int32)) hx hb dX8_war_31 (by decide) ?_
        refine lv_istore_n (lv' := [(2, .int ((0 : Int32))), (0, .ref (y.2 20 0)), (1, .int (p1))]) hx hb dX8_war_32 rfl hl (by decide) rfl (fun ls hl => ?_)
        refine lv_iconst (v := (0 : Int32)) hx hb dX8_war_33 (by decide) ?_
        refine lv_istore_n (lv' := [(3, .int ((0 : Int32))), (2, .int ((0 : Int32))), (0, .ref (y.2 20 0)), (1, .int (p1))]) hx hb dX8_war_34 rfl hl (by decide) rfl (fun ls hl => ?_)
        refine lp_X8_war_35x1 (C1 := 0) (S1 := 0) hx hb hr hml hown hts hlocks hK hM l0 (Nat.le_of_ble_eq_true rfl) (Nat.le_of_ble_eq_true rfl) (fun w_35_a y2_35_a H locs ls cells9 slots9 h hR hS hl hc9 hs9 => ?_) 9 w_23_a (0 : Int32) (0 : Int32) _ _ _ _ _  h hR hS (lv_sub hl [2, 3, 1, 0] rfl) (by omega) (by omega)
        refine W.widen (k := 0) (n := 0) hc9 hs9 ?_
        refine lv_iload_n hx hb dX8_war_101 rfl (lv_at hl 0 rfl) ?_
        refine W.widen (k := 0) (n := 0) (Nat.le_of_ble_eq_true rfl) (Nat.le_of_ble_eq_true rfl) ?_
        exact W.iret (v := y2_35_a) hx hb hr (fun t ht hW9 => ⟨⟨y2_35_a, w_35_a, rfl, h, rpt ht hR⟩, hS.F ht⟩) hS.2.2 dX8_war_102
      · have h := h.2 c_26_a
        refine lv_iconst (v := (0 : Int32)) hx hb dX8_war_29 (by decide) ?_
        refine W.widen (k := 0) (n := 0) (Nat.le_of_ble_eq_true rfl) (Nat.le_of_ble_eq_true rfl) ?_
        exact W.iret (v := (0 : Int32)) hx hb hr (fun t ht hW9 => ⟨⟨(0 : Int32), w_23_a, rfl, h, rpt ht hR⟩, hS.F ht⟩) hS.2.2 dX8_war_30
    · have h := h.2 c_14
      refine lv_iconst (v := (1 : Int32)) hx hb dX8_war_17 (by decide) ?_
      refine lv_goto (tgt := 22) hx hb dX8_war_18 (by decide) ?_
      refine lv_iconst (v := (1 : Int32)) hx hb dX8_war_22 (by decide) ?_
      refine ce_qi (fw := fun u => u) (fy := fun _ => y) (cr_V (n := 2) (As := [.int ((1 : Int32)), .int ((1 : Int32))]) (rest := []) ⟨hx, hb, hml, hown, hts⟩ hK hR (m_X8_start hM l0 h) q2023 q2025 qs37 q85 q2026 rfl rfl hd_X8_start ⟨Nat.le_of_ble_eq_true rfl, Nat.le_of_ble_eq_true rfl⟩ (rv hK hR l0 (ci := 11) rfl rfl) rfl rfl hl.1 rfl (lv_room (Nat.le_of_ble_eq_true rfl)) dX8_war_23 ⟨(Nat.le_of_ble_eq_true rfl), (Nat.le_of_ble_eq_true rfl)⟩) hR hS (fun r_23_b w_23_b H locs h hR _ hS => ?_)
      refine lv_if_eq (tgt := 31) hx hb dX8_war_26 (by decide) (fun c_26_b => ?_) (fun c_26_b => ?_)
      · have h := h.1 c_26_b
        refine lv_iconst (v := (0 : Int32)) hx hb dX8_war_31 (by decide) ?_
        refine lv_istore_n (lv' := [(2, .int ((0 : Int32))), (0, .ref (y.2 20 0)), (1, .int (p1))]) hx hb dX8_war_32 rfl hl (by decide) rfl (fun ls hl => ?_)
        refine lv_iconst (v := (0 : Int32)) hx hb dX8_war_33 (by decide) ?_
        refine lv_istore_n (lv' := [(3, .int ((0 : Int32))), (2, .int ((0 : Int32))), (0, .ref (y.2 20 0)), (1, .int (p1))]) hx hb dX8_war_34 rfl hl (by decide) rfl (fun ls hl => ?_)
        refine lp_X8_war_35x2 (C1 := 0) (S1 := 0) hx hb hr hml hown hts hlocks hK hM l0 (Nat.le_of_ble_eq_true rfl) (Nat.le_of_ble_eq_true rfl) (fun w_35_b y2_35_b H locs ls cells9 slots9 h hR hS hl hc9 hs9 => ?_) 9 w_23_b (0 : Int32) (0 : Int32) _ _ _ _ _  h hR hS (lv_sub hl [2, 3, 1, 0] rfl) (by omega) (by omega)
        refine W.widen (k := 0) (n := 0) hc9 hs9 ?_
        refine lv_iload_n hx hb dX8_war_101 rfl (lv_at hl 0 rfl) ?_
        refine W.widen (k := 0) (n := 0) (Nat.le_of_ble_eq_true rfl) (Nat.le_of_ble_eq_true rfl) ?_
        exact W.iret (v := y2_35_b) hx hb hr (fun t ht hW9 => ⟨⟨y2_35_b, w_35_b, rfl, h, rpt ht hR⟩, hS.F ht⟩) hS.2.2 dX8_war_102
      · have h := h.2 c_26_b
        refine lv_iconst (v := (0 : Int32)) hx hb dX8_war_29 (by decide) ?_
        refine W.widen (k := 0) (n := 0) (Nat.le_of_ble_eq_true rfl) (Nat.le_of_ble_eq_true rfl) ?_
        exact W.iret (v := (0 : Int32)) hx hb hr (fun t ht hW9 => ⟨⟨(0 : Int32), w_23_b, rfl, h, rpt ht hR⟩, hS.F ht⟩) hS.2.2 dX8_war_30
abbrev rm_X8_edict : Room := { frames := 2, cells := 0, slots := 0, locals := 44 }
def sp_X8_edict (κ : Kx) (y : Ly) (post : Int32 → Wd → Prop) (w : Wd) (p1 : Int32) (p2 : Int32) (p3 : Int32) : Prop := ∀ j22 : Wd → Int32 → Prop, (j22 = fun (w22 : Wd) (s0_22 : Int32) => sp_X8_isNoDuty κ y (fun r_26 w_26 => sp_X8_start κ y (fun r_30 w_30 => ((¬ r_30 = 0) → (post ((0 : Int32)) w_30)) ∧ ((r_30 = 0) → (sp_X8_isIn κ y (fun r_41 w_41 => ∀ j63 : Wd → Int32 → Prop, (j63 = fun (w63 : Wd) (s0_63 : Int32) => sp_X8_refuse κ y (fun r_64 w_64 => ((r_64 = 0) → ((vp_in (p1) 3) ∧ (∀ w_78 : Wd, w_78 = sv w_64 32 0 (p1).toNatClampNeg (p2) → (vp_in (p1) 3) ∧ (∀ w_85 : Wd, w_85 = sv w_78 33 0 (p1).toNatClampNeg (p3) → post ((gv w_85 20 0 12) + (1 : Int32)) w_85)))) ∧ ((¬ (r_64 = 0)) → (post ((0 : Int32)) w_64))) w63 s0_63 (2 : Int32)) → (((r_41 = 0) → (j63 w_41 (1 : Int32))) ∧ ((¬ (r_41 = 0)) → (sp_X8_isIn κ y (fun r_52 w_52 => ((¬ r_52 = 0) → (j63 w_52 (0 : Int32))) ∧ ((r_52 = 0) → (j63 w_52 (1 : Int32)))) w_41 p3 (0 : Int32) (255 : Int32))))) w_30 p2 (0 : Int32) s0_22))) w_26 r_26 (1 : Int32)) w22 p1) → (((¬ p1 = 0) → (((¬ p1 = (1 : Int32)) → (j22 w (9 : Int32))) ∧ ((p1 = (1 : Int32)) → (j22 w (60 : Int32))))) ∧ ((p1 = 0) → (j22 w (300 : Int32))))
theorem hd_X8_edict : yX8_edict.cls = RX8 ∧ yX8_edict.cls ≠ "java/lang/invoke/MethodHandle" ∧ yX8_edict.cls ≠ "java/lang/invoke/VarHandle" ∧ (parseMethodDescriptor yX8_edict.desc).map (fun d => d.parameters.length) = some 3 := by decide +kernel
set_option maxHeartbeats 4000000 in
theorem m_X8_edict {l : Launch} {κ : Kx} {y : Ly} {X : XR} {post : Int32 → Wd → Prop} {w : Wd} {p1 : Int32} {p2 : Int32} {p3 : Int32}  (hM : WFm κ y) (l0 : live y 20 0) (h : sp_X8_edict κ y post w p1 p2 p3) : Met l yX8_edict (ws_ yX8_edict cX8_edict 5 (Option.some Jvm.ClassFile.FieldType.int)) rm_X8_edict (va_Pc [.ref (y.2 20 0), .int (p1), .int (p2), .int (p3)] (RC κ w y X)) (va_Qi post (fun w t => Rp κ w y X [] t.heap) (Af κ)) 0 0 (Af κ) := by
  unfold sp_X8_edict at h
  refine Met.ofW (cc := cX8_edict) (maxL := 5) (ret := (Option.some Jvm.ClassFile.FieldType.int)) (by decide) rfl ?_
  intro p e s m args below meth c s₁ B hml hv
  obtain ⟨rfl, hR, hK⟩ := hv
  have hx := B.exec
  have hb := B.bytes
  have hr := B.returns
  have hts := atoms_spec (ws := ws_ yX8_edict cX8_edict 5 (Option.some Jvm.ClassFile.FieldType.int)) B.pre
  have hts : ∀ w ∈ lw_all, w.before _ s = true := fun w h => hts w (List.mem_cons_of_mem _ h)
  have hown : s.vm.findClass RX8 = some m.cls := findClass_of_methodNamed B.named
  have hlocks := B.notSynchronized
  have hS : va_S (Af κ) s.heap s.heap [] := va_S.rf
  have hl := lv_entry ([.ref (y.2 20 0), .int (p1), .int (p2), .int (p3)]) (n := 5) (Nat.le_of_ble_eq_true rfl)
  rw [lg_entry_eq]
  generalize (lg_sl ([.ref (y.2 20 0), .int (p1), .int (p2), .int (p3)]) ++ List.replicate (5 - (lg_sl ([.ref (y.2 20 0), .int (p1), .int (p2), .int (p3)])).length) Slot.unset).toArray = ls at hl ⊢
  have hl : lv_has ls 5 [(0, .ref (y.2 20 0)), (1, .int (p1)), (2, .int (p2)), (3, .int (p3))] := hl
  refine lv_iload_n hx hb dX8_edict_0 rfl (lv_at hl 1 rfl) ?_
  refine jn_elim h (fun j22 ej22 h => ?_)
  have Jj22 : ∀ (w22 : Wd) (s0_22 : Int32) (H : Heap) (locs : List Loc) (ls : Array Slot), j22 w22 s0_22 → Rp κ w22 y X [] H → va_S (Af κ) s.heap H locs → lv_has ls 5 [(0, .ref (y.2 20 0)), (1, .int (p1)), (2, .int (p2)), (3, .int (p3))] → W p l e (headSpec (ws_ yX8_edict cX8_edict 5 (Option.some Jvm.ClassFile.FieldType.int)) rm_X8_edict).room s m ([.ref (y.2 20 0), .int (p1), .int (p2), .int (p3)] : List Value).toArray below meth c H locs (0) (0) (MQ below (va_Qi post (fun w t => Rp κ w y X [] t.heap) (Af κ)) ([.ref (y.2 20 0), .int (p1), .int (p2), .int (p3)] : List Value).toArray s 0 0 (Af κ)) (F0 m 22 ls [.int (s0_22)]) := by
    clear h
    intro w22 s0_22 H locs ls h hR hS hl
    subst ej22
    refine lv_istore (lv' := [(4, .int (s0_22)), (0, .ref (y.2 20 0)), (1, .int (p1)), (2, .int (p2)), (3, .int (p3))]) hx hb dX8_edict_22 hl (by decide) rfl (fun ls hl => ?_)
    refine lv_aload_n hx hb dX8_edict_24 rfl (lv_at hl 1 rfl) ?_
    refine lv_iload_n hx hb dX8_edict_25 rfl (lv_at hl 2 rfl) ?_
    refine ce_qi (fw := fun u => u) (fy := fun _ => y) (cr_S (n := 1) (As := [.int (p1)]) (rest := [.ref (y.2 20 0)]) ⟨hx, hb, hml, hown, hts⟩ hK hR (m_X8_isNoDuty hM h) q2130 q2131 q85 q2132 rfl rfl hds_X8_isNoDuty ⟨Nat.le_of_ble_eq_true rfl, Nat.le_of_ble_eq_true rfl⟩ rfl rfl hl.1 rfl (lv_room (Nat.le_of_ble_eq_true rfl)) dX8_edict_26 ⟨(Nat.le_of_ble_eq_true rfl), (Nat.le_of_ble_eq_true rfl)⟩) hR hS (fun r_26 w_26 H locs h hR _ hS => ?_)
    refine lv_iconst (v := (1 : Int32)) hx hb dX8_edict_29 (by decide) ?_
    refine ce_qi (fw := fun u => u) (fy := fun _ => y) (cr_V (n := 2) (As := [.int (r_26), .int ((1 : Int32))]) (rest := []) ⟨hx, hb, hml, hown, hts⟩ hK hR (m_X8_start hM l0 h) q2023 q2025 qs37 q85 q2026 rfl rfl hd_X8_start ⟨Nat.le_of_ble_eq_true rfl, Nat.le_of_ble_eq_true rfl⟩ (rv hK hR l0 (ci := 11) rfl rfl) rfl rfl hl.1 rfl (lv_room (Nat.le_of_ble_eq_true rfl)) dX8_edict_30 ⟨(Nat.le_of_ble_eq_true rfl), (Nat.le_of_ble_eq_true rfl)⟩) hR hS (fun r_30 w_30 H locs h hR _ hS => ?_)
    refine lv_if_ne (tgt := 70) hx hb dX8_edict_33 (by decide) (fun c_33 => ?_) (fun c_33 => ?_)
    · have h := h.1 c_33
      refine lv_iconst (v := (0 : Int32)) hx hb dX8_edict_70 (by decide) ?_
      refine W.widen (k := 0) (n := 0) (Nat.le_of_ble_eq_true rfl) (Nat.le_of_ble_eq_true rfl) ?_
      exact W.iret (v := (0 : Int32)) hx hb hr (fun t ht hW9 => ⟨⟨(0 : Int32), w_30, rfl, h, rpt ht hR⟩, hS.F ht⟩) hS.2.2 dX8_edict_71
    · have h := h.2 c_33
      refine lv_aload_n hx hb dX8_edict_36 rfl (lv_at hl 1 rfl) ?_
      refine lv_iload_n hx hb dX8_edict_37 rfl (lv_at hl 3 rfl) ?_
      refine lv_iconst (v := (0 : Int32)) hx hb dX8_edict_38 (by decide) ?_
      refine lv_iload hx hb dX8_edict_39 (lv_at hl 0 rfl) ?_
      refine ce_qi (fw := fun u => u) (fy := fun _ => y) (cr_S (n := 3) (As := [.int (p2), .int ((0 : Int32)), .int (s0_22)]) (rest := [.ref (y.2 20 0)]) ⟨hx, hb, hml, hown, hts⟩ hK hR (m_X8_isIn hM h) q2020 q2021 q85 q2022 rfl rfl hds_X8_isIn ⟨Nat.le_of_ble_eq_true rfl, Nat.le_of_ble_eq_true rfl⟩ rfl rfl hl.1 rfl (lv_room (Nat.le_of_ble_eq_true rfl)) dX8_edict_41 ⟨(Nat.le_of_ble_eq_true rfl), (Nat.le_of_ble_eq_true rfl)⟩) hR hS (fun r_41 w_41 H locs h hR _ hS => ?_)
      refine jn_elim h (fun j63 ej63 h => ?_)
      have Jj63 : ∀ (w63 : Wd) (s0_63 : Int32) (H : Heap) (locs : List Loc) (ls : Array Slot), j63 w63 s0_63 → Rp κ w63 y X [] H → va_S (Af κ) s.heap H locs → lv_has ls 5 [(0, .ref (y.2 20 0)), (1, .int (p1)), (2, .int (p2)), (3, .int (p3))] → W p l e (headSpec (ws_ yX8_edict cX8_edict 5 (Option.some Jvm.ClassFile.FieldType.int)) rm_X8_edict).room s m ([.ref (y.2 20 0), .int (p1), .int (p2), .int (p3)] : List Value).toArray below meth c H locs (0) (0) (MQ below (va_Qi post (fun w t => Rp κ w y X [] t.heap) (Af κ)) ([.ref (y.2 20 0), .int (p1), .int (p2), .int (p3)] : List Value).toArray s 0 0 (Af κ)) (F0 m 63 ls [.int (s0_63), .ref (y.2 20 0)]) := by
        clear h
        intro w63 s0_63 H locs ls h hR hS hl
        subst ej63
        refine lv_iconst (v := (2 : Int32)) hx hb dX8_edict_63 (by decide) ?_
        refine ce_qi (fw := fun u => u) (fy := fun _ => y) (cr_V (n := 2) (As := [.int (s0_63), .int ((2 : Int32))]) (rest := []) ⟨hx, hb, hml, hown, hts⟩ hK hR (m_X8_refuse hM l0 h) q2027 q2029 qs38 q85 q2030 rfl rfl hd_X8_refuse ⟨Nat.le_of_ble_eq_true rfl, Nat.le_of_ble_eq_true rfl⟩ (rv hK hR l0 (ci := 11) rfl rfl) rfl rfl hl.1 rfl (lv_room (Nat.le_of_ble_eq_true rfl)) dX8_edict_64 ⟨(Nat.le_of_ble_eq_true rfl), (Nat.le_of_ble_eq_true rfl)⟩) hR hS (fun r_64 w_64 H locs h hR _ hS => ?_)
        refine lv_if_eq (tgt := 72) hx hb dX8_edict_67 (by decide) (fun c_67 => ?_) (fun c_67 => ?_)
        · have h := h.1 c_67
          refine lv_aload_n hx hb dX8_edict_72 rfl (lv_at hl 0 rfl) ?_
          refine g20_8 hx hb hts hown hK hR l0 q1953 dX8_edict_73 ?_
          refine lv_iload_n hx hb dX8_edict_76 rfl (lv_at hl 1 rfl) ?_
          refine lv_iload_n hx hb dX8_edict_77 rfl (lv_at hl 2 rfl) ?_
          have o_78 := h.1
          have h := h.2
          refine b32 hx hb hK hR hS hM.r32 o_78 dX8_edict_78 (fun H locs w_78 ew_78 hR hS => ?_)
          have h := h w_78 ew_78
          refine lv_aload_n hx hb dX8_edict_79 rfl (lv_at hl 0 rfl) ?_
          refine g20_9 hx hb hts hown hK hR l0 q1954 dX8_edict_80 ?_
          refine lv_iload_n hx hb dX8_edict_83 rfl (lv_at hl 1 rfl) ?_
          refine lv_iload_n hx hb dX8_edict_84 rfl (lv_at hl 3 rfl) ?_
          have o_85 := h.1
          have h := h.2
          refine b33 hx hb hK hR hS hM.r33 o_85 dX8_edict_85 (fun H locs w_85 ew_85 hR hS => ?_)
          have h := h w_85 ew_85
          refine lv_aload_n hx hb dX8_edict_86 rfl (lv_at hl 0 rfl) ?_
          refine g20_12 hx hb hts hown hK hR l0 q1957 dX8_edict_87 ?_
          refine lv_iconst (v := (1 : Int32)) hx hb dX8_edict_90 (by decide) ?_
          refine lv_iadd hx hb dX8_edict_91 ?_
          refine W.widen (k := 0) (n := 0) (Nat.le_of_ble_eq_true rfl) (Nat.le_of_ble_eq_true rfl) ?_
          exact W.iret (v := (gv w_85 20 0 12) + (1 : Int32)) hx hb hr (fun t ht hW9 => ⟨⟨(gv w_85 20 0 12) + (1 : Int32), w_85, rfl, h, rpt ht hR⟩, hS.F ht⟩) hS.2.2 dX8_edict_92
        · have h := h.2 c_67
          refine lv_iconst (v := (0 : Int32)) hx hb dX8_edict_70 (by decide) ?_
          refine W.widen (k := 0) (n := 0) (Nat.le_of_ble_eq_true rfl) (Nat.le_of_ble_eq_true rfl) ?_
          exact W.iret (v := (0 : Int32)) hx hb hr (fun t ht hW9 => ⟨⟨(0 : Int32), w_64, rfl, h, rpt ht hR⟩, hS.F ht⟩) hS.2.2 dX8_edict_71
      refine lv_if_eq (tgt := 58) hx hb dX8_edict_44 (by decide) (fun c_44 => ?_) (fun c_44 => ?_)
      · have h := h.1 c_44
        refine lv_iconst (v := (1 : Int32)) hx hb dX8_edict_58 (by decide) ?_
        refine lv_goto (tgt := 63) hx hb dX8_edict_59 (by decide) ?_
        refine W.widen (k := 0) (n := 0) (Nat.le_of_ble_eq_true rfl) (Nat.le_of_ble_eq_true rfl) ?_
        exact Jj63 w_41 (1 : Int32) _ _ _ h hR hS (lv_sub hl [1, 2, 3, 4] rfl)
      · have h := h.2 c_44
        refine lv_iload_n hx hb dX8_edict_47 rfl (lv_at hl 4 rfl) ?_
        refine lv_iconst (v := (0 : Int32)) hx hb dX8_edict_48 (by decide) ?_
        refine lv_sipush (v := (255 : Int32)) hx hb dX8_edict_49 (by decide) ?_
        refine ce_qi (fw := fun u => u) (fy := fun _ => y) (cr_S (n := 3) (As := [.int (p3), .int ((0 : Int32)), .int ((255 : Int32))]) (rest := [.ref (y.2 20 0)]) ⟨hx, hb, hml, hown, hts⟩ hK hR (m_X8_isIn hM h) q2020 q2021 q85 q2022 rfl rfl hds_X8_isIn ⟨Nat.le_of_ble_eq_true rfl, Nat.le_of_ble_eq_true rfl⟩ rfl rfl hl.1 rfl (lv_room (Nat.le_of_ble_eq_true rfl)) dX8_edict_52 ⟨(Nat.le_of_ble_eq_true rfl), (Nat.le_of_ble_eq_true rfl)⟩) hR hS (fun r_52 w_52 H locs h hR _ hS => ?_)
        refine lv_if_ne (tgt := 62) hx hb dX8_edict_55 (by decide) (fun c_55 => ?_) (fun c_55 => ?_)
        · have h := h.1 c_55
          refine lv_iconst (v := (0 : Int32)) hx hb dX8_edict_62 (by decide) ?_
          refine W.widen (k := 0) (n := 0) (Nat.le_of_ble_eq_true rfl) (Nat.le_of_ble_eq_true rfl) ?_
          exact Jj63 w_52 (0 : Int32) _ _ _ h hR hS (lv_sub hl [1, 2, 3, 4] rfl)
        · have h := h.2 c_55
          refine lv_iconst (v := (1 : Int32)) hx hb dX8_edict_58 (by decide) ?_
          refine lv_goto (tgt := 63) hx hb dX8_edict_59 (by decide) ?_
          refine W.widen (k := 0) (n := 0) (Nat.le_of_ble_eq_true rfl) (Nat.le_of_ble_eq_true rfl) ?_
          exact Jj63 w_52 (1 : Int32) _ _ _ h hR hS (lv_sub hl [1, 2, 3, 4] rfl)
  refine lv_if_ne (tgt := 10) hx hb dX8_edict_1 (by decide) (fun c_1 => ?_) (fun c_1 => ?_)
  · have h := h.1 c_1
    refine lv_iload_n hx hb dX8_edict_10 rfl (lv_at hl 1 rfl) ?_
    refine lv_iconst (v := (1 : Int32)) hx hb dX8_edict_11 (by decide) ?_
    refine lv_icmp_ne (tgt := 20) hx hb dX8_edict_12 (by decide) (fun c_12 => ?_) (fun c_12 => ?_)
    · have h := h.1 c_12
      refine lv_bipush (v := (9 : Int32)) hx hb dX8_edict_20 (by decide) ?_
      refine W.widen (k := 0) (n := 0) (Nat.le_of_ble_eq_true rfl) (Nat.le_of_ble_eq_true rfl) ?_
      exact Jj22 w (9 : Int32) _ _ _ h hR hS (lv_sub hl [0, 1, 2, 3] rfl)
    · have h := h.2 c_12
      refine lv_bipush (v := (60 : Int32)) hx hb dX8_edict_15 (by decide) ?_
      refine lv_goto (tgt := 22) hx hb dX8_edict_17 (by decide) ?_
      refine W.widen (k := 0) (n := 0) (Nat.le_of_ble_eq_true rfl) (Nat.le_of_ble_eq_true rfl) ?_
      exact Jj22 w (60 : Int32) _ _ _ h hR hS (lv_sub hl [0, 1, 2, 3] rfl)
  · have h := h.2 c_1
    refine lv_sipush (v := (300 : Int32)) hx hb dX8_edict_4 (by decide) ?_
    refine lv_goto (tgt := 22) hx hb dX8_edict_7 (by decide) ?_
    refine W.widen (k := 0) (n := 0) (Nat.le_of_ble_eq_true rfl) (Nat.le_of_ble_eq_true rfl) ?_
    exact Jj22 w (300 : Int32) _ _ _ h hR hS (lv_sub hl [0, 1, 2, 3] rfl)
abbrev rm_X8_cut : Room := { frames := 4, cells := 0, slots := 0, locals := 116 }
def sp_X8_cut (κ : Kx) (y : Ly) (post : Int32 → Wd → Prop) (w : Wd) (p1 : Int32) : Prop := sp_X8_isNoVillage κ y (fun r_3 w_3 => sp_X8_start κ y (fun r_7 w_7 => ((r_7 = 0) → ((vp_in (p1) (mV y)) ∧ (∀ x_29 : Int32, x_29 = gv w_7 21 (((p1).toNatClampNeg)) 12 → sp_X8_cutStone κ y (fun w_32 => sp_X8_treasuryPays κ y (fun w_37 => post (x_29) w_37) w_32 (3 : Int32)) w_7 p1))) ∧ ((¬ (r_7 = 0)) → (post ((0 : Int32)) w_7))) w_3 r_3 (1 : Int32)) w p1
theorem hd_X8_cut : yX8_cut.cls = RX8 ∧ yX8_cut.cls ≠ "java/lang/invoke/MethodHandle" ∧ yX8_cut.cls ≠ "java/lang/invoke/VarHandle" ∧ (parseMethodDescriptor yX8_cut.desc).map (fun d => d.parameters.length) = some 1 := by decide +kernel
set_option maxHeartbeats 4000000 in
theorem m_X8_cut {l : Launch} {κ : Kx} {y : Ly} {X : XR} {post : Int32 → Wd → Prop} {w : Wd} {p1 : Int32}  (hM : WFm κ y) (l0 : live y 20 0) (h : sp_X8_cut κ y post w p1) : Met l yX8_cut (ws_ yX8_cut cX8_cut 3 (Option.some Jvm.ClassFile.FieldType.int)) rm_X8_cut (va_Pc [.ref (y.2 20 0), .int (p1)] (RC κ w y X)) (va_Qi post (fun w t => Rp κ w y X [] t.heap) (Af κ)) 0 0 (Af κ) := by
  unfold sp_X8_cut at h
  refine Met.ofW (cc := cX8_cut) (maxL := 3) (ret := (Option.some Jvm.ClassFile.FieldType.int)) (by decide) rfl ?_
  intro p e s m args below meth c s₁ B hml hv
  obtain ⟨rfl, hR, hK⟩ := hv
  have hx := B.exec
  have hb := B.bytes
  have hr := B.returns
  have hts := atoms_spec (ws := ws_ yX8_cut cX8_cut 3 (Option.some Jvm.ClassFile.FieldType.int)) B.pre
  have hts : ∀ w ∈ lw_all, w.before _ s = true := fun w h => hts w (List.mem_cons_of_mem _ h)
  have hown : s.vm.findClass RX8 = some m.cls := findClass_of_methodNamed B.named
  have hlocks := B.notSynchronized
  have hS : va_S (Af κ) s.heap s.heap [] := va_S.rf
  have hl := lv_entry ([.ref (y.2 20 0), .int (p1)]) (n := 3) (Nat.le_of_ble_eq_true rfl)
  rw [lg_entry_eq]
  generalize (lg_sl ([.ref (y.2 20 0), .int (p1)]) ++ List.replicate (3 - (lg_sl ([.ref (y.2 20 0), .int (p1)])).length) Slot.unset).toArray = ls at hl ⊢
  have hl : lv_has ls 3 [(0, .ref (y.2 20 0)), (1, .int (p1))] := hl
  refine lv_aload_n hx hb dX8_cut_0 rfl (lv_at hl 0 rfl) ?_
  refine lv_aload_n hx hb dX8_cut_1 rfl (lv_at hl 0 rfl) ?_
  refine lv_iload_n hx hb dX8_cut_2 rfl (lv_at hl 1 rfl) ?_
  refine ce_qi (fw := fun u => u) (fy := fun _ => y) (cr_V (n := 1) (As := [.int (p1)]) (rest := [.ref (y.2 20 0)]) ⟨hx, hb, hml, hown, hts⟩ hK hR (m_X8_isNoVillage hM l0 h) q2109 q2111 qs40 q85 q2112 rfl rfl hd_X8_isNoVillage ⟨Nat.le_of_ble_eq_true rfl, Nat.le_of_ble_eq_true rfl⟩ (rv hK hR l0 (ci := 11) rfl rfl) rfl rfl hl.1 rfl (lv_room (Nat.le_of_ble_eq_true rfl)) dX8_cut_3 ⟨(Nat.le_of_ble_eq_true rfl), (Nat.le_of_ble_eq_true rfl)⟩) hR hS (fun r_3 w_3 H locs h hR _ hS => ?_)
  refine lv_iconst (v := (1 : Int32)) hx hb dX8_cut_6 (by decide) ?_
  refine ce_qi (fw := fun u => u) (fy := fun _ => y) (cr_V (n := 2) (As := [.int (r_3), .int ((1 : Int32))]) (rest := []) ⟨hx, hb, hml, hown, hts⟩ hK hR (m_X8_start hM l0 h) q2023 q2025 qs37 q85 q2026 rfl rfl hd_X8_start ⟨Nat.le_of_ble_eq_true rfl, Nat.le_of_ble_eq_true rfl⟩ (rv hK hR l0 (ci := 11) rfl rfl) rfl rfl hl.1 rfl (lv_room (Nat.le_of_ble_eq_true rfl)) dX8_cut_7 ⟨(Nat.le_of_ble_eq_true rfl), (Nat.le_of_ble_eq_true rfl)⟩) hR hS (fun r_7 w_7 H locs h hR _ hS => ?_)
  refine lv_if_eq (tgt := 15) hx hb dX8_cut_10 (by decide) (fun c_10 => ?_) (fun c_10 => ?_)
  · have h := h.1 c_10
    refine lv_aload_n hx hb dX8_cut_15 rfl (lv_at hl 0 rfl) ?_
    refine g20_3 hx hb hts hown hK hR l0 q1948 dX8_cut_16 ?_
    refine lv_iload_n hx hb dX8_cut_19 rfl (lv_at hl 1 rfl) ?_
    have o_20 := h.1
    have h := h.2
    refine jr_get (a := y.2 21 ((p1).toNatClampNeg)) ⟨hx, hb, hml, hown, hts⟩ hK hR ⟨fun _ _ _ _ _ => rfl, fun _ _ _ _ _ => rfl⟩ hM.lsV ⟨hM.arV (Nat.lt_of_le_of_lt (Nat.zero_le _) (vp_lt o_20)), (Nat.le_trans hM.mV8 (by decide))⟩ o_20 (hM.elV (vp_lt o_20)) q2101 ⟨Nat.le_of_ble_eq_true rfl, Nat.le_of_ble_eq_true rfl⟩ hl.1 (Nat.le_of_ble_eq_true rfl) dX8_cut_20 ⟨(Nat.le_of_ble_eq_true rfl), (Nat.le_of_ble_eq_true rfl)⟩ ?_
    refine jr_castS (ci := 12) hx hb hown hK hts (hR.role (hM.vil (vp_lt o_20))) rfl q2032 dX8_cut_23 ?_
    refine g21_12 hx hb hts hown hK hR (hM.vil (vp_lt o_20)) q2053 dX8_cut_26 ?_
    refine lv_topi (fun x_29 ex_29 => ?_)
    have h := h x_29 ex_29
    refine lv_istore_n (lv' := [(2, .int (x_29)), (0, .ref (y.2 20 0)), (1, .int (p1))]) hx hb dX8_cut_29 rfl hl (by decide) rfl (fun ls hl => ?_)
    refine lv_aload_n hx hb dX8_cut_30 rfl (lv_at hl 1 rfl) ?_
    refine lv_iload_n hx hb dX8_cut_31 rfl (lv_at hl 2 rfl) ?_
    refine ce_qv (fw := fun u => u) (fy := fun _ => y) (cr_V (n := 1) (As := [.int (p1)]) (rest := []) ⟨hx, hb, hml, hown, hts⟩ hK hR (m_X8_cutStone hM l0 h) q2097 q2099 qs39 q85 q2100 rfl rfl hd_X8_cutStone ⟨Nat.le_of_ble_eq_true rfl, Nat.le_of_ble_eq_true rfl⟩ (rv hK hR l0 (ci := 11) rfl rfl) rfl rfl hl.1 rfl (lv_room (Nat.le_of_ble_eq_true rfl)) dX8_cut_32 ⟨(Nat.le_of_ble_eq_true rfl), (Nat.le_of_ble_eq_true rfl)⟩) hR hS (fun w_32 H locs h hR _ hS => ?_)
    refine lv_aload_n hx hb dX8_cut_35 rfl (lv_at hl 1 rfl) ?_
    refine lv_iconst (v := (3 : Int32)) hx hb dX8_cut_36 (by decide) ?_
    refine ce_qv (fw := fun u => u) (fy := fun _ => y) (cr_V (n := 1) (As := [.int ((3 : Int32))]) (rest := []) ⟨hx, hb, hml, hown, hts⟩ hK hR (m_X8_treasuryPays hM l0 h) q2118 q2120 qs41 q85 q2121 rfl rfl hd_X8_treasuryPays ⟨Nat.le_of_ble_eq_true rfl, Nat.le_of_ble_eq_true rfl⟩ (rv hK hR l0 (ci := 11) rfl rfl) rfl rfl hl.1 rfl (lv_room (Nat.le_of_ble_eq_true rfl)) dX8_cut_37 ⟨(Nat.le_of_ble_eq_true rfl), (Nat.le_of_ble_eq_true rfl)⟩) hR hS (fun w_37 H locs h hR _ hS => ?_)
    refine lv_iload_n hx hb dX8_cut_40 rfl (lv_at hl 0 rfl) ?_
    refine W.widen (k := 0) (n := 0) (Nat.le_of_ble_eq_true rfl) (Nat.le_of_ble_eq_true rfl) ?_
    exact W.iret (v := x_29) hx hb hr (fun t ht hW9 => ⟨⟨x_29, w_37, rfl, h, rpt ht hR⟩, hS.F ht⟩) hS.2.2 dX8_cut_41
  · have h := h.2 c_10
    refine lv_iconst (v := (0 : Int32)) hx hb dX8_cut_13 (by decide) ?_
    refine W.widen (k := 0) (n := 0) (Nat.le_of_ble_eq_true rfl) (Nat.le_of_ble_eq_true rfl) ?_
    exact W.iret (v := (0 : Int32)) hx hb hr (fun t ht hW9 => ⟨⟨(0 : Int32), w_7, rfl, h, rpt ht hR⟩, hS.F ht⟩) hS.2.2 dX8_cut_14
abbrev rm_X8_shareOut : Room := { frames := 4, cells := 14, slots := 21, locals := 110 }
def st_X8_shareOut_119 (κ : Kx) (post : Int32 → Wd → Ly → Prop) (ex : Wd → Ly → (Int32) → (Nat → Int64) → Prop) (rec : Wd → Ly → Int32 → (Nat → Int64) → Int32 → Prop) (v2 : Int32) (i3 : Nat) (v4 : Int32) (n6 : Nat) (w : Wd) (y : Ly) (v5 : Int32) (f6 : Nat → Int64) (v7 : Int32) : Prop := ((nI n6 ≤ v7) → (ex w y v5 f6)) ∧ ((¬ (nI n6 ≤ v7)) → ((vp_in (v7) (mS y i3)) ∧ (∀ x_146 : Int64, x_146 = v2.toInt64 * ((bxV w y (5 * i3 + ((v7).toNatClampNeg))).toInt64) → (¬ v4.toInt64 = 0) ∧ ((vp_in (v7) n6) ∧ (∀ f_158 : Nat → Int64, f_158 = vp_updL f6 (v7).toNatClampNeg (x_146 - x_146 / v4.toInt64 * v4.toInt64) → (vp_in (v7) (mT y i3)) ∧ ((¬ v4.toInt64 = 0) ∧ ((vp_in (v7) (y.1 158 i3)) ∧ (∀ (w_188 : Wd) (y_188 : Ly), BxS w w_188 y y_188 (50 + (5 * i3 + (v7).toNatClampNeg)) ((bxV w y (50 + (5 * i3 + ((v7).toNatClampNeg)))) + ((x_146 / v4.toInt64).toInt32)) → LeS y y_188 → (¬ v4.toInt64 = 0) ∧ (∀ x_205 : Int32, x_205 = v5 - ((x_146 / v4.toInt64).toInt32) → ∀ x_207 : Int32, x_207 = v7 + (1 : Int32) → rec w_188 y_188 x_205 f_158 x_207)))))))))
def sp_X8_shareOut_119 (κ : Kx) (post : Int32 → Wd → Ly → Prop) (ex : Wd → Ly → (Int32) → (Nat → Int64) → Prop) (v2 : Int32) (i3 : Nat) (v4 : Int32) (n6 : Nat) : Nat → Wd → Ly → Int32 → (Nat → Int64) → Int32 → Prop
  | 0 => fun _ _ _ _ _ => False
  | n + 1 => fun w y v5 f6 v7 => st_X8_shareOut_119 κ post ex (sp_X8_shareOut_119 κ post ex v2 i3 v4 n6 n) v2 i3 v4 n6 w y v5 f6 v7
set_option maxHeartbeats 4000000 in
theorem lp_X8_shareOut_119 {p : Program} {l : Launch} {e : Env} {s : State} {m : MethodId} {args : Array Value} {below : List Frame} {meth : Method} {c : Code} {κ : Kx} {y0 : Ly} {X : XR} {post : Int32 → Wd → Ly → Prop} {q6 : Nat} {v2 : Int32} {i3 : Nat} {v4 : Int32} {n6 : Nat} (hx : p.tables.exec = Jvm.exec) (hb : c.code = cX8_shareOut) (hr : meth.sig.returnType = (Option.some Jvm.ClassFile.FieldType.int)) (hml : c.maxLocals = 10) (hown : s.vm.findClass RX8 = some m.cls) (hts : ∀ w ∈ lw_all, w.before args s = true) (hlocks : meth.locks = false) (hK : KK κ s)   {C1 S1 : Nat} (hC : C1 ≤ 14) (hSl : S1 ≤ 21) {ex : Wd → Ly → (Int32) → (Nat → Int64) → Prop}
    (kx : ∀ (w : Wd) (y : Ly) (v5 : Int32) (f6 : Nat → Int64) (H : Heap) (locs : List Loc) (ls : Array Slot) (cells slots : Nat) (hM : WFm κ y) (hLe : LeS y0 y) , ex w y v5 f6 → Rp κ w y X [(q6, .inl (kT κ 1, (n6, .inr (.inl (f6)))))] H → va_S (Af κ) s.heap H locs → lv_has ls 10 [(0, .ref (y.2 20 0)), (2, .int (v2)), (3, .ref (y.2 26 i3)), (5, .int (v5)), (6, .ref (q6))] → cells ≤ C1 → slots ≤ S1 → W p l e (headSpec (ws_ yX8_shareOut cX8_shareOut 10 (Option.some Jvm.ClassFile.FieldType.int)) rm_X8_shareOut).room s m args below meth c H locs cells slots (MQ below (va_Qi (fun r (u : Wd × Ly) => post r u.1 u.2) (fun (u : Wd × Ly) t => Rp κ u.1 u.2 X [] t.heap ∧ WFm κ u.2 ∧ LeS y0 u.2) (Af κ)) args s 14 21 (Af κ)) (F0 m 213 ls [])) :
    ∀ (f : Nat) (w : Wd) (y : Ly) (v5 : Int32) (f6 : Nat → Int64) (v7 : Int32) (H : Heap) (locs : List Loc) (ls : Array Slot) (cells slots : Nat) (hM : WFm κ y) (hLe : LeS y0 y) (l0 : live y 20 0) (l3 : live y 26 i3) , sp_X8_shareOut_119 κ post ex v2 i3 v4 n6 f w y v5 f6 v7 → Rp κ w y X [(q6, .inl (kT κ 1, (n6, .inr (.inl (f6)))))] H → va_S (Af κ) s.heap H locs → lv_has ls 10 [(0, .ref (y.2 20 0)), (2, .int (v2)), (3, .ref (y.2 26 i3)), (4, .int (v4)), (5, .int (v5)), (6, .ref (q6)), (7, .int (v7))] → cells + f * 1 ≤ C1 → slots + f * 1 ≤ S1 → W p l e (headSpec (ws_ yX8_shareOut cX8_shareOut 10 (Option.some Jvm.ClassFile.FieldType.int)) rm_X8_shareOut).room s m args below meth c H locs cells slots (MQ below (va_Qi (fun r (u : Wd × Ly) => post r u.1 u.2) (fun (u : Wd × Ly) t => Rp κ u.1 u.2 X [] t.heap ∧ WFm κ u.2 ∧ LeS y0 u.2) (Af κ)) args s 14 21 (Af κ)) (F0 m 119 ls []) := by
  intro f
  induction f with
  | zero =>
    intro w y v5 f6 v7 H locs ls cells slots hM hLe l0 l3 h
    exact False.elim h
  | succ f ih =>
    intro w y v5 f6 v7 H locs ls cells slots hM hLe l0 l3 h hR hS hl hc hs
    have h : st_X8_shareOut_119 κ post ex (sp_X8_shareOut_119 κ post ex v2 i3 v4 n6 f) v2 i3 v4 n6 w y v5 f6 v7 := h
    unfold st_X8_shareOut_119 at h
    refine lv_iload hx hb dX8_shareOut_119 (lv_at hl 6 rfl) ?_
    refine lv_aload hx hb dX8_shareOut_121 (lv_at hl 5 rfl) ?_
    refine xa_alen hx hb hK.1 (hR.L 0 _ rfl) 1 rfl dX8_shareOut_123 ?_
    refine lv_icmp_ge (tgt := 213) hx hb dX8_shareOut_124 (by decide) (fun c_124 => ?_) (fun c_124 => ?_)
    · have h := h.1 c_124
      exact kx w y v5 f6 _ _ _ _ _ hM hLe h hR hS (lv_sub hl [0, 1, 2, 4, 5] rfl) (by omega) (by omega)
    · have h := h.2 c_124
      refine lv_iload_n hx hb dX8_shareOut_127 rfl (lv_at hl 1 rfl) ?_
      refine lv_i2l hx hb dX8_shareOut_128 rfl ?_
      refine lv_aload_n hx hb dX8_shareOut_129 rfl (lv_at hl 2 rfl) ?_
      refine g26_9 hx hb hts hown hK hR l3 q2159 dX8_shareOut_130 ?_
      refine lv_iload hx hb dX8_shareOut_133 (lv_at hl 6 rfl) ?_
      have o_135 := h.1
      have h := h.2
      refine jr_get (a := y.2 356 (16 * i3 + ((v7).toNatClampNeg))) ⟨hx, hb, hml, hown, hts⟩ hK hR ⟨fun _ _ _ _ _ => rfl, fun _ _ _ _ _ => rfl⟩ (hM.csh l3) ⟨hM.arS (Nat.lt_of_le_of_lt (Nat.zero_le _) (vp_lt o_135)), (Nat.le_trans (hM.mS5 l3) (by decide))⟩ o_135 rfl q2101 ⟨Nat.le_of_ble_eq_true rfl, Nat.le_of_ble_eq_true rfl⟩ hl.1 (Nat.le_of_ble_eq_true rfl) dX8_shareOut_135 ⟨(Nat.le_trans (show cells + 0 ≤ C1 from by omega) hC), (Nat.le_trans (show slots + 0 ≤ S1 from by omega) hSl)⟩ ?_
      refine jr_castS (ci := 19) hx hb hown hK hts (bx_at hK hR (hM.bxS l3 (vp_lt o_135))) rfl q2232 dX8_shareOut_138 ?_
      refine jr_intv ⟨hx, hb, hml, hown, hts⟩ hK (bx_at hK hR (hM.bxS l3 (vp_lt o_135))) q2233 ⟨Nat.le_of_ble_eq_true rfl, Nat.le_of_ble_eq_true rfl⟩ hl.1 (Nat.le_of_ble_eq_true rfl) dX8_shareOut_141 ⟨(Nat.le_trans (show cells + 0 ≤ C1 from by omega) hC), (Nat.le_trans (show slots + 0 ≤ S1 from by omega) hSl)⟩ ?_
      refine lv_i2l hx hb dX8_shareOut_144 rfl ?_
      refine lv_lmul hx hb dX8_shareOut_145 ?_
      refine lv_topl (fun x_146 ex_146 => ?_)
      have h := h x_146 ex_146
      refine lv_lstore (lv' := [(8, .long (x_146)), (0, .ref (y.2 20 0)), (2, .int (v2)), (3, .ref (y.2 26 i3)), (4, .int (v4)), (5, .int (v5)), (6, .ref (q6)), (7, .int (v7))]) hx hb dX8_shareOut_146 hl (by decide) rfl (fun ls hl => ?_)
      refine lv_aload hx hb dX8_shareOut_148 (lv_at hl 6 rfl) ?_
      refine lv_iload hx hb dX8_shareOut_150 (lv_at hl 7 rfl) ?_
      refine lv_lload hx hb dX8_shareOut_152 (lv_at hl 0 rfl) ?_
      refine lv_iload hx hb dX8_shareOut_154 (lv_at hl 4 rfl) ?_
      refine lv_i2l hx hb dX8_shareOut_156 rfl ?_
      have o_157 := h.1
      have h := h.2
      refine lv_lrem hx hb dX8_shareOut_157 o_157 ?_
      have o_158 := h.1
      have h := h.2
      refine xa_last hx hb hK.1 hS (hR.LD.2 0 _ rfl) (hR.L 0 _ rfl) 1 rfl o_158 dX8_shareOut_158 (fun H1 locs h1 hz ho hS => ?_)
      have hR := hR.putL (t := 0) rfl h1 hz ho
      clear h1 hz ho
      generalize H1 = H at hR hS ⊢
      obtain ⟨f_158, ef_158⟩ : ∃ z, z = vp_updL f6 (v7).toNatClampNeg (x_146 - x_146 / v4.toInt64 * v4.toInt64) := ⟨_, rfl⟩
      rw [← ef_158] at hR
      have h := h f_158 ef_158
      have hR : Rp κ w y X [(q6, .inl (kT κ 1, (n6, .inr (.inl (f_158)))))] H := hR
      refine lv_aload_n hx hb dX8_shareOut_159 rfl (lv_at hl 3 rfl) ?_
      refine g26_10 hx hb hts hown hK hR l3 q2161 dX8_shareOut_160 ?_
      refine lv_iload hx hb dX8_shareOut_163 (lv_at hl 7 rfl) ?_
      refine lv_aload_n hx hb dX8_shareOut_165 rfl (lv_at hl 3 rfl) ?_
      refine g26_10 hx hb hts hown hK hR l3 q2161 dX8_shareOut_166 ?_
      refine lv_iload hx hb dX8_shareOut_169 (lv_at hl 7 rfl) ?_
      have o_171 := h.1
      have h := h.2
      refine jr_get (a := y.2 358 (16 * i3 + ((v7).toNatClampNeg))) ⟨hx, hb, hml, hown, hts⟩ hK hR ⟨fun _ _ _ _ _ => rfl, fun _ _ _ _ _ => rfl⟩ (hM.cto l3) ⟨hM.arT (Nat.lt_of_le_of_lt (Nat.zero_le _) (vp_lt o_171)), (Nat.le_trans (hM.mTS l3) (Nat.le_trans (hM.mS5 l3) (by decide)))⟩ o_171 rfl q2101 ⟨Nat.le_of_ble_eq_true rfl, Nat.le_of_ble_eq_true rfl⟩ hl.1 (Nat.le_of_ble_eq_true rfl) dX8_shareOut_171 ⟨(Nat.le_trans (show cells + 0 ≤ C1 from by omega) hC), (Nat.le_trans (show slots + 0 ≤ S1 from by omega) hSl)⟩ ?_
      refine jr_castS (ci := 19) hx hb hown hK hts (bx_at hK hR (hM.bxT l3 (vp_lt o_171))) rfl q2232 dX8_shareOut_174 ?_
      refine jr_intv ⟨hx, hb, hml, hown, hts⟩ hK (bx_at hK hR (hM.bxT l3 (vp_lt o_171))) q2233 ⟨Nat.le_of_ble_eq_true rfl, Nat.le_of_ble_eq_true rfl⟩ hl.1 (Nat.le_of_ble_eq_true rfl) dX8_shareOut_177 ⟨(Nat.le_trans (show cells + 0 ≤ C1 from by omega) hC), (Nat.le_trans (show slots + 0 ≤ S1 from by omega) hSl)⟩ ?_
      refine lv_lload hx hb dX8_shareOut_180 (lv_at hl 0 rfl) ?_
      refine lv_iload hx hb dX8_shareOut_182 (lv_at hl 4 rfl) ?_
      refine lv_i2l hx hb dX8_shareOut_184 rfl ?_
      have o_185 := h.1
      have h := h.2
      refine lv_ldiv hx hb dX8_shareOut_185 o_185 ?_
      refine lv_l2i hx hb dX8_shareOut_186 rfl ?_
      refine lv_iadd hx hb dX8_shareOut_187 ?_
      have o_188 := h.1
      have h := h.2
      have lv_188 := l0
      have lv_188_a := l3
      refine jr_vset58 ⟨hx, hb, hml, hown, hts⟩ hK hR hS hM l3 o_188 q2193 q2234 ⟨Nat.le_of_ble_eq_true rfl, Nat.le_of_ble_eq_true rfl⟩ ⟨Nat.le_of_ble_eq_true rfl, Nat.le_of_ble_eq_true rfl⟩ hl.1 (Nat.le_of_ble_eq_true rfl) dX8_shareOut_188 dX8_shareOut_191 dX8_shareOut_194 ⟨(Nat.le_trans (show cells + 1 ≤ C1 from by omega) hC), (Nat.le_trans (show slots + 1 ≤ S1 from by omega) hSl)⟩ (fun H locs w_188 y_188 hbx hL1_y_188 hM_y_188 hR hS => ?_)
      have h := h w_188 y_188 hbx hL1_y_188
      clear hbx
      have lw_188 := hL1_y_188.live (k := 20) rfl lv_188
      have lw_188_a := hL1_y_188.live (k := 26) rfl lv_188_a
      have hl : lv_has ls 10 [(8, .long (x_146)), (0, .ref (y_188.2 20 0)), (2, .int (v2)), (3, .ref (y_188.2 26 i3)), (4, .int (v4)), (5, .int (v5)), (6, .ref (q6)), (7, .int (v7))] := by
        rw [hL1_y_188.2 20 rfl, hL1_y_188.2 26 rfl]
        exact hl
      have hLe_y_188 : LeS _ y_188 := (hLe.trans hL1_y_188)
      have hR : Rp κ w_188 y_188 X [(q6, .inl (kT κ 1, (n6, .inr (.inl (f_158)))))] H := hR
      refine lv_iload hx hb dX8_shareOut_195 (lv_at hl 5 rfl) ?_
      refine lv_lload hx hb dX8_shareOut_197 (lv_at hl 0 rfl) ?_
      refine lv_iload hx hb dX8_shareOut_199 (lv_at hl 4 rfl) ?_
      refine lv_i2l hx hb dX8_shareOut_201 rfl ?_
      have o_202 := h.1
      have h := h.2
      refine lv_ldiv hx hb dX8_shareOut_202 o_202 ?_
      refine lv_l2i hx hb dX8_shareOut_203 rfl ?_
      refine lv_isub hx hb dX8_shareOut_204 ?_
      refine lv_topi (fun x_205 ex_205 => ?_)
      have h := h x_205 ex_205
      refine lv_istore (lv' := [(5, .int (x_205)), (8, .long (x_146)), (0, .ref (y_188.2 20 0)), (2, .int (v2)), (3, .ref (y_188.2 26 i3)), (4, .int (v4)), (6, .ref (q6)), (7, .int (v7))]) hx hb dX8_shareOut_205 hl (by decide) rfl (fun ls hl => ?_)
      obtain ⟨x_207, ex_207⟩ : ∃ z : Int32, z = v7 + (1 : Int32) := ⟨_, rfl⟩
      have h := h x_207 ex_207
      refine lv_iinc (v := x_207) (lv' := [(7, .int (x_207)), (5, .int (x_205)), (8, .long (x_146)), (0, .ref (y_188.2 20 0)), (2, .int (v2)), (3, .ref (y_188.2 26 i3)), (4, .int (v4)), (6, .ref (q6))]) hx hb dX8_shareOut_207 hl (k := 7) rfl (by rw [ex_207]; rfl) (by decide) rfl (fun ls hl => ?_)
      refine lv_goto (tgt := 119) hx hb dX8_shareOut_210 (by decide) ?_
      exact ih w_188 y_188 x_205 f_158 x_207 _ _ _ _ _ hM_y_188 hLe_y_188 lw_188 lw_188_a  h hR hS (lv_sub hl [3, 4, 5, 6, 1, 7, 0] rfl) (by omega) (by omega)
def st_X8_shareOut_224 (κ : Kx) (post : Int32 → Wd → Ly → Prop) (ex : Wd → Ly → (Nat → Int64) → (Int32) → Prop) (rec : Wd → Ly → (Nat → Int64) → Int32 → Int32 → Prop) (v2 : Int32) (i3 : Nat) (v5 : Int32) (n6 : Nat) (w : Wd) (y : Ly) (f6 : Nat → Int64) (v7 : Int32) (v8 : Int32) : Prop := ((nI n6 ≤ v8) → (ex w y f6 v7)) ∧ ((¬ (nI n6 ≤ v8)) → ((vp_in (v8) n6) ∧ ((vp_in (v7) n6) ∧ (∀ j250 : Wd → Int32 → Prop, (j250 = fun (w250 : Wd) (v7_250 : Int32) => ∀ x_250 : Int32, x_250 = v8 + (1 : Int32) → rec w250 y f6 v7_250 x_250) → (((lg_cmp (f6 (v8).toNatClampNeg) (f6 (v7).toNatClampNeg) ≤ 0) → (j250 w v7)) ∧ ((¬ (lg_cmp (f6 (v8).toNatClampNeg) (f6 (v7).toNatClampNeg) ≤ 0)) → (j250 w v8)))))))
def sp_X8_shareOut_224 (κ : Kx) (post : Int32 → Wd → Ly → Prop) (ex : Wd → Ly → (Nat → Int64) → (Int32) → Prop) (v2 : Int32) (i3 : Nat) (v5 : Int32) (n6 : Nat) : Nat → Wd → Ly → (Nat → Int64) → Int32 → Int32 → Prop
  | 0 => fun _ _ _ _ _ => False
  | n + 1 => fun w y f6 v7 v8 => st_X8_shareOut_224 κ post ex (sp_X8_shareOut_224 κ post ex v2 i3 v5 n6 n) v2 i3 v5 n6 w y f6 v7 v8
set_option maxHeartbeats 4000000 in
theorem lp_X8_shareOut_224 {p : Program} {l : Launch} {e : Env} {s : State} {m : MethodId} {args : Array Value} {below : List Frame} {meth : Method} {c : Code} {κ : Kx} {y0 : Ly} {X : XR} {post : Int32 → Wd → Ly → Prop} {q6 : Nat} {v2 : Int32} {i3 : Nat} {v5 : Int32} {n6 : Nat} (hx : p.tables.exec = Jvm.exec) (hb : c.code = cX8_shareOut) (hr : meth.sig.returnType = (Option.some Jvm.ClassFile.FieldType.int)) (hml : c.maxLocals = 10) (hown : s.vm.findClass RX8 = some m.cls) (hts : ∀ w ∈ lw_all, w.before args s = true) (hlocks : meth.locks = false) (hK : KK κ s)   {C1 S1 : Nat} (hC : C1 ≤ 14) (hSl : S1 ≤ 21) {ex : Wd → Ly → (Nat → Int64) → (Int32) → Prop}
    (kx : ∀ (w : Wd) (y : Ly) (f6 : Nat → Int64) (v7 : Int32) (H : Heap) (locs : List Loc) (ls : Array Slot) (cells slots : Nat) (hM : WFm κ y) (hLe : LeS y0 y) , ex w y f6 v7 → Rp κ w y X [(q6, .inl (kT κ 1, (n6, .inr (.inl (f6)))))] H → va_S (Af κ) s.heap H locs → lv_has ls 10 [(0, .ref (y.2 20 0)), (2, .int (v2)), (3, .ref (y.2 26 i3)), (5, .int (v5)), (6, .ref (q6)), (7, .int (v7))] → cells ≤ C1 → slots ≤ S1 → W p l e (headSpec (ws_ yX8_shareOut cX8_shareOut 10 (Option.some Jvm.ClassFile.FieldType.int)) rm_X8_shareOut).room s m args below meth c H locs cells slots (MQ below (va_Qi (fun r (u : Wd × Ly) => post r u.1 u.2) (fun (u : Wd × Ly) t => Rp κ u.1 u.2 X [] t.heap ∧ WFm κ u.2 ∧ LeS y0 u.2) (Af κ)) args s 14 21 (Af κ)) (F0 m 256 ls [])) :
    ∀ (f : Nat) (w : Wd) (y : Ly) (f6 : Nat → Int64) (v7 : Int32) (v8 : Int32) (H : Heap) (locs : List Loc) (ls : Array Slot) (cells slots : Nat) (hM : WFm κ y) (hLe : LeS y0 y) (l0 : live y 20 0) (l3 : live y 26 i3) , sp_X8_shareOut_224 κ post ex v2 i3 v5 n6 f w y f6 v7 v8 → Rp κ w y X [(q6, .inl (kT κ 1, (n6, .inr (.inl (f6)))))] H → va_S (Af κ) s.heap H locs → lv_has ls 10 [(0, .ref (y.2 20 0)), (2, .int (v2)), (3, .ref (y.2 26 i3)), (5, .int (v5)), (6, .ref (q6)), (7, .int (v7)), (8, .int (v8))] → cells + f * 0 ≤ C1 → slots + f * 0 ≤ S1 → W p l e (headSpec (ws_ yX8_shareOut cX8_shareOut 10 (Option.some Jvm.ClassFile.FieldType.int)) rm_X8_shareOut).room s m args below meth c H locs cells slots (MQ below (va_Qi (fun r (u : Wd × Ly) => post r u.1 u.2) (fun (u : Wd × Ly) t => Rp κ u.1 u.2 X [] t.heap ∧ WFm κ u.2 ∧ LeS y0 u.2) (Af κ)) args s 14 21 (Af κ)) (F0 m 224 ls []) := by
  intro f
  induction f with
  | zero =>
    intro w y f6 v7 v8 H locs ls cells slots hM hLe l0 l3 h
    exact False.elim h
  | succ f ih =>
    intro w y f6 v7 v8 H locs ls cells slots hM hLe l0 l3 h hR hS hl hc hs
    have h : st_X8_shareOut_224 κ post ex (sp_X8_shareOut_224 κ post ex v2 i3 v5 n6 f) v2 i3 v5 n6 w y f6 v7 v8 := h
    unfold st_X8_shareOut_224 at h
    refine lv_iload hx hb dX8_shareOut_224 (lv_at hl 6 rfl) ?_
    refine lv_aload hx hb dX8_shareOut_226 (lv_at hl 4 rfl) ?_
    refine xa_alen hx hb hK.1 (hR.L 0 _ rfl) 1 rfl dX8_shareOut_228 ?_
    refine lv_icmp_ge (tgt := 256) hx hb dX8_shareOut_229 (by decide) (fun c_229 => ?_) (fun c_229 => ?_)
    · have h := h.1 c_229
      exact kx w y f6 v7 _ _ _ _ _ hM hLe h hR hS (lv_sub hl [0, 1, 2, 3, 4, 5] rfl) (by omega) (by omega)
    · have h := h.2 c_229
      refine lv_aload hx hb dX8_shareOut_232 (lv_at hl 4 rfl) ?_
      refine lv_iload hx hb dX8_shareOut_234 (lv_at hl 6 rfl) ?_
      have o_236 := h.1
      have h := h.2
      refine xa_lald hx hb hK.1 (hR.L 0 _ rfl) 1 rfl o_236 dX8_shareOut_236 ?_
      refine lv_aload hx hb dX8_shareOut_237 (lv_at hl 4 rfl) ?_
      refine lv_iload hx hb dX8_shareOut_239 (lv_at hl 5 rfl) ?_
      have o_241 := h.1
      have h := h.2
      refine xa_lald hx hb hK.1 (hR.L 0 _ rfl) 1 rfl o_241 dX8_shareOut_241 ?_
      refine W.lcmp hx hb dX8_shareOut_242 ?_
      refine jn_elim h (fun j250 ej250 h => ?_)
      have Jj250 : ∀ (w250 : Wd) (v7_250 : Int32) (H : Heap) (locs : List Loc) (ls : Array Slot), j250 w250 v7_250 → Rp κ w250 y X [(q6, .inl (kT κ 1, (n6, .inr (.inl (f6)))))] H → va_S (Af κ) s.heap H locs → lv_has ls 10 [(0, .ref (y.2 20 0)), (2, .int (v2)), (3, .ref (y.2 26 i3)), (5, .int (v5)), (6, .ref (q6)), (7, .int (v7_250)), (8, .int (v8))] → W p l e (headSpec (ws_ yX8_shareOut cX8_shareOut 10 (Option.some Jvm.ClassFile.FieldType.int)) rm_X8_shareOut).room s m args below meth c H locs (cells + 0) (slots + 0) (MQ below (va_Qi (fun r (u : Wd × Ly) => post r u.1 u.2) (fun (u : Wd × Ly) t => Rp κ u.1 u.2 X [] t.heap ∧ WFm κ u.2 ∧ LeS y0 u.2) (Af κ)) args s 14 21 (Af κ)) (F0 m 250 ls []) := by
        clear h
        intro w250 v7_250 H locs ls h hR hS hl
        subst ej250
        obtain ⟨x_250, ex_250⟩ : ∃ z : Int32, z = v8 + (1 : Int32) := ⟨_, rfl⟩
        have h := h x_250 ex_250
        refine lv_iinc (v := x_250) (lv' := [(8, .int (x_250)), (0, .ref (y.2 20 0)), (2, .int (v2)), (3, .ref (y.2 26 i3)), (5, .int (v5)), (6, .ref (q6)), (7, .int (v7_250))]) hx hb dX8_shareOut_250 hl (k := 6) rfl (by rw [ex_250]; rfl) (by decide) rfl (fun ls hl => ?_)
        refine lv_goto (tgt := 224) hx hb dX8_shareOut_253 (by decide) ?_
        exact ih w250 y f6 v7_250 x_250 _ _ _ _ _ hM hLe l0 l3  h hR hS (lv_sub hl [1, 2, 3, 4, 5, 6, 0] rfl) (by omega) (by omega)
      refine lv_if_le (tgt := 250) hx hb dX8_shareOut_243 (by decide) (fun c_243 => ?_) (fun c_243 => ?_)
      · have h := h.1 c_243
        refine W.widen (k := cells + 0) (n := slots + 0) (by omega) (by omega) ?_
        exact Jj250 w v7 _ _ _ h hR hS (lv_sub hl [0, 1, 2, 3, 4, 5, 6] rfl)
      · have h := h.2 c_243
        refine lv_iload hx hb dX8_shareOut_246 (lv_at hl 6 rfl) ?_
        refine lv_istore (lv' := [(7, .int (v8)), (0, .ref (y.2 20 0)), (2, .int (v2)), (3, .ref (y.2 26 i3)), (5, .int (v5)), (6, .ref (q6)), (8, .int (v8))]) hx hb dX8_shareOut_248 hl (by decide) rfl (fun ls hl => ?_)
        refine W.widen (k := cells + 0) (n := slots + 0) (by omega) (by omega) ?_
        exact Jj250 w v8 _ _ _ h hR hS (lv_sub hl [1, 2, 3, 4, 5, 0, 6] rfl)
def st_X8_shareOut_213 (κ : Kx) (post : Int32 → Wd → Ly → Prop) (ex : Wd → Ly → Prop) (rec : Wd → Ly → Int32 → (Nat → Int64) → Prop) (v2 : Int32) (i3 : Nat) (n6 : Nat) (w : Wd) (y : Ly) (v5 : Int32) (f6 : Nat → Int64) : Prop := ((v5 ≤ 0) → (ex w y )) ∧ ((¬ (v5 ≤ 0)) → (sp_X8_shareOut_224 κ post (fun w_224 y_224 f6_224 y7_224 => (vp_in (y7_224) (mT y_224 i3)) ∧ ((vp_in (y7_224) (y_224.1 158 i3)) ∧ (∀ (w_279 : Wd) (y_279 : Ly), BxS w_224 w_279 y_224 y_279 (50 + (5 * i3 + (y7_224).toNatClampNeg)) ((bxV w_224 y_224 (50 + (5 * i3 + ((y7_224).toNatClampNeg)))) + (1 : Int32)) → LeS y_224 y_279 → (vp_in (y7_224) n6) ∧ (∀ f_293 : Nat → Int64, f_293 = vp_updL f6_224 (y7_224).toNatClampNeg ((-1 : Int64)) → ∀ x_294 : Int32, x_294 = v5 + (-1 : Int32) → rec w_279 y_279 x_294 f_293)))) v2 i3 v5 n6 6 w y f6 (0 : Int32) (1 : Int32)))
def sp_X8_shareOut_213 (κ : Kx) (post : Int32 → Wd → Ly → Prop) (ex : Wd → Ly → Prop) (v2 : Int32) (i3 : Nat) (n6 : Nat) : Nat → Wd → Ly → Int32 → (Nat → Int64) → Prop
  | 0 => fun _ _ _ _ => False
  | n + 1 => fun w y v5 f6 => st_X8_shareOut_213 κ post ex (sp_X8_shareOut_213 κ post ex v2 i3 n6 n) v2 i3 n6 w y v5 f6
set_option maxHeartbeats 4000000 in
theorem lp_X8_shareOut_213 {p : Program} {l : Launch} {e : Env} {s : State} {m : MethodId} {args : Array Value} {below : List Frame} {meth : Method} {c : Code} {κ : Kx} {y0 : Ly} {X : XR} {post : Int32 → Wd → Ly → Prop} {q6 : Nat} {v2 : Int32} {i3 : Nat} {n6 : Nat} (hx : p.tables.exec = Jvm.exec) (hb : c.code = cX8_shareOut) (hr : meth.sig.returnType = (Option.some Jvm.ClassFile.FieldType.int)) (hml : c.maxLocals = 10) (hown : s.vm.findClass RX8 = some m.cls) (hts : ∀ w ∈ lw_all, w.before args s = true) (hlocks : meth.locks = false) (hK : KK κ s)   {C1 S1 : Nat} (hC : C1 ≤ 14) (hSl : S1 ≤ 21) {ex : Wd → Ly → Prop}
    (kx : ∀ (w : Wd) (y : Ly)  (H : Heap) (locs : List Loc) (ls : Array Slot) (cells slots : Nat) (hM : WFm κ y) (hLe : LeS y0 y) , ex w y  → Rp κ w y X [] H → va_S (Af κ) s.heap H locs → lv_has ls 10 [(0, .ref (y.2 20 0)), (2, .int (v2)), (3, .ref (y.2 26 i3))] → cells ≤ C1 → slots ≤ S1 → W p l e (headSpec (ws_ yX8_shareOut cX8_shareOut 10 (Option.some Jvm.ClassFile.FieldType.int)) rm_X8_shareOut).room s m args below meth c H locs cells slots (MQ below (va_Qi (fun r (u : Wd × Ly) => post r u.1 u.2) (fun (u : Wd × Ly) t => Rp κ u.1 u.2 X [] t.heap ∧ WFm κ u.2 ∧ LeS y0 u.2) (Af κ)) args s 14 21 (Af κ)) (F0 m 300 ls [])) :
    ∀ (f : Nat) (w : Wd) (y : Ly) (v5 : Int32) (f6 : Nat → Int64) (H : Heap) (locs : List Loc) (ls : Array Slot) (cells slots : Nat) (hM : WFm κ y) (hLe : LeS y0 y) (l0 : live y 20 0) (l3 : live y 26 i3) , sp_X8_shareOut_213 κ post ex v2 i3 n6 f w y v5 f6 → Rp κ w y X [(q6, .inl (kT κ 1, (n6, .inr (.inl (f6)))))] H → va_S (Af κ) s.heap H locs → lv_has ls 10 [(0, .ref (y.2 20 0)), (2, .int (v2)), (3, .ref (y.2 26 i3)), (5, .int (v5)), (6, .ref (q6))] → cells + f * 1 ≤ C1 → slots + f * 1 ≤ S1 → W p l e (headSpec (ws_ yX8_shareOut cX8_shareOut 10 (Option.some Jvm.ClassFile.FieldType.int)) rm_X8_shareOut).room s m args below meth c H locs cells slots (MQ below (va_Qi (fun r (u : Wd × Ly) => post r u.1 u.2) (fun (u : Wd × Ly) t => Rp κ u.1 u.2 X [] t.heap ∧ WFm κ u.2 ∧ LeS y0 u.2) (Af κ)) args s 14 21 (Af κ)) (F0 m 213 ls []) := by
  intro f
  induction f with
  | zero =>
    intro w y v5 f6 H locs ls cells slots hM hLe l0 l3 h
    exact False.elim h
  | succ f ih =>
    intro w y v5 f6 H locs ls cells slots hM hLe l0 l3 h hR hS hl hc hs
    have h : st_X8_shareOut_213 κ post ex (sp_X8_shareOut_213 κ post ex v2 i3 n6 f) v2 i3 n6 w y v5 f6 := h
    unfold st_X8_shareOut_213 at h
    refine lv_iload hx hb dX8_shareOut_213 (lv_at hl 3 rfl) ?_
    refine lv_if_le (tgt := 300) hx hb dX8_shareOut_215 (by decide) (fun c_215 => ?_) (fun c_215 => ?_)
    · have h := h.1 c_215
      have hR := hR.sub (L' := []) [] rfl rfl
      exact kx w y  _ _ _ _ _ hM hLe h hR hS (lv_sub hl [0, 1, 2] rfl) (by omega) (by omega)
    · have h := h.2 c_215
      refine lv_iconst (v := (0 : Int32)) hx hb dX8_shareOut_218 (by decide) ?_
      refine lv_istore (lv' := [(7, .int ((0 : Int32))), (0, .ref (y.2 20 0)), (2, .int (v2)), (3, .ref (y.2 26 i3)), (5, .int (v5)), (6, .ref (q6))]) hx hb dX8_shareOut_219 hl (by decide) rfl (fun ls hl => ?_)
      refine lv_iconst (v := (1 : Int32)) hx hb dX8_shareOut_221 (by decide) ?_
      refine lv_istore (lv' := [(8, .int ((1 : Int32))), (7, .int ((0 : Int32))), (0, .ref (y.2 20 0)), (2, .int (v2)), (3, .ref (y.2 26 i3)), (5, .int (v5)), (6, .ref (q6))]) hx hb dX8_shareOut_222 hl (by decide) rfl (fun ls hl => ?_)
      have lv_224 := l0
      have lv_224_a := l3
      refine lp_X8_shareOut_224 (C1 := (cells + 0)) (S1 := (slots + 0)) hx hb hr hml hown hts hlocks hK  (Nat.le_trans (by omega) hC) (Nat.le_trans (by omega) hSl) (fun w_224 y_224 f6_224 y7_224 H locs ls cells9 slots9 hM_y_224 hLe_y_224 h hR hS hl hc9 hs9 => ?_) 6 w y f6 (0 : Int32) (1 : Int32) _ _ _ _ _ hM hLe l0 l3  h hR hS (lv_sub hl [2, 3, 4, 5, 6, 1, 0] rfl) (by omega) (by omega)
      have hL1_y_224 := hLe.symm.trans hLe_y_224
      refine W.widen (k := (cells + 0)) (n := (slots + 0)) hc9 hs9 ?_
      have lw_224 := hL1_y_224.live (k := 20) rfl lv_224
      have lw_224_a := hL1_y_224.live (k := 26) rfl lv_224_a
      refine lv_aload_n hx hb dX8_shareOut_256 rfl (lv_at hl 2 rfl) ?_
      refine g26_10 hx hb hts hown hK hR lw_224_a q2161 dX8_shareOut_257 ?_
      refine lv_iload hx hb dX8_shareOut_260 (lv_at hl 5 rfl) ?_
      refine lv_aload_n hx hb dX8_shareOut_262 rfl (lv_at hl 2 rfl) ?_
      refine g26_10 hx hb hts hown hK hR lw_224_a q2161 dX8_shareOut_263 ?_
      refine lv_iload hx hb dX8_shareOut_266 (lv_at hl 5 rfl) ?_
      have o_268 := h.1
      have h := h.2
      refine jr_get (a := y_224.2 358 (16 * i3 + ((y7_224).toNatClampNeg))) ⟨hx, hb, hml, hown, hts⟩ hK hR ⟨fun _ _ _ _ _ => rfl, fun _ _ _ _ _ => rfl⟩ (hM_y_224.cto lw_224_a) ⟨hM_y_224.arT (Nat.lt_of_le_of_lt (Nat.zero_le _) (vp_lt o_268)), (Nat.le_trans (hM_y_224.mTS lw_224_a) (Nat.le_trans (hM_y_224.mS5 lw_224_a) (by decide)))⟩ o_268 rfl q2101 ⟨Nat.le_of_ble_eq_true rfl, Nat.le_of_ble_eq_true rfl⟩ hl.1 (Nat.le_of_ble_eq_true rfl) dX8_shareOut_268 ⟨(Nat.le_trans (show cells + 0 ≤ C1 from by omega) hC), (Nat.le_trans (show slots + 0 ≤ S1 from by omega) hSl)⟩ ?_
      refine jr_castS (ci := 19) hx hb hown hK hts (bx_at hK hR (hM_y_224.bxT lw_224_a (vp_lt o_268))) rfl q2232 dX8_shareOut_271 ?_
      refine jr_intv ⟨hx, hb, hml, hown, hts⟩ hK (bx_at hK hR (hM_y_224.bxT lw_224_a (vp_lt o_268))) q2233 ⟨Nat.le_of_ble_eq_true rfl, Nat.le_of_ble_eq_true rfl⟩ hl.1 (Nat.le_of_ble_eq_true rfl) dX8_shareOut_274 ⟨(Nat.le_trans (show cells + 0 ≤ C1 from by omega) hC), (Nat.le_trans (show slots + 0 ≤ S1 from by omega) hSl)⟩ ?_
      refine lv_iconst (v := (1 : Int32)) hx hb dX8_shareOut_277 (by decide) ?_
      refine lv_iadd hx hb dX8_shareOut_278 ?_
      have o_279 := h.1
      have h := h.2
      have lv_279 := lw_224
      have lv_279_a := lw_224_a
      refine jr_vset58 ⟨hx, hb, hml, hown, hts⟩ hK hR hS hM_y_224 lw_224_a o_279 q2193 q2234 ⟨Nat.le_of_ble_eq_true rfl, Nat.le_of_ble_eq_true rfl⟩ ⟨Nat.le_of_ble_eq_true rfl, Nat.le_of_ble_eq_true rfl⟩ hl.1 (Nat.le_of_ble_eq_true rfl) dX8_shareOut_279 dX8_shareOut_282 dX8_shareOut_285 ⟨(Nat.le_trans (show cells + 1 ≤ C1 from by omega) hC), (Nat.le_trans (show slots + 1 ≤ S1 from by omega) hSl)⟩ (fun H locs w_279 y_279 hbx hL1_y_279 hM_y_279 hR hS => ?_)
      have h := h w_279 y_279 hbx hL1_y_279
      clear hbx
      have lw_279 := hL1_y_279.live (k := 20) rfl lv_279
      have lw_279_a := hL1_y_279.live (k := 26) rfl lv_279_a
      have hl : lv_has ls 10 [(0, .ref (y_279.2 20 0)), (2, .int (v2)), (3, .ref (y_279.2 26 i3)), (5, .int (v5)), (6, .ref (q6)), (7, .int (y7_224))] := by
        rw [hL1_y_279.2 20 rfl, hL1_y_279.2 26 rfl]
        exact hl
      have hLe_y_279 : LeS _ y_279 := (hLe_y_224.trans hL1_y_279)
      have hR : Rp κ w_279 y_279 X [(q6, .inl (kT κ 1, (n6, .inr (.inl (f6_224)))))] H := hR
      refine lv_aload hx hb dX8_shareOut_286 (lv_at hl 4 rfl) ?_
      refine lv_iload hx hb dX8_shareOut_288 (lv_at hl 5 rfl) ?_
      refine lv_ldc2 (v := (-1 : Int64)) hx hb hown (hts _ q2235) dX8_shareOut_290 ?_
      have o_293 := h.1
      have h := h.2
      refine xa_last hx hb hK.1 hS (hR.LD.2 0 _ rfl) (hR.L 0 _ rfl) 1 rfl o_293 dX8_shareOut_293 (fun H1 locs h1 hz ho hS => ?_)
      have hR := hR.putL (t := 0) rfl h1 hz ho
      clear h1 hz ho
      generalize H1 = H at hR hS ⊢
      obtain ⟨f_293, ef_293⟩ : ∃ z, z = vp_updL f6_224 (y7_224).toNatClampNeg ((-1 : Int64)) := ⟨_, rfl⟩
      rw [← ef_293] at hR
      have h := h f_293 ef_293
      have hR : Rp κ w_279 y_279 X [(q6, .inl (kT κ 1, (n6, .inr (.inl (f_293)))))] H := hR
      obtain ⟨x_294, ex_294⟩ : ∃ z : Int32, z = v5 + (-1 : Int32) := ⟨_, rfl⟩
      have h := h x_294 ex_294
      refine lv_iinc (v := x_294) (lv' := [(5, .int (x_294)), (0, .ref (y_279.2 20 0)), (2, .int (v2)), (3, .ref (y_279.2 26 i3)), (6, .ref (q6)), (7, .int (y7_224))]) hx hb dX8_shareOut_294 hl (k := 3) rfl (by rw [ex_294]; rfl) (by decide) rfl (fun ls hl => ?_)
      refine lv_goto (tgt := 213) hx hb dX8_shareOut_297 (by decide) ?_
      exact ih w_279 y_279 x_294 f_293 _ _ _ _ _ hM_y_279 hLe_y_279 lw_279 lw_279_a  h hR hS (lv_sub hl [1, 2, 3, 0, 4] rfl) (by omega) (by omega)
def sp_X8_shareOut (κ : Kx) (y : Ly) (post : Int32 → Wd → Ly → Prop) (w : Wd) (p1 : Int32) (p2 : Int32) : Prop := sp_X8_isNoCompany κ y (fun r_3 w_3 => sp_X8_start κ y (fun r_7 w_7 => ((¬ r_7 = 0) → (post ((0 : Int32)) w_7 y)) ∧ ((r_7 = 0) → (∀ j24 : Wd → Int32 → Prop, (j24 = fun (w24 : Wd) (s0_24 : Int32) => sp_X8_refuse κ y (fun r_25 w_25 => ((¬ r_25 = 0) → (post ((0 : Int32)) w_25 y)) ∧ ((r_25 = 0) → ((vp_in (p1) (mC y)) ∧ (∀ j75 : Wd → Int32 → Prop, (j75 = fun (w75 : Wd) (s0_75 : Int32) => sp_X8_refuse κ y (fun r_76 w_76 => ((r_76 = 0) → ((vp_in (p1) (mC y)) ∧ (sp_X13_allShares κ y (fun r_97 w_97 => ∀ n_112 : Nat, n_112 = mS y (((((p1).toNatClampNeg)))) → sp_X8_shareOut_119 κ post (fun w_119 y_119 y5_119 f6_119 => sp_X8_shareOut_213 κ post (fun w_213 y_213  => ∀ w_307 : Wd, w_307 = sv w_213 26 (((p1).toNatClampNeg)) 1 ((gv w_213 26 (((p1).toNatClampNeg)) 1) - p2) → ∀ w_317 : Wd, w_317 = sv w_307 20 0 15 ((gv w_307 20 0 15) + p2) → post (gv w_317 26 (((p1).toNatClampNeg)) 1) w_317 y_213) p2 (((p1).toNatClampNeg)) n_112 6 w_119 y_119 y5_119 f6_119) p2 (((p1).toNatClampNeg)) r_97 n_112 6 w_97 y p2 ((fun _ => 0)) (0 : Int32)) w_76 (((p1).toNatClampNeg))))) ∧ ((¬ (r_76 = 0)) → (post ((0 : Int32)) w_76 y))) w75 s0_75 (3 : Int32)) → ((((mS y (((((p1).toNatClampNeg)))) = 0)) → (j75 w_25 (1 : Int32))) ∧ ((¬ (mS y (((((p1).toNatClampNeg)))) = 0)) → ((vp_in (p1) (mC y)) ∧ (((p2 ≤ gv w_25 26 (((p1).toNatClampNeg)) 1) → (j75 w_25 (0 : Int32))) ∧ ((¬ (p2 ≤ gv w_25 26 (((p1).toNatClampNeg)) 1)) → (j75 w_25 (1 : Int32))))))))))) w24 s0_24 (2 : Int32)) → ((((1 : Int32) ≤ p2) → (j24 w_7 (0 : Int32))) ∧ ((¬ ((1 : Int32) ≤ p2)) → (j24 w_7 (1 : Int32))))))) w_3 r_3 (1 : Int32)) w p1
theorem hd_X8_shareOut : yX8_shareOut.cls = RX8 ∧ yX8_shareOut.cls ≠ "java/lang/invoke/MethodHandle" ∧ yX8_shareOut.cls ≠ "java/lang/invoke/VarHandle" ∧ (parseMethodDescriptor yX8_shareOut.desc).map (fun d => d.parameters.length) = some 2 := by decide +kernel
set_option maxHeartbeats 4000000 in
theorem m_X8_shareOut {l : Launch} {κ : Kx} {y : Ly} {X : XR} {post : Int32 → Wd → Ly → Prop} {w : Wd} {p1 : Int32} {p2 : Int32}  (hM : WFm κ y) (l0 : live y 20 0) (h : sp_X8_shareOut κ y post w p1 p2) : Met l yX8_shareOut (ws_ yX8_shareOut cX8_shareOut 10 (Option.some Jvm.ClassFile.FieldType.int)) rm_X8_shareOut (va_Pc [.ref (y.2 20 0), .int (p1), .int (p2)] (RC κ w y X)) (va_Qi (fun r (u : Wd × Ly) => post r u.1 u.2) (fun (u : Wd × Ly) t => Rp κ u.1 u.2 X [] t.heap ∧ WFm κ u.2 ∧ LeS y u.2) (Af κ)) 14 21 (Af κ) := by
  unfold sp_X8_shareOut at h
  refine Met.ofW (cc := cX8_shareOut) (maxL := 10) (ret := (Option.some Jvm.ClassFile.FieldType.int)) (by decide) rfl ?_
  intro p e s m args below meth c s₁ B hml hv
  obtain ⟨rfl, hR, hK⟩ := hv
  have hx := B.exec
  have hb := B.bytes
  have hr := B.returns
  have hts := atoms_spec (ws := ws_ yX8_shareOut cX8_shareOut 10 (Option.some Jvm.ClassFile.FieldType.int)) B.pre
  have hts : ∀ w ∈ lw_all, w.before _ s = true := fun w h => hts w (List.mem_cons_of_mem _ h)
  have hown : s.vm.findClass RX8 = some m.cls := findClass_of_methodNamed B.named
  have hlocks := B.notSynchronized
  have hLe : LeS y y := LeS.rf
  have hS : va_S (Af κ) s.heap s.heap [] := va_S.rf
  have hl := lv_entry ([.ref (y.2 20 0), .int (p1), .int (p2)]) (n := 10) (Nat.le_of_ble_eq_true rfl)
  rw [lg_entry_eq]
  generalize (lg_sl ([.ref (y.2 20 0), .int (p1), .int (p2)]) ++ List.replicate (10 - (lg_sl ([.ref (y.2 20 0), .int (p1), .int (p2)])).length) Slot.unset).toArray = ls at hl ⊢
  have hl : lv_has ls 10 [(0, .ref (y.2 20 0)), (1, .int (p1)), (2, .int (p2))] := hl
  refine lv_aload_n hx hb dX8_shareOut_0 rfl (lv_at hl 0 rfl) ?_
  refine lv_aload_n hx hb dX8_shareOut_1 rfl (lv_at hl 0 rfl) ?_
  refine lv_iload_n hx hb dX8_shareOut_2 rfl (lv_at hl 1 rfl) ?_
  refine ce_qi (fw := fun u => u) (fy := fun _ => y) (cr_V (n := 1) (As := [.int (p1)]) (rest := [.ref (y.2 20 0)]) ⟨hx, hb, hml, hown, hts⟩ hK hR (m_X8_isNoCompany hM l0 h) q2189 q2191 qs42 q85 q2192 rfl rfl hd_X8_isNoCompany ⟨Nat.le_of_ble_eq_true rfl, Nat.le_of_ble_eq_true rfl⟩ (rv hK hR l0 (ci := 11) rfl rfl) rfl rfl hl.1 rfl (lv_room (Nat.le_of_ble_eq_true rfl)) dX8_shareOut_3 ⟨(Nat.le_of_ble_eq_true rfl), (Nat.le_of_ble_eq_true rfl)⟩) hR hS (fun r_3 w_3 H locs h hR _ hS => ?_)
  refine lv_iconst (v := (1 : Int32)) hx hb dX8_shareOut_6 (by decide) ?_
  refine ce_qi (fw := fun u => u) (fy := fun _ => y) (cr_V (n := 2) (As := [.int (r_3), .int ((1 : Int32))]) (rest := []) ⟨hx, hb, hml, hown, hts⟩ hK hR (m_X8_start hM l0 h) q2023 q2025 qs37 q85 q2026 rfl rfl hd_X8_start ⟨Nat.le_of_ble_eq_true rfl, Nat.le_of_ble_eq_true rfl⟩ (rv hK hR l0 (ci := 11) rfl rfl) rfl rfl hl.1 rfl (lv_room (Nat.le_of_ble_eq_true rfl)) dX8_shareOut_7 ⟨(Nat.le_of_ble_eq_true rfl), (Nat.le_of_ble_eq_true rfl)⟩) hR hS (fun r_7 w_7 H locs h hR _ hS => ?_)
  refine lv_if_ne (tgt := 82) hx hb dX8_shareOut_10 (by decide) (fun c_10 => ?_) (fun c_10 => ?_)
  · have h := h.1 c_10
    refine lv_iconst (v := (0 : Int32)) hx hb dX8_shareOut_82 (by decide) ?_
    refine W.widen (k := 14) (n := 21) (Nat.le_of_ble_eq_true rfl) (Nat.le_of_ble_eq_true rfl) ?_
    exact W.iret (v := (0 : Int32)) hx hb hr (fun t ht hW9 => ⟨⟨(0 : Int32), (w_7, y), rfl, h, ⟨rpt ht hR, hM, hLe⟩⟩, hS.F ht⟩) hS.2.2 dX8_shareOut_83
  · have h := h.2 c_10
    refine lv_aload_n hx hb dX8_shareOut_13 rfl (lv_at hl 0 rfl) ?_
    refine lv_iload_n hx hb dX8_shareOut_14 rfl (lv_at hl 2 rfl) ?_
    refine lv_iconst (v := (1 : Int32)) hx hb dX8_shareOut_15 (by decide) ?_
    refine jn_elim h (fun j24 ej24 h => ?_)
    have Jj24 : ∀ (w24 : Wd) (s0_24 : Int32) (H : Heap) (locs : List Loc) (ls : Array Slot), j24 w24 s0_24 → Rp κ w24 y X [] H → va_S (Af κ) s.heap H locs → lv_has ls 10 [(0, .ref (y.2 20 0)), (1, .int (p1)), (2, .int (p2))] → W p l e (headSpec (ws_ yX8_shareOut cX8_shareOut 10 (Option.some Jvm.ClassFile.FieldType.int)) rm_X8_shareOut).room s m ([.ref (y.2 20 0), .int (p1), .int (p2)] : List Value).toArray below meth c H locs (0) (0) (MQ below (va_Qi (fun r (u : Wd × Ly) => post r u.1 u.2) (fun (u : Wd × Ly) t => Rp κ u.1 u.2 X [] t.heap ∧ WFm κ u.2 ∧ LeS y u.2) (Af κ)) ([.ref (y.2 20 0), .int (p1), .int (p2)] : List Value).toArray s 14 21 (Af κ)) (F0 m 24 ls [.int (s0_24), .ref (y.2 20 0)]) := by
      clear h
      intro w24 s0_24 H locs ls h hR hS hl
      subst ej24
      refine lv_iconst (v := (2 : Int32)) hx hb dX8_shareOut_24 (by decide) ?_
      refine ce_qi (fw := fun u => u) (fy := fun _ => y) (cr_V (n := 2) (As := [.int (s0_24), .int ((2 : Int32))]) (rest := []) ⟨hx, hb, hml, hown, hts⟩ hK hR (m_X8_refuse hM l0 h) q2027 q2029 qs38 q85 q2030 rfl rfl hd_X8_refuse ⟨Nat.le_of_ble_eq_true rfl, Nat.le_of_ble_eq_true rfl⟩ (rv hK hR l0 (ci := 11) rfl rfl) rfl rfl hl.1 rfl (lv_room (Nat.le_of_ble_eq_true rfl)) dX8_shareOut_25 ⟨(Nat.le_of_ble_eq_true rfl), (Nat.le_of_ble_eq_true rfl)⟩) hR hS (fun r_25 w_25 H locs h hR _ hS => ?_)
      refine lv_if_ne (tgt := 82) hx hb dX8_shareOut_28 (by decide) (fun c_28 => ?_) (fun c_28 => ?_)
      · have h := h.1 c_28
        refine lv_iconst (v := (0 : Int32)) hx hb dX8_shareOut_82 (by decide) ?_
        refine W.widen (k := 14) (n := 21) (Nat.le_of_ble_eq_true rfl) (Nat.le_of_ble_eq_true rfl) ?_
        exact W.iret (v := (0 : Int32)) hx hb hr (fun t ht hW9 => ⟨⟨(0 : Int32), (w_25, y), rfl, h, ⟨rpt ht hR, hM, hLe⟩⟩, hS.F ht⟩) hS.2.2 dX8_shareOut_83
      · have h := h.2 c_28
        refine lv_aload_n hx hb dX8_shareOut_31 rfl (lv_at hl 0 rfl) ?_
        refine lv_aload_n hx hb dX8_shareOut_32 rfl (lv_at hl 0 rfl) ?_
        refine g20_4 hx hb hts hown hK hR l0 q1949 dX8_shareOut_33 ?_
        refine lv_iload_n hx hb dX8_shareOut_36 rfl (lv_at hl 1 rfl) ?_
        have o_37 := h.1
        have h := h.2
        refine jr_get (a := y.2 26 ((p1).toNatClampNeg)) ⟨hx, hb, hml, hown, hts⟩ hK hR ⟨fun _ _ _ _ _ => rfl, fun _ _ _ _ _ => rfl⟩ hM.lsC ⟨hM.arC (Nat.lt_of_le_of_lt (Nat.zero_le _) (vp_lt o_37)), (Nat.le_trans hM.mC4 (by decide))⟩ o_37 (hM.elC (vp_lt o_37)) q2101 ⟨Nat.le_of_ble_eq_true rfl, Nat.le_of_ble_eq_true rfl⟩ hl.1 (Nat.le_of_ble_eq_true rfl) dX8_shareOut_37 ⟨(Nat.le_of_ble_eq_true rfl), (Nat.le_of_ble_eq_true rfl)⟩ ?_
        refine jr_castS (ci := 13) hx hb hown hK hts (hR.role (hM.com (vp_lt o_37))) rfl q2141 dX8_shareOut_40 ?_
        refine g26_9 hx hb hts hown hK hR (hM.com (vp_lt o_37)) q2159 dX8_shareOut_43 ?_
        refine jr_isEmpty ⟨hx, hb, hml, hown, hts⟩ hK hR ⟨fun _ _ _ _ _ => rfl, fun _ _ _ _ _ => rfl⟩ (hM.csh (hM.com (vp_lt o_37))) (Nat.le_trans (hM.mS5 (hM.com (vp_lt o_37))) (by decide)) q2217 ⟨Nat.le_of_ble_eq_true rfl, Nat.le_of_ble_eq_true rfl⟩ hl.1 (Nat.le_of_ble_eq_true rfl) dX8_shareOut_46 ⟨(Nat.le_of_ble_eq_true rfl), (Nat.le_of_ble_eq_true rfl)⟩ ?_
        refine jn_elim h (fun j75 ej75 h => ?_)
        have Jj75 : ∀ (w75 : Wd) (s0_75 : Int32) (H : Heap) (locs : List Loc) (ls : Array Slot), j75 w75 s0_75 → Rp κ w75 y X [] H → va_S (Af κ) s.heap H locs → lv_has ls 10 [(0, .ref (y.2 20 0)), (1, .int (p1)), (2, .int (p2))] → W p l e (headSpec (ws_ yX8_shareOut cX8_shareOut 10 (Option.some Jvm.ClassFile.FieldType.int)) rm_X8_shareOut).room s m ([.ref (y.2 20 0), .int (p1), .int (p2)] : List Value).toArray below meth c H locs (0) (0) (MQ below (va_Qi (fun r (u : Wd × Ly) => post r u.1 u.2) (fun (u : Wd × Ly) t => Rp κ u.1 u.2 X [] t.heap ∧ WFm κ u.2 ∧ LeS y u.2) (Af κ)) ([.ref (y.2 20 0), .int (p1), .int (p2)] : List Value).toArray s 14 21 (Af κ)) (F0 m 75 ls [.int (s0_75), .ref (y.2 20 0)]) := by
          clear h
          intro w75 s0_75 H locs ls h hR hS hl
          subst ej75
          refine lv_iconst (v := (3 : Int32)) hx hb dX8_shareOut_75 (by decide) ?_
          refine ce_qi (fw := fun u => u) (fy := fun _ => y) (cr_V (n := 2) (As := [.int (s0_75), .int ((3 : Int32))]) (rest := []) ⟨hx, hb, hml, hown, hts⟩ hK hR (m_X8_refuse hM l0 h) q2027 q2029 qs38 q85 q2030 rfl rfl hd_X8_refuse ⟨Nat.le_of_ble_eq_true rfl, Nat.le_of_ble_eq_true rfl⟩ (rv hK hR l0 (ci := 11) rfl rfl) rfl rfl hl.1 rfl (lv_room (Nat.le_of_ble_eq_true rfl)) dX8_shareOut_76 ⟨(Nat.le_of_ble_eq_true rfl), (Nat.le_of_ble_eq_true rfl)⟩) hR hS (fun r_76 w_76 H locs h hR _ hS => ?_)
          refine lv_if_eq (tgt := 84) hx hb dX8_shareOut_79 (by decide) (fun c_79 => ?_) (fun c_79 => ?_)
          · have h := h.1 c_79
            refine lv_aload_n hx hb dX8_shareOut_84 rfl (lv_at hl 0 rfl) ?_
            refine g20_4 hx hb hts hown hK hR l0 q1949 dX8_shareOut_85 ?_
            refine lv_iload_n hx hb dX8_shareOut_88 rfl (lv_at hl 1 rfl) ?_
            have o_89 := h.1
            have h := h.2
            refine jr_get (a := y.2 26 ((p1).toNatClampNeg)) ⟨hx, hb, hml, hown, hts⟩ hK hR ⟨fun _ _ _ _ _ => rfl, fun _ _ _ _ _ => rfl⟩ hM.lsC ⟨hM.arC (Nat.lt_of_le_of_lt (Nat.zero_le _) (vp_lt o_89)), (Nat.le_trans hM.mC4 (by decide))⟩ o_89 (hM.elC (vp_lt o_89)) q2101 ⟨Nat.le_of_ble_eq_true rfl, Nat.le_of_ble_eq_true rfl⟩ hl.1 (Nat.le_of_ble_eq_true rfl) dX8_shareOut_89 ⟨(Nat.le_of_ble_eq_true rfl), (Nat.le_of_ble_eq_true rfl)⟩ ?_
            refine jr_castS (ci := 13) hx hb hown hK hts (hR.role (hM.com (vp_lt o_89))) rfl q2141 dX8_shareOut_92 ?_
            refine lv_astore_n (lv' := [(3, .ref (y.2 26 ((p1).toNatClampNeg))), (0, .ref (y.2 20 0)), (1, .int (p1)), (2, .int (p2))]) hx hb dX8_shareOut_95 rfl hl (by decide) rfl (fun ls hl => ?_)
            refine lv_aload_n hx hb dX8_shareOut_96 rfl (lv_at hl 0 rfl) ?_
            refine ce_qi (fw := fun u => u) (fy := fun _ => y) (cr_V (n := 0) (As := []) (rest := []) ⟨hx, hb, hml, hown, hts⟩ hK hR (m_X13_allShares hM (hM.com (vp_lt o_89)) h) q2218 q2219 q2220 q107 q2221 rfl rfl hd_X13_allShares ⟨Nat.le_of_ble_eq_true rfl, Nat.le_of_ble_eq_true rfl⟩ (rv hK hR (hM.com (vp_lt o_89)) (ci := 13) rfl rfl) rfl rfl hl.1 rfl (lv_room (Nat.le_of_ble_eq_true rfl)) dX8_shareOut_97 ⟨(Nat.le_of_ble_eq_true rfl), (Nat.le_of_ble_eq_true rfl)⟩) hR hS (fun r_97 w_97 H locs h hR _ hS => ?_)
            refine lv_istore (lv' := [(4, .int (r_97)), (3, .ref (y.2 26 ((p1).toNatClampNeg))), (0, .ref (y.2 20 0)), (1, .int (p1)), (2, .int (p2))]) hx hb dX8_shareOut_100 hl (by decide) rfl (fun ls hl => ?_)
            refine lv_iload_n hx hb dX8_shareOut_102 rfl (lv_at hl 4 rfl) ?_
            refine lv_istore (lv' := [(5, .int (p2)), (4, .int (r_97)), (3, .ref (y.2 26 ((p1).toNatClampNeg))), (0, .ref (y.2 20 0)), (1, .int (p1)), (2, .int (p2))]) hx hb dX8_shareOut_103 hl (by decide) rfl (fun ls hl => ?_)
            refine lv_aload_n hx hb dX8_shareOut_105 rfl (lv_at hl 2 rfl) ?_
            refine g26_9 hx hb hts hown hK hR (hM.com (vp_lt o_89)) q2159 dX8_shareOut_106 ?_
            refine jr_size ⟨hx, hb, hml, hown, hts⟩ hK hR ⟨fun _ _ _ _ _ => rfl, fun _ _ _ _ _ => rfl⟩ (hM.csh (hM.com (vp_lt o_89))) q2031 ⟨Nat.le_of_ble_eq_true rfl, Nat.le_of_ble_eq_true rfl⟩ hl.1 (Nat.le_of_ble_eq_true rfl) dX8_shareOut_109 ⟨(Nat.le_of_ble_eq_true rfl), (Nat.le_of_ble_eq_true rfl)⟩ ?_
            refine jr_newl5 hx hb hts hK hS hR (hM.mS5 (hM.com (vp_lt o_89))) (Nat.le_of_ble_eq_true rfl) (Nat.le_of_ble_eq_true rfl) dX8_shareOut_112 (fun n_112 en_112 q_112 H hR hS => ?_)
            have h := h n_112 en_112
            have hR : Rp κ w_97 y X [(q_112, .inl (kT κ 1, (n_112, .inr (.inl ((fun _ => 0))))))] H := hR
            refine lv_astore (lv' := [(6, .ref (q_112)), (5, .int (p2)), (4, .int (r_97)), (3, .ref (y.2 26 ((p1).toNatClampNeg))), (0, .ref (y.2 20 0)), (1, .int (p1)), (2, .int (p2))]) hx hb dX8_shareOut_114 hl (by decide) rfl (fun ls hl => ?_)
            refine lv_iconst (v := (0 : Int32)) hx hb dX8_shareOut_116 (by decide) ?_
            refine lv_istore (lv' := [(7, .int ((0 : Int32))), (6, .ref (q_112)), (5, .int (p2)), (4, .int (r_97)), (3, .ref (y.2 26 ((p1).toNatClampNeg))), (0, .ref (y.2 20 0)), (1, .int (p1)), (2, .int (p2))]) hx hb dX8_shareOut_117 hl (by decide) rfl (fun ls hl => ?_)
            have lv_119 := (hM.com (vp_lt o_89))
            have lv_119_a := l0
            refine lp_X8_shareOut_119 (C1 := 8) (S1 := 15) hx hb hr hml hown hts hlocks hK  (Nat.le_of_ble_eq_true rfl) (Nat.le_of_ble_eq_true rfl) (fun w_119 y_119 y5_119 f6_119 H locs ls cells9 slots9 hM_y_119 hLe_y_119 h hR hS hl hc9 hs9 => ?_) 6 w_97 y p2 ((fun _ => 0)) (0 : Int32) _ _ _ _ _ hM hLe l0 (hM.com (vp_lt o_89))  h hR hS (lv_sub hl [5, 7, 4, 3, 2, 1, 0] rfl) (by omega) (by omega)
            have hL1_y_119 := hLe.symm.trans hLe_y_119
            refine W.widen (k := 8) (n := 15) hc9 hs9 ?_
            have lw_119 := hL1_y_119.live (k := 20) rfl lv_119_a
            have lw_119_a := hL1_y_119.live (k := 26) rfl lv_119
            have lv_213 := lw_119
            have lv_213_a := lw_119_a
            refine lp_X8_shareOut_213 (C1 := 14) (S1 := 21) hx hb hr hml hown hts hlocks hK  (Nat.le_of_ble_eq_true rfl) (Nat.le_of_ble_eq_true rfl) (fun w_213 y_213  H locs ls cells9 slots9 hM_y_213 hLe_y_213 h hR hS hl hc9 hs9 => ?_) 6 w_119 y_119 y5_119 f6_119 _ _ _ _ _ hM_y_119 hLe_y_119 lw_119 lw_119_a  h hR hS (lv_sub hl [0, 1, 2, 3, 4] rfl) (by omega) (by omega)
            have hL1_y_213 := hLe_y_119.symm.trans hLe_y_213
            refine W.widen (k := 14) (n := 21) hc9 hs9 ?_
            have lw_213 := hL1_y_213.live (k := 20) rfl lv_213
            have lw_213_a := hL1_y_213.live (k := 26) rfl lv_213_a
            refine lv_aload_n hx hb dX8_shareOut_300 rfl (lv_at hl 2 rfl) ?_
            refine lv_dup hx hb dX8_shareOut_301 rfl ?_
            refine g26_1 hx hb hts hown hK hR lw_213_a q2150 dX8_shareOut_302 ?_
            refine lv_iload_n hx hb dX8_shareOut_305 rfl (lv_at hl 1 rfl) ?_
            refine lv_isub hx hb dX8_shareOut_306 ?_
            refine p26_1 hx hb hts hown hK hR hS lw_213_a q2150 dX8_shareOut_307 (fun H locs w_307 ew_307 hR hS => ?_)
            have h := h w_307 ew_307
            refine lv_aload_n hx hb dX8_shareOut_310 rfl (lv_at hl 0 rfl) ?_
            refine lv_dup hx hb dX8_shareOut_311 rfl ?_
            refine g20_15 hx hb hts hown hK hR lw_213 q1960 dX8_shareOut_312 ?_
            refine lv_iload_n hx hb dX8_shareOut_315 rfl (lv_at hl 1 rfl) ?_
            refine lv_iadd hx hb dX8_shareOut_316 ?_
            refine p20_15 hx hb hts hown hK hR hS lw_213 q1960 dX8_shareOut_317 (fun H locs w_317 ew_317 hR hS => ?_)
            have h := h w_317 ew_317
            refine lv_aload_n hx hb dX8_shareOut_320 rfl (lv_at hl 2 rfl) ?_
            refine g26_1 hx hb hts hown hK hR lw_213_a q2150 dX8_shareOut_321 ?_
            refine W.widen (k := 14) (n := 21) (Nat.le_of_ble_eq_true rfl) (Nat.le_of_ble_eq_true rfl) ?_
            exact W.iret (v := gv w_317 26 (((p1).toNatClampNeg)) 1) hx hb hr (fun t ht hW9 => ⟨⟨gv w_317 26 (((p1).toNatClampNeg)) 1, (w_317, y_213), rfl, h, ⟨rpt ht hR, hM_y_213, hLe_y_213⟩⟩, hS.F ht⟩) hS.2.2 dX8_shareOut_324
          · have h := h.2 c_79
            refine lv_iconst (v := (0 : Int32)) hx hb dX8_shareOut_82 (by decide) ?_
            refine W.widen (k := 14) (n := 21) (Nat.le_of_ble_eq_true rfl) (Nat.le_of_ble_eq_true rfl) ?_
            exact W.iret (v := (0 : Int32)) hx hb hr (fun t ht hW9 => ⟨⟨(0 : Int32), (w_76, y), rfl, h, ⟨rpt ht hR, hM, hLe⟩⟩, hS.F ht⟩) hS.2.2 dX8_shareOut_83
        refine lv_if_ne (tgt := 70) hx hb dX8_shareOut_49 (by decide) (fun c_49 => ?_) (fun c_49 => ?_)
        · replace c_49 : (mS y (((((p1).toNatClampNeg)))) = 0) := bi_n0.mp c_49
          have h := h.1 c_49
          refine lv_iconst (v := (1 : Int32)) hx hb dX8_shareOut_70 (by decide) ?_
          refine lv_goto (tgt := 75) hx hb dX8_shareOut_71 (by decide) ?_
          refine W.widen (k := 0) (n := 0) (Nat.le_of_ble_eq_true rfl) (Nat.le_of_ble_eq_true rfl) ?_
          exact Jj75 w_25 (1 : Int32) _ _ _ h hR hS (lv_sub hl [0, 1, 2] rfl)
        · replace c_49 : ¬ (mS y (((((p1).toNatClampNeg)))) = 0) := bi_0.mp c_49
          have h := h.2 c_49
          refine lv_aload_n hx hb dX8_shareOut_52 rfl (lv_at hl 0 rfl) ?_
          refine g20_4 hx hb hts hown hK hR l0 q1949 dX8_shareOut_53 ?_
          refine lv_iload_n hx hb dX8_shareOut_56 rfl (lv_at hl 1 rfl) ?_
          have o_57 := h.1
          have h := h.2
          refine jr_get (a := y.2 26 ((p1).toNatClampNeg)) ⟨hx, hb, hml, hown, hts⟩ hK hR ⟨fun _ _ _ _ _ => rfl, fun _ _ _ _ _ => rfl⟩ hM.lsC ⟨hM.arC (Nat.lt_of_le_of_lt (Nat.zero_le _) (vp_lt o_57)), (Nat.le_trans hM.mC4 (by decide))⟩ o_57 (hM.elC (vp_lt o_57)) q2101 ⟨Nat.le_of_ble_eq_true rfl, Nat.le_of_ble_eq_true rfl⟩ hl.1 (Nat.le_of_ble_eq_true rfl) dX8_shareOut_57 ⟨(Nat.le_of_ble_eq_true rfl), (Nat.le_of_ble_eq_true rfl)⟩ ?_
          refine jr_castS (ci := 13) hx hb hown hK hts (hR.role (hM.com (vp_lt o_57))) rfl q2141 dX8_shareOut_60 ?_
          refine g26_1 hx hb hts hown hK hR (hM.com (vp_lt o_57)) q2150 dX8_shareOut_63 ?_
          refine lv_iload_n hx hb dX8_shareOut_66 rfl (lv_at hl 2 rfl) ?_
          refine lv_icmp_ge (tgt := 74) hx hb dX8_shareOut_67 (by decide) (fun c_67 => ?_) (fun c_67 => ?_)
          · have h := h.1 c_67
            refine lv_iconst (v := (0 : Int32)) hx hb dX8_shareOut_74 (by decide) ?_
            refine W.widen (k := 0) (n := 0) (Nat.le_of_ble_eq_true rfl) (Nat.le_of_ble_eq_true rfl) ?_
            exact Jj75 w_25 (0 : Int32) _ _ _ h hR hS (lv_sub hl [0, 1, 2] rfl)
          · have h := h.2 c_67
            refine lv_iconst (v := (1 : Int32)) hx hb dX8_shareOut_70 (by decide) ?_
            refine lv_goto (tgt := 75) hx hb dX8_shareOut_71 (by decide) ?_
            refine W.widen (k := 0) (n := 0) (Nat.le_of_ble_eq_true rfl) (Nat.le_of_ble_eq_true rfl) ?_
            exact Jj75 w_25 (1 : Int32) _ _ _ h hR hS (lv_sub hl [0, 1, 2] rfl)
    refine lv_icmp_ge (tgt := 23) hx hb dX8_shareOut_16 (by decide) (fun c_16 => ?_) (fun c_16 => ?_)
    · have h := h.1 c_16
      refine lv_iconst (v := (0 : Int32)) hx hb dX8_shareOut_23 (by decide) ?_
      refine W.widen (k := 0) (n := 0) (Nat.le_of_ble_eq_true rfl) (Nat.le_of_ble_eq_true rfl) ?_
      exact Jj24 w_7 (0 : Int32) _ _ _ h hR hS (lv_sub hl [0, 1, 2] rfl)
    · have h := h.2 c_16
      refine lv_iconst (v := (1 : Int32)) hx hb dX8_shareOut_19 (by decide) ?_
      refine lv_goto (tgt := 24) hx hb dX8_shareOut_20 (by decide) ?_
      refine W.widen (k := 0) (n := 0) (Nat.le_of_ble_eq_true rfl) (Nat.le_of_ble_eq_true rfl) ?_
      exact Jj24 w_7 (1 : Int32) _ _ _ h hR hS (lv_sub hl [0, 1, 2] rfl)
