/-! printed by wip gen/guardcls.py: the methods that reach the guard -/
set_option maxRecDepth 100000
abbrev rm_X1_call : Room := { frames := 9, cells := 3, slots := 37, locals := 10281 }
def sp_X1_call (κ : Kx) (y : Ly) (post : Int32 → Wd → Prop) (w : Wd)  : Prop := sp_X5_call κ y (fun r_4 w_4 => post (r_4) w_4) w
theorem hd_X1_call : yX1_call.cls = RX1 ∧ yX1_call.cls ≠ "java/lang/invoke/MethodHandle" ∧ yX1_call.cls ≠ "java/lang/invoke/VarHandle" ∧ (parseMethodDescriptor yX1_call.desc).map (fun d => d.parameters.length) = some 0 := by decide +kernel
set_option maxHeartbeats 4000000 in
theorem m_X1_call {l : Launch} {κ : Kx} {y : Ly} {X : XR} {post : Int32 → Wd → Prop} {w : Wd}   (hfl : l.stackTraces = false) (hW : WFc κ y) (l0 : live y 0 0) (h : sp_X1_call κ y post w ) : Met l yX1_call (ws_ yX1_call cX1_call 1 (Option.some Jvm.ClassFile.FieldType.int)) rm_X1_call (va_Pc [.ref (y.2 0 0)] (RCm κ w y X)) (va_Qi post (fun w t => Rp κ w y X [] t.heap) (Af κ)) 3 37 (Af κ) := by
  unfold sp_X1_call at h
  refine Met.ofW (cc := cX1_call) (maxL := 1) (ret := (Option.some Jvm.ClassFile.FieldType.int)) (by decide) rfl ?_
  intro p e s m args below meth c s₁ B hml hv
  obtain ⟨rfl, ⟨hR, hK⟩, hm0⟩ := hv
  have hx := B.exec
  have hb := B.bytes
  have hr := B.returns
  have hts := atoms_spec (ws := ws_ yX1_call cX1_call 1 (Option.some Jvm.ClassFile.FieldType.int)) B.pre
  have hts : ∀ w ∈ lw_all, w.before _ s = true := fun w h => hts w (List.mem_cons_of_mem _ h)
  have hown : s.vm.findClass RX1 = some m.cls := findClass_of_methodNamed B.named
  have hlocks := B.notSynchronized
  have hS : va_S (Af κ) s.heap s.heap [] := va_S.rf
  have hl := lv_entry ([.ref (y.2 0 0)]) (n := 1) (Nat.le_of_ble_eq_true rfl)
  rw [lg_entry_eq]
  generalize (lg_sl ([.ref (y.2 0 0)]) ++ List.replicate (1 - (lg_sl ([.ref (y.2 0 0)])).length) Slot.unset).toArray = ls at hl ⊢
  have hl : lv_has ls 1 [(0, .ref (y.2 0 0))] := hl
  refine lv_aload_n hx hb dX1_call_0 rfl (lv_at hl 0 rfl) ?_
  refine g0_7 hx hb hts hown hK hR l0 q254 dX1_call_1 ?_
  refine W.mon hm0 (fun hm => ?_)
  refine ceg_qi (fw := fun u => u) (fy := fun _ => y) (crg_C (n := 0) (As := []) (rest := []) ⟨hx, hb, hml, hown, hts⟩ hK hR hm hW.gua (m_X5_call hfl hW.gua h) q376 q377 q378 q81 q379 rfl rfl (by decide +kernel) ⟨Nat.le_of_ble_eq_true rfl, Nat.le_of_ble_eq_true rfl⟩ rfl rfl hl.1 rfl (lv_room (Nat.le_of_ble_eq_true rfl)) dX1_call_4 ⟨(Nat.le_of_ble_eq_true rfl), (Nat.le_of_ble_eq_true rfl)⟩) hR hS (fun r_4 w_4 H locs h hR _ hS => ?_)
  refine W.widen (k := 3) (n := 37) (Nat.le_of_ble_eq_true rfl) (Nat.le_of_ble_eq_true rfl) ?_
  exact W.iret (v := r_4) hx hb hr (fun t ht hW9 => ⟨⟨r_4, w_4, rfl, h, rpt ht hR⟩, hS.F ht⟩) hS.2.2 dX1_call_7
abbrev rm_X1_told : Room := { frames := 4, cells := 1, slots := 4, locals := 91 }
def sp_X1_told (κ : Kx) (y : Ly) (post : Int32 → Wd → Prop) (w : Wd) (p1 : Int32) : Prop := (p1 = (0 : Int32) → (post (gv w 0 0 8) w)) ∧ (p1 = (1 : Int32) → (sp_X1_year κ y (fun r_86 w_86 => post (r_86) w_86) w )) ∧ (p1 = (2 : Int32) → (post (gv w 0 0 9) w)) ∧ (p1 = (3 : Int32) → (post (nI (nV y)) w)) ∧ (p1 = (4 : Int32) → (post (nI (nC y)) w)) ∧ (p1 = (5 : Int32) → (post (nI (nL y)) w)) ∧ (p1 = (6 : Int32) → (sp_X2_coins κ y (fun r_123 w_123 => post (r_123) w_123) w 1)) ∧ (p1 = (7 : Int32) → (sp_X2_coins κ y (fun r_134 w_134 => post (r_134) w_134) w 2)) ∧ (p1 = (8 : Int32) → (sp_X2_coins κ y (fun r_142 w_142 => post (r_142) w_142) w 0)) ∧ (p1 = (9 : Int32) → (post (gv w 2 0 1) w)) ∧ (p1 = (10 : Int32) → (post (gv w 0 0 12) w)) ∧ (p1 = (11 : Int32) → (post (gv w 0 0 13) w)) ∧ (p1 = (12 : Int32) → (post (gv w 0 0 14) w)) ∧ (p1 = (13 : Int32) → (sp_X1_houses κ y (fun r_170 w_170 => post (r_170) w_170) w )) ∧ (p1 = (14 : Int32) → (post (gv w 0 0 10) w)) ∧ (p1 = (15 : Int32) → (sp_X1_oldStones κ y (fun r_180 w_180 => post (r_180) w_180) w )) ∧ (¬ p1 = (0 : Int32) → ¬ p1 = (1 : Int32) → ¬ p1 = (2 : Int32) → ¬ p1 = (3 : Int32) → ¬ p1 = (4 : Int32) → ¬ p1 = (5 : Int32) → ¬ p1 = (6 : Int32) → ¬ p1 = (7 : Int32) → ¬ p1 = (8 : Int32) → ¬ p1 = (9 : Int32) → ¬ p1 = (10 : Int32) → ¬ p1 = (11 : Int32) → ¬ p1 = (12 : Int32) → ¬ p1 = (13 : Int32) → ¬ p1 = (14 : Int32) → ¬ p1 = (15 : Int32) → (∀ r_188 : Int32, r_188 = gv w 3 0 0 → post (r_188) w))
theorem hd_X1_told : yX1_told.cls = RX1 ∧ yX1_told.cls ≠ "java/lang/invoke/MethodHandle" ∧ yX1_told.cls ≠ "java/lang/invoke/VarHandle" ∧ (parseMethodDescriptor yX1_told.desc).map (fun d => d.parameters.length) = some 1 := by decide +kernel
set_option maxHeartbeats 4000000 in
theorem m_X1_told {l : Launch} {κ : Kx} {y : Ly} {X : XR} {post : Int32 → Wd → Prop} {w : Wd} {p1 : Int32}  (hW : WFc κ y) (l0 : live y 0 0) (h : sp_X1_told κ y post w p1) : Met l yX1_told (ws_ yX1_told cX1_told 2 (Option.some Jvm.ClassFile.FieldType.int)) rm_X1_told (va_Pc [.ref (y.2 0 0), .int (p1)] (RCm κ w y X)) (va_Qi post (fun w t => Rp κ w y X [] t.heap) (Af κ)) 1 4 (Af κ) := by
  unfold sp_X1_told at h
  refine Met.ofW (cc := cX1_told) (maxL := 2) (ret := (Option.some Jvm.ClassFile.FieldType.int)) (by decide) rfl ?_
  intro p e s m args below meth c s₁ B hml hv
  obtain ⟨rfl, ⟨hR, hK⟩, hm0⟩ := hv
  have hx := B.exec
  have hb := B.bytes
  have hr := B.returns
  have hts := atoms_spec (ws := ws_ yX1_told cX1_told 2 (Option.some Jvm.ClassFile.FieldType.int)) B.pre
  have hts : ∀ w ∈ lw_all, w.before _ s = true := fun w h => hts w (List.mem_cons_of_mem _ h)
  have hown : s.vm.findClass RX1 = some m.cls := findClass_of_methodNamed B.named
  have hlocks := B.notSynchronized
  have hS : va_S (Af κ) s.heap s.heap [] := va_S.rf
  have hl := lv_entry ([.ref (y.2 0 0), .int (p1)]) (n := 2) (Nat.le_of_ble_eq_true rfl)
  rw [lg_entry_eq]
  generalize (lg_sl ([.ref (y.2 0 0), .int (p1)]) ++ List.replicate (2 - (lg_sl ([.ref (y.2 0 0), .int (p1)])).length) Slot.unset).toArray = ls at hl ⊢
  have hl : lv_has ls 2 [(0, .ref (y.2 0 0)), (1, .int (p1))] := hl
  refine lv_iload_n hx hb dX1_told_0 rfl (lv_at hl 1 rfl) ?_
  by_cases c_1 : p1 = (0 : Int32)
  · have h := h.1 c_1
    refine lv_tableIn (off := 79) (tgt := 80) hx hb dX1_told_1 (by rw [c_1]; decide) (by rw [c_1]; decide) (by rw [c_1]; rfl) (by decide) ?_
    refine lv_aload_n hx hb dX1_told_80 rfl (lv_at hl 0 rfl) ?_
    refine g0_8 hx hb hts hown hK hR l0 q255 dX1_told_81 ?_
    refine W.widen (k := 1) (n := 4) (Nat.le_of_ble_eq_true rfl) (Nat.le_of_ble_eq_true rfl) ?_
    exact W.iret (v := gv w 0 0 8) hx hb hr (fun t ht hW9 => ⟨⟨gv w 0 0 8, w, rfl, h, rpt ht hR⟩, hS.F ht⟩) hS.2.2 dX1_told_84
  replace h := h.2
  by_cases c_1_a : p1 = (1 : Int32)
  · have h := h.1 c_1_a
    refine lv_tableIn (off := 84) (tgt := 85) hx hb dX1_told_1 (by rw [c_1_a]; decide) (by rw [c_1_a]; decide) (by rw [c_1_a]; rfl) (by decide) ?_
    refine lv_aload_n hx hb dX1_told_85 rfl (lv_at hl 0 rfl) ?_
    refine ce_qi (fw := fun u => u) (fy := fun _ => y) (cr_V (n := 0) (As := []) (rest := []) ⟨hx, hb, hml, hown, hts⟩ hK hR (m_X1_year hW l0 h) q532 q534 qs4 q74 q535 rfl rfl hd_X1_year ⟨Nat.le_of_ble_eq_true rfl, Nat.le_of_ble_eq_true rfl⟩ (rv hK hR l0 (ci := 0) rfl rfl) rfl rfl hl.1 rfl (lv_room (Nat.le_of_ble_eq_true rfl)) dX1_told_86 ⟨(Nat.le_of_ble_eq_true rfl), (Nat.le_of_ble_eq_true rfl)⟩) hR hS (fun r_86 w_86 H locs h hR _ hS => ?_)
    refine W.widen (k := 1) (n := 4) (Nat.le_of_ble_eq_true rfl) (Nat.le_of_ble_eq_true rfl) ?_
    exact W.iret (v := r_86) hx hb hr (fun t ht hW9 => ⟨⟨r_86, w_86, rfl, h, rpt ht hR⟩, hS.F ht⟩) hS.2.2 dX1_told_89
  replace h := h.2
  by_cases c_1_b : p1 = (2 : Int32)
  · have h := h.1 c_1_b
    refine lv_tableIn (off := 89) (tgt := 90) hx hb dX1_told_1 (by rw [c_1_b]; decide) (by rw [c_1_b]; decide) (by rw [c_1_b]; rfl) (by decide) ?_
    refine lv_aload_n hx hb dX1_told_90 rfl (lv_at hl 0 rfl) ?_
    refine g0_9 hx hb hts hown hK hR l0 q256 dX1_told_91 ?_
    refine W.widen (k := 1) (n := 4) (Nat.le_of_ble_eq_true rfl) (Nat.le_of_ble_eq_true rfl) ?_
    exact W.iret (v := gv w 0 0 9) hx hb hr (fun t ht hW9 => ⟨⟨gv w 0 0 9, w, rfl, h, rpt ht hR⟩, hS.F ht⟩) hS.2.2 dX1_told_94
  replace h := h.2
  by_cases c_1_c : p1 = (3 : Int32)
  · have h := h.1 c_1_c
    refine lv_tableIn (off := 94) (tgt := 95) hx hb dX1_told_1 (by rw [c_1_c]; decide) (by rw [c_1_c]; decide) (by rw [c_1_c]; rfl) (by decide) ?_
    refine lv_aload_n hx hb dX1_told_95 rfl (lv_at hl 0 rfl) ?_
    refine g0_0 hx hb hts hown hK hR l0 q247 dX1_told_96 ?_
    refine jr_size ⟨hx, hb, hml, hown, hts⟩ hK hR ⟨fun _ _ _ _ _ => rfl, fun _ _ _ _ _ => rfl⟩ hW.lsV q536 ⟨Nat.le_of_ble_eq_true rfl, Nat.le_of_ble_eq_true rfl⟩ hl.1 (Nat.le_of_ble_eq_true rfl) dX1_told_99 ⟨(Nat.le_of_ble_eq_true rfl), (Nat.le_of_ble_eq_true rfl)⟩ ?_
    refine W.widen (k := 1) (n := 4) (Nat.le_of_ble_eq_true rfl) (Nat.le_of_ble_eq_true rfl) ?_
    exact W.iret (v := nI (nV y)) hx hb hr (fun t ht hW9 => ⟨⟨nI (nV y), w, rfl, h, rpt ht hR⟩, hS.F ht⟩) hS.2.2 dX1_told_102
  replace h := h.2
  by_cases c_1_d : p1 = (4 : Int32)
  · have h := h.1 c_1_d
    refine lv_tableIn (off := 102) (tgt := 103) hx hb dX1_told_1 (by rw [c_1_d]; decide) (by rw [c_1_d]; decide) (by rw [c_1_d]; rfl) (by decide) ?_
    refine lv_aload_n hx hb dX1_told_103 rfl (lv_at hl 0 rfl) ?_
    refine g0_1 hx hb hts hown hK hR l0 q248 dX1_told_104 ?_
    refine jr_size ⟨hx, hb, hml, hown, hts⟩ hK hR ⟨fun _ _ _ _ _ => rfl, fun _ _ _ _ _ => rfl⟩ hW.lsC q536 ⟨Nat.le_of_ble_eq_true rfl, Nat.le_of_ble_eq_true rfl⟩ hl.1 (Nat.le_of_ble_eq_true rfl) dX1_told_107 ⟨(Nat.le_of_ble_eq_true rfl), (Nat.le_of_ble_eq_true rfl)⟩ ?_
    refine W.widen (k := 1) (n := 4) (Nat.le_of_ble_eq_true rfl) (Nat.le_of_ble_eq_true rfl) ?_
    exact W.iret (v := nI (nC y)) hx hb hr (fun t ht hW9 => ⟨⟨nI (nC y), w, rfl, h, rpt ht hR⟩, hS.F ht⟩) hS.2.2 dX1_told_110
  replace h := h.2
  by_cases c_1_e : p1 = (5 : Int32)
  · have h := h.1 c_1_e
    refine lv_tableIn (off := 110) (tgt := 111) hx hb dX1_told_1 (by rw [c_1_e]; decide) (by rw [c_1_e]; decide) (by rw [c_1_e]; rfl) (by decide) ?_
    refine lv_aload_n hx hb dX1_told_111 rfl (lv_at hl 0 rfl) ?_
    refine g0_2 hx hb hts hown hK hR l0 q249 dX1_told_112 ?_
    refine jr_size ⟨hx, hb, hml, hown, hts⟩ hK hR ⟨fun _ _ _ _ _ => rfl, fun _ _ _ _ _ => rfl⟩ hW.lsL q536 ⟨Nat.le_of_ble_eq_true rfl, Nat.le_of_ble_eq_true rfl⟩ hl.1 (Nat.le_of_ble_eq_true rfl) dX1_told_115 ⟨(Nat.le_of_ble_eq_true rfl), (Nat.le_of_ble_eq_true rfl)⟩ ?_
    refine W.widen (k := 1) (n := 4) (Nat.le_of_ble_eq_true rfl) (Nat.le_of_ble_eq_true rfl) ?_
    exact W.iret (v := nI (nL y)) hx hb hr (fun t ht hW9 => ⟨⟨nI (nL y), w, rfl, h, rpt ht hR⟩, hS.F ht⟩) hS.2.2 dX1_told_118
  replace h := h.2
  by_cases c_1_f : p1 = (6 : Int32)
  · have h := h.1 c_1_f
    refine lv_tableIn (off := 118) (tgt := 119) hx hb dX1_told_1 (by rw [c_1_f]; decide) (by rw [c_1_f]; decide) (by rw [c_1_f]; rfl) (by decide) ?_
    refine lv_aload_n hx hb dX1_told_119 rfl (lv_at hl 0 rfl) ?_
    refine g0_5 hx hb hts hown hK hR l0 q252 dX1_told_120 ?_
    refine ce_qi (fw := fun u => u) (fy := fun _ => y) (cr_V (n := 0) (As := []) (rest := []) ⟨hx, hb, hml, hown, hts⟩ hK hR (m_X2_coins hW hW.tre h) q300 q301 q302 q78 q305 rfl rfl hd_X2_coins ⟨Nat.le_of_ble_eq_true rfl, Nat.le_of_ble_eq_true rfl⟩ (rv_ch1 hK hR hW.tre (by omega)) rfl rfl hl.1 rfl (lv_room (Nat.le_of_ble_eq_true rfl)) dX1_told_123 ⟨(Nat.le_of_ble_eq_true rfl), (Nat.le_of_ble_eq_true rfl)⟩) hR hS (fun r_123 w_123 H locs h hR _ hS => ?_)
    refine W.widen (k := 1) (n := 4) (Nat.le_of_ble_eq_true rfl) (Nat.le_of_ble_eq_true rfl) ?_
    exact W.iret (v := r_123) hx hb hr (fun t ht hW9 => ⟨⟨r_123, w_123, rfl, h, rpt ht hR⟩, hS.F ht⟩) hS.2.2 dX1_told_126
  replace h := h.2
  by_cases c_1_g : p1 = (7 : Int32)
  · have h := h.1 c_1_g
    refine lv_tableIn (off := 126) (tgt := 127) hx hb dX1_told_1 (by rw [c_1_g]; decide) (by rw [c_1_g]; decide) (by rw [c_1_g]; rfl) (by decide) ?_
    refine lv_aload_n hx hb dX1_told_127 rfl (lv_at hl 0 rfl) ?_
    refine g0_6 hx hb hts hown hK hR l0 q253 dX1_told_128 ?_
    refine g2_0 hx hb hts hown hK hR hW.gov q187 dX1_told_131 ?_
    refine ce_qi (fw := fun u => u) (fy := fun _ => y) (cr_V (n := 0) (As := []) (rest := []) ⟨hx, hb, hml, hown, hts⟩ hK hR (m_X2_coins hW hW.goc h) q300 q301 q302 q78 q305 rfl rfl hd_X2_coins ⟨Nat.le_of_ble_eq_true rfl, Nat.le_of_ble_eq_true rfl⟩ (rv_ch1 hK hR hW.goc (by omega)) rfl rfl hl.1 rfl (lv_room (Nat.le_of_ble_eq_true rfl)) dX1_told_134 ⟨(Nat.le_of_ble_eq_true rfl), (Nat.le_of_ble_eq_true rfl)⟩) hR hS (fun r_134 w_134 H locs h hR _ hS => ?_)
    refine W.widen (k := 1) (n := 4) (Nat.le_of_ble_eq_true rfl) (Nat.le_of_ble_eq_true rfl) ?_
    exact W.iret (v := r_134) hx hb hr (fun t ht hW9 => ⟨⟨r_134, w_134, rfl, h, rpt ht hR⟩, hS.F ht⟩) hS.2.2 dX1_told_137
  replace h := h.2
  by_cases c_1_h : p1 = (8 : Int32)
  · have h := h.1 c_1_h
    refine lv_tableIn (off := 137) (tgt := 138) hx hb dX1_told_1 (by rw [c_1_h]; decide) (by rw [c_1_h]; decide) (by rw [c_1_h]; rfl) (by decide) ?_
    refine lv_aload_n hx hb dX1_told_138 rfl (lv_at hl 0 rfl) ?_
    refine g0_4 hx hb hts hown hK hR l0 q251 dX1_told_139 ?_
    refine ce_qi (fw := fun u => u) (fy := fun _ => y) (cr_U (C := RX3) (owner := "Publicanry$Chest") (Z := yX2_coins) (n := 0) (As := []) (rest := []) ⟨hx, hb, hml, hown, hts⟩ hK hR (m_X2_coins hW hW.wor h) q300 q303 q304 q301 q78 q305 rfl rfl rfl (by decide +kernel) ⟨Nat.le_of_ble_eq_true rfl, Nat.le_of_ble_eq_true rfl⟩ (rv_ch0 hK hR hW.wor) rfl rfl hl.1 rfl (lv_room (Nat.le_of_ble_eq_true rfl)) dX1_told_142 ⟨(Nat.le_of_ble_eq_true rfl), (Nat.le_of_ble_eq_true rfl)⟩) hR hS (fun r_142 w_142 H locs h hR _ hS => ?_)
    refine W.widen (k := 1) (n := 4) (Nat.le_of_ble_eq_true rfl) (Nat.le_of_ble_eq_true rfl) ?_
    exact W.iret (v := r_142) hx hb hr (fun t ht hW9 => ⟨⟨r_142, w_142, rfl, h, rpt ht hR⟩, hS.F ht⟩) hS.2.2 dX1_told_145
  replace h := h.2
  by_cases c_1_i : p1 = (9 : Int32)
  · have h := h.1 c_1_i
    refine lv_tableIn (off := 145) (tgt := 146) hx hb dX1_told_1 (by rw [c_1_i]; decide) (by rw [c_1_i]; decide) (by rw [c_1_i]; rfl) (by decide) ?_
    refine lv_aload_n hx hb dX1_told_146 rfl (lv_at hl 0 rfl) ?_
    refine g0_6 hx hb hts hown hK hR l0 q253 dX1_told_147 ?_
    refine g2_1 hx hb hts hown hK hR hW.gov q189 dX1_told_150 ?_
    refine W.widen (k := 1) (n := 4) (Nat.le_of_ble_eq_true rfl) (Nat.le_of_ble_eq_true rfl) ?_
    exact W.iret (v := gv w 2 0 1) hx hb hr (fun t ht hW9 => ⟨⟨gv w 2 0 1, w, rfl, h, rpt ht hR⟩, hS.F ht⟩) hS.2.2 dX1_told_153
  replace h := h.2
  by_cases c_1_j : p1 = (10 : Int32)
  · have h := h.1 c_1_j
    refine lv_tableIn (off := 153) (tgt := 154) hx hb dX1_told_1 (by rw [c_1_j]; decide) (by rw [c_1_j]; decide) (by rw [c_1_j]; rfl) (by decide) ?_
    refine lv_aload_n hx hb dX1_told_154 rfl (lv_at hl 0 rfl) ?_
    refine g0_12 hx hb hts hown hK hR l0 q259 dX1_told_155 ?_
    refine W.widen (k := 1) (n := 4) (Nat.le_of_ble_eq_true rfl) (Nat.le_of_ble_eq_true rfl) ?_
    exact W.iret (v := gv w 0 0 12) hx hb hr (fun t ht hW9 => ⟨⟨gv w 0 0 12, w, rfl, h, rpt ht hR⟩, hS.F ht⟩) hS.2.2 dX1_told_158
  replace h := h.2
  by_cases c_1_k : p1 = (11 : Int32)
  · have h := h.1 c_1_k
    refine lv_tableIn (off := 158) (tgt := 159) hx hb dX1_told_1 (by rw [c_1_k]; decide) (by rw [c_1_k]; decide) (by rw [c_1_k]; rfl) (by decide) ?_
    refine lv_aload_n hx hb dX1_told_159 rfl (lv_at hl 0 rfl) ?_
    refine g0_13 hx hb hts hown hK hR l0 q260 dX1_told_160 ?_
    refine W.widen (k := 1) (n := 4) (Nat.le_of_ble_eq_true rfl) (Nat.le_of_ble_eq_true rfl) ?_
    exact W.iret (v := gv w 0 0 13) hx hb hr (fun t ht hW9 => ⟨⟨gv w 0 0 13, w, rfl, h, rpt ht hR⟩, hS.F ht⟩) hS.2.2 dX1_told_163
  replace h := h.2
  by_cases c_1_l : p1 = (12 : Int32)
  · have h := h.1 c_1_l
    refine lv_tableIn (off := 163) (tgt := 164) hx hb dX1_told_1 (by rw [c_1_l]; decide) (by rw [c_1_l]; decide) (by rw [c_1_l]; rfl) (by decide) ?_
    refine lv_aload_n hx hb dX1_told_164 rfl (lv_at hl 0 rfl) ?_
    refine g0_14 hx hb hts hown hK hR l0 q261 dX1_told_165 ?_
    refine W.widen (k := 1) (n := 4) (Nat.le_of_ble_eq_true rfl) (Nat.le_of_ble_eq_true rfl) ?_
    exact W.iret (v := gv w 0 0 14) hx hb hr (fun t ht hW9 => ⟨⟨gv w 0 0 14, w, rfl, h, rpt ht hR⟩, hS.F ht⟩) hS.2.2 dX1_told_168
  replace h := h.2
  by_cases c_1_m : p1 = (13 : Int32)
  · have h := h.1 c_1_m
    refine lv_tableIn (off := 168) (tgt := 169) hx hb dX1_told_1 (by rw [c_1_m]; decide) (by rw [c_1_m]; decide) (by rw [c_1_m]; rfl) (by decide) ?_
    refine lv_aload_n hx hb dX1_told_169 rfl (lv_at hl 0 rfl) ?_
    refine ce_qi (fw := fun u => u) (fy := fun _ => y) (cr_V (n := 0) (As := []) (rest := []) ⟨hx, hb, hml, hown, hts⟩ hK hR (m_X1_houses hW l0 h) q540 q542 qs5 q74 q543 rfl rfl hd_X1_houses ⟨Nat.le_of_ble_eq_true rfl, Nat.le_of_ble_eq_true rfl⟩ (rv hK hR l0 (ci := 0) rfl rfl) rfl rfl hl.1 rfl (lv_room (Nat.le_of_ble_eq_true rfl)) dX1_told_170 ⟨(Nat.le_of_ble_eq_true rfl), (Nat.le_of_ble_eq_true rfl)⟩) hR hS (fun r_170 w_170 H locs h hR _ hS => ?_)
    refine W.widen (k := 1) (n := 4) (Nat.le_of_ble_eq_true rfl) (Nat.le_of_ble_eq_true rfl) ?_
    exact W.iret (v := r_170) hx hb hr (fun t ht hW9 => ⟨⟨r_170, w_170, rfl, h, rpt ht hR⟩, hS.F ht⟩) hS.2.2 dX1_told_173
  replace h := h.2
  by_cases c_1_n : p1 = (14 : Int32)
  · have h := h.1 c_1_n
    refine lv_tableIn (off := 173) (tgt := 174) hx hb dX1_told_1 (by rw [c_1_n]; decide) (by rw [c_1_n]; decide) (by rw [c_1_n]; rfl) (by decide) ?_
    refine lv_aload_n hx hb dX1_told_174 rfl (lv_at hl 0 rfl) ?_
    refine g0_10 hx hb hts hown hK hR l0 q257 dX1_told_175 ?_
    refine W.widen (k := 1) (n := 4) (Nat.le_of_ble_eq_true rfl) (Nat.le_of_ble_eq_true rfl) ?_
    exact W.iret (v := gv w 0 0 10) hx hb hr (fun t ht hW9 => ⟨⟨gv w 0 0 10, w, rfl, h, rpt ht hR⟩, hS.F ht⟩) hS.2.2 dX1_told_178
  replace h := h.2
  by_cases c_1_o : p1 = (15 : Int32)
  · have h := h.1 c_1_o
    refine lv_tableIn (off := 178) (tgt := 179) hx hb dX1_told_1 (by rw [c_1_o]; decide) (by rw [c_1_o]; decide) (by rw [c_1_o]; rfl) (by decide) ?_
    refine lv_aload_n hx hb dX1_told_179 rfl (lv_at hl 0 rfl) ?_
    refine ce_qi (fw := fun u => u) (fy := fun _ => y) (cr_V (n := 0) (As := []) (rest := []) ⟨hx, hb, hml, hown, hts⟩ hK hR (m_X1_oldStones hW l0 h) q544 q546 qs6 q74 q547 rfl rfl hd_X1_oldStones ⟨Nat.le_of_ble_eq_true rfl, Nat.le_of_ble_eq_true rfl⟩ (rv hK hR l0 (ci := 0) rfl rfl) rfl rfl hl.1 rfl (lv_room (Nat.le_of_ble_eq_true rfl)) dX1_told_180 ⟨(Nat.le_of_ble_eq_true rfl), (Nat.le_of_ble_eq_true rfl)⟩) hR hS (fun r_180 w_180 H locs h hR _ hS => ?_)
    refine W.widen (k := 1) (n := 4) (Nat.le_of_ble_eq_true rfl) (Nat.le_of_ble_eq_true rfl) ?_
    exact W.iret (v := r_180) hx hb hr (fun t ht hW9 => ⟨⟨r_180, w_180, rfl, h, rpt ht hR⟩, hS.F ht⟩) hS.2.2 dX1_told_183
  replace h := h.2
  replace h := h c_1 c_1_a c_1_b c_1_c c_1_d c_1_e c_1_f c_1_g c_1_h c_1_i c_1_j c_1_k c_1_l c_1_m c_1_n c_1_o
  refine lv_tableOut (tgt := 184) hx hb dX1_told_1 (tb_out (lo := 0) (hi := 15) (fun v h1 h2 => by
    have h3 : v = 0 ∨ v = 1 ∨ v = 2 ∨ v = 3 ∨ v = 4 ∨ v = 5 ∨ v = 6 ∨ v = 7 ∨ v = 8 ∨ v = 9 ∨ v = 10 ∨ v = 11 ∨ v = 12 ∨ v = 13 ∨ v = 14 ∨ v = 15 := by omega
    rcases h3 with rfl | rfl | rfl | rfl | rfl | rfl | rfl | rfl | rfl | rfl | rfl | rfl | rfl | rfl | rfl | rfl
    · exact c_1
    · exact c_1_a
    · exact c_1_b
    · exact c_1_c
    · exact c_1_d
    · exact c_1_e
    · exact c_1_f
    · exact c_1_g
    · exact c_1_h
    · exact c_1_i
    · exact c_1_j
    · exact c_1_k
    · exact c_1_l
    · exact c_1_m
    · exact c_1_n
    · exact c_1_o
    )) (by decide) ?_
  refine lv_aload_n hx hb dX1_told_184 rfl (lv_at hl 0 rfl) ?_
  refine g0_7 hx hb hts hown hK hR l0 q254 dX1_told_185 ?_
  refine W.mon hm0 (fun hm => ?_)
  refine ce_qi (fw := fun u => u) (fy := fun _ => y) (crg_S (rest := []) ⟨hx, hb, hml, hown, hts⟩ hK hR hm hW.gua (m_X5_refused (post := fun r9 w9 => r9 = gv w 3 0 0 ∧ w9 = w) hW.gua ⟨rfl, rfl⟩) (fun _ _ _ _ hq => by obtain ⟨⟨v9, u9, e9, _⟩, _⟩ := hq; exact ⟨_, e9⟩) q551 ⟨rfl, rfl⟩ ⟨Nat.le_of_ble_eq_true rfl, Nat.le_of_ble_eq_true rfl⟩ rfl hl.1 rfl (lv_room (Nat.le_of_ble_eq_true rfl)) dX1_told_188 ⟨(Nat.le_of_ble_eq_true rfl), (Nat.le_of_ble_eq_true rfl)⟩) hR hS (fun r_188 w9 H locs p9 hR _ hS => ?_)
  obtain ⟨er_188, e9⟩ := p9
  have hR : Rp κ w y X [] H := by rw [← e9]; exact hR
  have h := h r_188 er_188
  refine W.widen (k := 1) (n := 4) (Nat.le_of_ble_eq_true rfl) (Nat.le_of_ble_eq_true rfl) ?_
  exact W.iret (v := r_188) hx hb hr (fun t ht hW9 => ⟨⟨r_188, w, rfl, h, rpt ht hR⟩, hS.F ht⟩) hS.2.2 dX1_told_191
abbrev rm_X1_land : Room := { frames := 7, cells := 2, slots := 10, locals := 112 }
def sp_X1_land (κ : Kx) (y : Ly) (post : Int32 → Wd → Prop) (px : String → Wd → Prop) (w : Wd) (p1 : Int32) : Prop := sp_X1_isIn κ y (fun r_4 w_4 => sp_X1_check κ y (fun w_10 => sp_X1_told κ y (fun r_15 w_15 => post (r_15) w_15) w_10 p1) px w_4 r_4) w p1 (0 : Int32) (16 : Int32)
theorem hd_X1_land : yX1_land.cls = RX1 ∧ yX1_land.cls ≠ "java/lang/invoke/MethodHandle" ∧ yX1_land.cls ≠ "java/lang/invoke/VarHandle" ∧ (parseMethodDescriptor yX1_land.desc).map (fun d => d.parameters.length) = some 1 := by decide +kernel
set_option maxHeartbeats 4000000 in
theorem m_X1_land {l : Launch} {κ : Kx} {y : Ly} {X : XR} {post : Int32 → Wd → Prop} {px : String → Wd → Prop} {w : Wd} {p1 : Int32}  (hfl : l.stackTraces = false) (hW : WFc κ y) (l0 : live y 0 0) (h : sp_X1_land κ y post px w p1) : vx_Met l yX1_land (ws_ yX1_land cX1_land 2 (Option.some Jvm.ClassFile.FieldType.int)) rm_X1_land (va_Pc [.ref (y.2 0 0), .int (p1)] (RCm κ w y X)) (va_Qi post (fun w t => Rp κ w y X [] t.heap) (Af κ)) (XCk κ y X px) 2 10 (Af κ) := by
  unfold sp_X1_land at h
  refine vx_ofW (cc := cX1_land) (maxL := 2) (ret := (Option.some Jvm.ClassFile.FieldType.int)) (by decide) rfl ?_
  intro p e s m args below meth c s₁ B hml ht hv
  obtain ⟨rfl, ⟨hR, hK⟩, hm0⟩ := hv
  have hx := B.exec
  have hb := B.bytes
  have hr := B.returns
  have hts := atoms_spec (ws := ws_ yX1_land cX1_land 2 (Option.some Jvm.ClassFile.FieldType.int)) B.pre
  have hts : ∀ w ∈ lw_all, w.before _ s = true := fun w h => hts w (List.mem_cons_of_mem _ h)
  have hown : s.vm.findClass RX1 = some m.cls := findClass_of_methodNamed B.named
  have hlocks := B.notSynchronized
  have hR0 := hR
  have hS : va_S (Af κ) s.heap s.heap [] := va_S.rf
  have hl := lv_entry ([.ref (y.2 0 0), .int (p1)]) (n := 2) (Nat.le_of_ble_eq_true rfl)
  rw [lg_entry_eq]
  generalize (lg_sl ([.ref (y.2 0 0), .int (p1)]) ++ List.replicate (2 - (lg_sl ([.ref (y.2 0 0), .int (p1)])).length) Slot.unset).toArray = ls at hl ⊢
  have hl : lv_has ls 2 [(0, .ref (y.2 0 0)), (1, .int (p1))] := hl
  refine lv_iload_n hx hb dX1_land_0 rfl (lv_at hl 1 rfl) ?_
  refine lv_iconst (v := (0 : Int32)) hx hb dX1_land_1 (by decide) ?_
  refine lv_bipush (v := (16 : Int32)) hx hb dX1_land_2 (by decide) ?_
  refine ce_qi (fw := fun u => u) (fy := fun _ => y) (cr_S (n := 3) (As := [.int (p1), .int ((0 : Int32)), .int ((16 : Int32))]) (rest := []) ⟨hx, hb, hml, hown, hts⟩ hK hR (m_X1_isIn hW h) q790 q791 q74 q792 rfl rfl hds_X1_isIn ⟨Nat.le_of_ble_eq_true rfl, Nat.le_of_ble_eq_true rfl⟩ rfl rfl hl.1 rfl (lv_room (Nat.le_of_ble_eq_true rfl)) dX1_land_4 ⟨(Nat.le_of_ble_eq_true rfl), (Nat.le_of_ble_eq_true rfl)⟩) hR hS (fun r_4 w_4 H locs h hR _ hS => ?_)
  refine jr_ldcwS (own := "Publicanry") (k := 578) (tx := "what") (n := 1578) hx hb hown hK (List.mem_of_getElem? (i := 22) rfl) dX1_land_7 ?_
  refine cex_qv (fw := fun u => u) (fy := fun _ => y) (crx_S (n := 2) (As := [.int (r_4), .ref (kA κ 1578)]) (rest := []) ⟨hx, hb, hml, hown, hts⟩ hK hR (m_X1_check hfl hW h) q794 q795 q74 q796 rfl rfl hds_X1_check ⟨Nat.le_of_ble_eq_true rfl, Nat.le_of_ble_eq_true rfl⟩ rfl rfl hl.1 rfl (lv_room (Nat.le_of_ble_eq_true rfl)) dX1_land_10 ⟨(Nat.le_of_ble_eq_true rfl), (Nat.le_of_ble_eq_true rfl)⟩) hR hS ht hlocks (Nat.le_of_ble_eq_true rfl) (Nat.le_of_ble_eq_true rfl) (fun w_10 H locs h hR _ hS => ?_)
  refine lv_aload_n hx hb dX1_land_13 rfl (lv_at hl 0 rfl) ?_
  refine lv_iload_n hx hb dX1_land_14 rfl (lv_at hl 1 rfl) ?_
  refine W.mon hm0 (fun hm => ?_)
  refine ce_qi (fw := fun u => u) (fy := fun _ => y) (crm_V (n := 1) (As := [.int (p1)]) (rest := []) ⟨hx, hb, hml, hown, hts⟩ hK hR hm (m_X1_told hW l0 h) q528 q530 qs3 q74 q531 rfl rfl hd_X1_told ⟨Nat.le_of_ble_eq_true rfl, Nat.le_of_ble_eq_true rfl⟩ (rv hK hR l0 (ci := 0) rfl rfl) rfl rfl hl.1 rfl (lv_room (Nat.le_of_ble_eq_true rfl)) dX1_land_15 ⟨(Nat.le_of_ble_eq_true rfl), (Nat.le_of_ble_eq_true rfl)⟩) hR hS (fun r_15 w_15 H locs h hR _ hS => ?_)
  refine W.widen (k := 2) (n := 10) (Nat.le_of_ble_eq_true rfl) (Nat.le_of_ble_eq_true rfl) ?_
  refine vx_ret ?_; exact W.iret (v := r_15) hx hb hr (fun t ht hW9 => ⟨⟨r_15, w_15, rfl, h, rpt ht hR⟩, hS.F ht⟩) hS.2.2 dX1_land_18
abbrev rm_X1_digest : Room := { frames := 6, cells := 239, slots := 946, locals := 144 }
def st_X1_digest_9 (κ : Kx) (y : Ly) (post : Int64 → Wd → Prop) (ex : Wd → Prop) (rec : Wd → Int32 → Prop)  (w : Wd) (v1 : Int32) : Prop := (((17 : Int32) ≤ v1) → (ex w )) ∧ ((¬ ((17 : Int32) ≤ v1)) → (sp_X1_told κ y (fun r_18 w_18 => sp_X1_add κ y (fun w_22 => ∀ x_25 : Int32, x_25 = v1 + (1 : Int32) → rec w_22 x_25) w_18 r_18.toInt64) w v1))
def sp_X1_digest_9 (κ : Kx) (y : Ly) (post : Int64 → Wd → Prop) (ex : Wd → Prop)  : Nat → Wd → Int32 → Prop
  | 0 => fun _ _ => False
  | n + 1 => fun w v1 => st_X1_digest_9 κ y post ex (sp_X1_digest_9 κ y post ex  n)  w v1
set_option maxHeartbeats 4000000 in
theorem lp_X1_digest_9 {p : Program} {l : Launch} {e : Env} {s : State} {m : MethodId} {args : Array Value} {below : List Frame} {meth : Method} {c : Code} {κ : Kx} {y : Ly} {X : XR} {post : Int64 → Wd → Prop}  (hx : p.tables.exec = Jvm.exec) (hb : c.code = cX1_digest) (hr : meth.sig.returnType = (Option.some Jvm.ClassFile.FieldType.long)) (hml : c.maxLocals = 6) (hown : s.vm.findClass RX1 = some m.cls) (hts : ∀ w ∈ lw_all, w.before args s = true) (hlocks : meth.locks = false) (hK : KK κ s) (hm0 : mon s.heap (y.2 3 0)) (hW : WFc κ y) (l0 : live y 0 0) {C1 S1 : Nat} (hC : C1 ≤ 239) (hSl : S1 ≤ 946) {ex : Wd → Prop}
    (kx : ∀ (w : Wd)  (H : Heap) (locs : List Loc) (ls : Array Slot) (cells slots : Nat) , ex w  → Rp κ w y X [] H → va_S (Af κ) s.heap H locs → lv_has ls 6 [(0, .ref (y.2 0 0))] → cells ≤ C1 → slots ≤ S1 → W p l e (headSpec (ws_ yX1_digest cX1_digest 6 (Option.some Jvm.ClassFile.FieldType.long)) rm_X1_digest).room s m args below meth c H locs cells slots (MQ below (va_Ql post (fun w t => Rp κ w y X [] t.heap) (Af κ)) args s 239 946 (Af κ)) (F0 m 31 ls [])) :
    ∀ (f : Nat) (w : Wd) (v1 : Int32) (H : Heap) (locs : List Loc) (ls : Array Slot) (cells slots : Nat)  , sp_X1_digest_9 κ y post ex  f w v1 → Rp κ w y X [] H → va_S (Af κ) s.heap H locs → lv_has ls 6 [(0, .ref (y.2 0 0)), (1, .int (v1))] → cells + f * 1 ≤ C1 → slots + f * 4 ≤ S1 → W p l e (headSpec (ws_ yX1_digest cX1_digest 6 (Option.some Jvm.ClassFile.FieldType.long)) rm_X1_digest).room s m args below meth c H locs cells slots (MQ below (va_Ql post (fun w t => Rp κ w y X [] t.heap) (Af κ)) args s 239 946 (Af κ)) (F0 m 9 ls []) := by
  intro f
  induction f with
  | zero =>
    intro w v1 H locs ls cells slots  h
    exact False.elim h
  | succ f ih =>
    intro w v1 H locs ls cells slots  h hR hS hl hc hs
    have h : st_X1_digest_9 κ y post ex (sp_X1_digest_9 κ y post ex  f)  w v1 := h
    unfold st_X1_digest_9 at h
    refine lv_iload_n hx hb dX1_digest_9 rfl (lv_at hl 1 rfl) ?_
    refine lv_bipush (v := (17 : Int32)) hx hb dX1_digest_10 (by decide) ?_
    refine lv_icmp_ge (tgt := 31) hx hb dX1_digest_12 (by decide) (fun c_12 => ?_) (fun c_12 => ?_)
    · have h := h.1 c_12
      exact kx w  _ _ _ _ _ h hR hS (lv_sub hl [0] rfl) (by omega) (by omega)
    · have h := h.2 c_12
      refine lv_aload_n hx hb dX1_digest_15 rfl (lv_at hl 0 rfl) ?_
      refine lv_aload_n hx hb dX1_digest_16 rfl (lv_at hl 0 rfl) ?_
      refine lv_iload_n hx hb dX1_digest_17 rfl (lv_at hl 1 rfl) ?_
      refine W.mon hm0 (fun hm => ?_)
      refine ce_qi (fw := fun u => u) (fy := fun _ => y) (crm_V (n := 1) (As := [.int (v1)]) (rest := [.ref (y.2 0 0)]) ⟨hx, hb, hml, hown, hts⟩ hK hR hm (m_X1_told hW l0 h) q528 q530 qs3 q74 q531 rfl rfl hd_X1_told ⟨Nat.le_of_ble_eq_true rfl, Nat.le_of_ble_eq_true rfl⟩ (rv hK hR l0 (ci := 0) rfl rfl) rfl rfl hl.1 rfl (lv_room (Nat.le_of_ble_eq_true rfl)) dX1_digest_18 ⟨(Nat.le_trans (show cells + 1 ≤ C1 from by omega) hC), (Nat.le_trans (show slots + 4 ≤ S1 from by omega) hSl)⟩) hR hS (fun r_18 w_18 H locs h hR _ hS => ?_)
      refine lv_i2l hx hb dX1_digest_21 rfl ?_
      refine ce_qv (fw := fun u => u) (fy := fun _ => y) (cr_V (n := 1) (As := [.long (r_18.toInt64)]) (rest := []) ⟨hx, hb, hml, hown, hts⟩ hK hR (m_X1_add hW l0 h) q590 q592 qs7 q74 q593 rfl rfl hd_X1_add ⟨Nat.le_of_ble_eq_true rfl, Nat.le_of_ble_eq_true rfl⟩ (rv hK hR l0 (ci := 0) rfl rfl) rfl rfl hl.1 rfl (lv_room (Nat.le_of_ble_eq_true rfl)) dX1_digest_22 ⟨(Nat.le_trans (show cells + 1 + 0 ≤ C1 from by omega) hC), (Nat.le_trans (show slots + 4 + 0 ≤ S1 from by omega) hSl)⟩) hR hS (fun w_22 H locs h hR _ hS => ?_)
      obtain ⟨x_25, ex_25⟩ : ∃ z : Int32, z = v1 + (1 : Int32) := ⟨_, rfl⟩
      have h := h x_25 ex_25
      refine lv_iinc (v := x_25) (lv' := [(1, .int (x_25)), (0, .ref (y.2 0 0))]) hx hb dX1_digest_25 hl (k := 1) rfl (by rw [ex_25]; rfl) (by decide) rfl (fun ls hl => ?_)
      refine lv_goto (tgt := 9) hx hb dX1_digest_28 (by decide) ?_
      exact ih w_22 x_25 _ _ _ _ _  h hR hS (lv_sub hl [1, 0] rfl) (by omega) (by omega)
def st_X1_digest_53 (κ : Kx) (y : Ly) (post : Int64 → Wd → Prop) (ex : Wd → Prop) (rec : Wd → Int32 → Prop) (v2 : Int32) (v3 : Int32) (i4 : Nat) (w : Wd) (v5 : Int32) : Prop := (((5 : Int32) ≤ v5) → (ex w )) ∧ ((¬ ((5 : Int32) ≤ v5)) → ((vp_in (nI i4) 3) ∧ (sp_X1_told_2 κ y (fun r_72 w_72 => sp_X1_add κ y (fun w_76 => ∀ x_79 : Int32, x_79 = v5 + (1 : Int32) → rec w_76 x_79) w_72 r_72.toInt64) w (((nI i4).toNatClampNeg)) v5)))
def sp_X1_digest_53 (κ : Kx) (y : Ly) (post : Int64 → Wd → Prop) (ex : Wd → Prop) (v2 : Int32) (v3 : Int32) (i4 : Nat) : Nat → Wd → Int32 → Prop
  | 0 => fun _ _ => False
  | n + 1 => fun w v5 => st_X1_digest_53 κ y post ex (sp_X1_digest_53 κ y post ex v2 v3 i4 n) v2 v3 i4 w v5
set_option maxHeartbeats 4000000 in
theorem lp_X1_digest_53 {p : Program} {l : Launch} {e : Env} {s : State} {m : MethodId} {args : Array Value} {below : List Frame} {meth : Method} {c : Code} {κ : Kx} {y : Ly} {X : XR} {post : Int64 → Wd → Prop} {q1 : Nat} {v2 : Int32} {v3 : Int32} {i4 : Nat} (hx : p.tables.exec = Jvm.exec) (hb : c.code = cX1_digest) (hr : meth.sig.returnType = (Option.some Jvm.ClassFile.FieldType.long)) (hml : c.maxLocals = 6) (hown : s.vm.findClass RX1 = some m.cls) (hts : ∀ w ∈ lw_all, w.before args s = true) (hlocks : meth.locks = false) (hK : KK κ s) (hm0 : mon s.heap (y.2 3 0)) (hW : WFc κ y) (l0 : live y 0 0) (l4 : i4 < 3) {C1 S1 : Nat} (hC : C1 ≤ 239) (hSl : S1 ≤ 946) {ex : Wd → Prop}
    (kx : ∀ (w : Wd)  (H : Heap) (locs : List Loc) (ls : Array Slot) (cells slots : Nat) , ex w  → Rp κ w y X [(q1, dvC κ)] H → va_S (Af κ) s.heap H locs → lv_has ls 6 [(0, .ref (y.2 0 0)), (1, .ref (q1)), (2, .int (v2)), (3, .int (v3)), (4, .ref (kA κ (20 + i4)))] → cells ≤ C1 → slots ≤ S1 → W p l e (headSpec (ws_ yX1_digest cX1_digest 6 (Option.some Jvm.ClassFile.FieldType.long)) rm_X1_digest).room s m args below meth c H locs cells slots (MQ below (va_Ql post (fun w t => Rp κ w y X [] t.heap) (Af κ)) args s 239 946 (Af κ)) (F0 m 85 ls [])) :
    ∀ (f : Nat) (w : Wd) (v5 : Int32) (H : Heap) (locs : List Loc) (ls : Array Slot) (cells slots : Nat)  , sp_X1_digest_53 κ y post ex v2 v3 i4 f w v5 → Rp κ w y X [(q1, dvC κ)] H → va_S (Af κ) s.heap H locs → lv_has ls 6 [(0, .ref (y.2 0 0)), (1, .ref (q1)), (2, .int (v2)), (3, .int (v3)), (4, .ref (kA κ (20 + i4))), (5, .int (v5))] → cells + f * 0 ≤ C1 → slots + f * 0 ≤ S1 → W p l e (headSpec (ws_ yX1_digest cX1_digest 6 (Option.some Jvm.ClassFile.FieldType.long)) rm_X1_digest).room s m args below meth c H locs cells slots (MQ below (va_Ql post (fun w t => Rp κ w y X [] t.heap) (Af κ)) args s 239 946 (Af κ)) (F0 m 53 ls []) := by
  intro f
  induction f with
  | zero =>
    intro w v5 H locs ls cells slots  h
    exact False.elim h
  | succ f ih =>
    intro w v5 H locs ls cells slots  h hR hS hl hc hs
    have h : st_X1_digest_53 κ y post ex (sp_X1_digest_53 κ y post ex v2 v3 i4 f) v2 v3 i4 w v5 := h
    unfold st_X1_digest_53 at h
    refine lv_iload hx hb dX1_digest_53 (lv_at hl 5 rfl) ?_
    refine lv_iconst (v := (5 : Int32)) hx hb dX1_digest_55 (by decide) ?_
    refine lv_icmp_ge (tgt := 85) hx hb dX1_digest_56 (by decide) (fun c_56 => ?_) (fun c_56 => ?_)
    · have h := h.1 c_56
      exact kx w  _ _ _ _ _ h hR hS (lv_sub hl [0, 1, 2, 3, 4] rfl) (by omega) (by omega)
    · have h := h.2 c_56
      refine lv_aload_n hx hb dX1_digest_59 rfl (lv_at hl 0 rfl) ?_
      refine lv_aload_n hx hb dX1_digest_60 rfl (lv_at hl 0 rfl) ?_
      refine g0_3 hx hb hts hown hK hR l0 q250 dX1_digest_61 ?_
      refine lv_aload hx hb dX1_digest_64 (lv_at hl 4 rfl) ?_
      refine ce_s (cr_oD (rest := [.ref (y.2 5 0), .ref (y.2 0 0)]) ⟨hx, hb, hml, hown, hts⟩ hK hR l4 q595 ⟨Nat.le_of_ble_eq_true rfl, Nat.le_of_ble_eq_true rfl⟩ rfl hl.1 rfl (lv_room (Nat.le_of_ble_eq_true rfl)) dX1_digest_66 ⟨(Nat.le_trans (show cells + 0 ≤ C1 from by omega) hC), (Nat.le_trans (show slots + 0 ≤ S1 from by omega) hSl)⟩) ?_
      have o_69 := h.1
      have h := h.2
      refine a5 hx hb hK hR hW.rla o_69 dX1_digest_69 ?_
      refine lv_iload hx hb dX1_digest_70 (lv_at hl 5 rfl) ?_
      refine ce_qi (fw := fun u => u) (fy := fun _ => y) (cr_S (n := 2) (As := [.ref (y.2 4 ((nI i4).toNatClampNeg)), .int (v5)]) (rest := [.ref (y.2 0 0)]) ⟨hx, hb, hml, hown, hts⟩ hK hR (m_X1_told_2 hW (hW.rul (vp_lt o_69)) h) q603 q604 q74 q605 rfl rfl hds_X1_told_2 ⟨Nat.le_of_ble_eq_true rfl, Nat.le_of_ble_eq_true rfl⟩ rfl rfl hl.1 rfl (lv_room (Nat.le_of_ble_eq_true rfl)) dX1_digest_72 ⟨(Nat.le_trans (show cells + 0 ≤ C1 from by omega) hC), (Nat.le_trans (show slots + 0 ≤ S1 from by omega) hSl)⟩) hR hS (fun r_72 w_72 H locs h hR _ hS => ?_)
      refine lv_i2l hx hb dX1_digest_75 rfl ?_
      refine ce_qv (fw := fun u => u) (fy := fun _ => y) (cr_V (n := 1) (As := [.long (r_72.toInt64)]) (rest := []) ⟨hx, hb, hml, hown, hts⟩ hK hR (m_X1_add hW l0 h) q590 q592 qs7 q74 q593 rfl rfl hd_X1_add ⟨Nat.le_of_ble_eq_true rfl, Nat.le_of_ble_eq_true rfl⟩ (rv hK hR l0 (ci := 0) rfl rfl) rfl rfl hl.1 rfl (lv_room (Nat.le_of_ble_eq_true rfl)) dX1_digest_76 ⟨(Nat.le_trans (show cells + 0 ≤ C1 from by omega) hC), (Nat.le_trans (show slots + 0 ≤ S1 from by omega) hSl)⟩) hR hS (fun w_76 H locs h hR _ hS => ?_)
      obtain ⟨x_79, ex_79⟩ : ∃ z : Int32, z = v5 + (1 : Int32) := ⟨_, rfl⟩
      have h := h x_79 ex_79
      refine lv_iinc (v := x_79) (lv' := [(5, .int (x_79)), (0, .ref (y.2 0 0)), (1, .ref (q1)), (2, .int (v2)), (3, .int (v3)), (4, .ref (kA κ (20 + i4)))]) hx hb dX1_digest_79 hl (k := 5) rfl (by rw [ex_79]; rfl) (by decide) rfl (fun ls hl => ?_)
      refine lv_goto (tgt := 53) hx hb dX1_digest_82 (by decide) ?_
      exact ih w_76 x_79 _ _ _ _ _  h hR hS (lv_sub hl [1, 2, 3, 4, 5, 0] rfl) (by omega) (by omega)
def st_X1_digest_40 (κ : Kx) (y : Ly) (post : Int64 → Wd → Prop) (ex : Wd → Prop) (rec : Wd → Int32 → Prop) (v2 : Int32) (w : Wd) (v3 : Int32) : Prop := ((v2 ≤ v3) → (ex w )) ∧ ((¬ (v2 ≤ v3)) → ((vp_in (v3) 3) ∧ (sp_X1_digest_53 κ y post (fun w_53  => sp_X1_direct κ y (fun r_89 w_89 => sp_X1_add κ y (fun w_93 => ∀ x_96 : Int32, x_96 = v3 + (1 : Int32) → rec w_93 x_96) w_89 r_89.toInt64) w_53 ((v3).toNatClampNeg)) v2 v3 ((v3).toNatClampNeg) 6 w (0 : Int32))))
def sp_X1_digest_40 (κ : Kx) (y : Ly) (post : Int64 → Wd → Prop) (ex : Wd → Prop) (v2 : Int32) : Nat → Wd → Int32 → Prop
  | 0 => fun _ _ => False
  | n + 1 => fun w v3 => st_X1_digest_40 κ y post ex (sp_X1_digest_40 κ y post ex v2 n) v2 w v3
set_option maxHeartbeats 4000000 in
theorem lp_X1_digest_40 {p : Program} {l : Launch} {e : Env} {s : State} {m : MethodId} {args : Array Value} {below : List Frame} {meth : Method} {c : Code} {κ : Kx} {y : Ly} {X : XR} {post : Int64 → Wd → Prop} {q1 : Nat} {v2 : Int32} (hx : p.tables.exec = Jvm.exec) (hb : c.code = cX1_digest) (hr : meth.sig.returnType = (Option.some Jvm.ClassFile.FieldType.long)) (hml : c.maxLocals = 6) (hown : s.vm.findClass RX1 = some m.cls) (hts : ∀ w ∈ lw_all, w.before args s = true) (hlocks : meth.locks = false) (hK : KK κ s) (hm0 : mon s.heap (y.2 3 0)) (hW : WFc κ y) (l0 : live y 0 0) {C1 S1 : Nat} (hC : C1 ≤ 239) (hSl : S1 ≤ 946) {ex : Wd → Prop}
    (kx : ∀ (w : Wd)  (H : Heap) (locs : List Loc) (ls : Array Slot) (cells slots : Nat) , ex w  → Rp κ w y X [] H → va_S (Af κ) s.heap H locs → lv_has ls 6 [(0, .ref (y.2 0 0))] → cells ≤ C1 → slots ≤ S1 → W p l e (headSpec (ws_ yX1_digest cX1_digest 6 (Option.some Jvm.ClassFile.FieldType.long)) rm_X1_digest).room s m args below meth c H locs cells slots (MQ below (va_Ql post (fun w t => Rp κ w y X [] t.heap) (Af κ)) args s 239 946 (Af κ)) (F0 m 102 ls [])) :
    ∀ (f : Nat) (w : Wd) (v3 : Int32) (H : Heap) (locs : List Loc) (ls : Array Slot) (cells slots : Nat)  , sp_X1_digest_40 κ y post ex v2 f w v3 → Rp κ w y X [(q1, dvC κ)] H → va_S (Af κ) s.heap H locs → lv_has ls 6 [(0, .ref (y.2 0 0)), (1, .ref (q1)), (2, .int (v2)), (3, .int (v3))] → cells + f * 10 ≤ C1 → slots + f * 40 ≤ S1 → W p l e (headSpec (ws_ yX1_digest cX1_digest 6 (Option.some Jvm.ClassFile.FieldType.long)) rm_X1_digest).room s m args below meth c H locs cells slots (MQ below (va_Ql post (fun w t => Rp κ w y X [] t.heap) (Af κ)) args s 239 946 (Af κ)) (F0 m 40 ls []) := by
  intro f
  induction f with
  | zero =>
    intro w v3 H locs ls cells slots  h
    exact False.elim h
  | succ f ih =>
    intro w v3 H locs ls cells slots  h hR hS hl hc hs
    have h : st_X1_digest_40 κ y post ex (sp_X1_digest_40 κ y post ex v2 f) v2 w v3 := h
    unfold st_X1_digest_40 at h
    refine lv_iload_n hx hb dX1_digest_40 rfl (lv_at hl 3 rfl) ?_
    refine lv_iload_n hx hb dX1_digest_41 rfl (lv_at hl 2 rfl) ?_
    refine lv_icmp_ge (tgt := 102) hx hb dX1_digest_42 (by decide) (fun c_42 => ?_) (fun c_42 => ?_)
    · have h := h.1 c_42
      have hR := hR.sub (L' := []) [] rfl rfl
      exact kx w  _ _ _ _ _ h hR hS (lv_sub hl [0] rfl) (by omega) (by omega)
    · have h := h.2 c_42
      refine lv_aload_n hx hb dX1_digest_45 rfl (lv_at hl 1 rfl) ?_
      refine lv_iload_n hx hb dX1_digest_46 rfl (lv_at hl 3 rfl) ?_
      have o_47 := h.1
      have h := h.2
      refine xa_aald hx hb hK.1 (hR.L 0 _ rfl) 7 rfl o_47 dX1_digest_47 ?_
      refine lv_astore (lv' := [(4, .ref (kA κ (20 + (v3).toNatClampNeg))), (0, .ref (y.2 0 0)), (1, .ref (q1)), (2, .int (v2)), (3, .int (v3))]) hx hb dX1_digest_48 hl (by decide) rfl (fun ls hl => ?_)
      refine lv_iconst (v := (0 : Int32)) hx hb dX1_digest_50 (by decide) ?_
      refine lv_istore (lv' := [(5, .int ((0 : Int32))), (4, .ref (kA κ (20 + (v3).toNatClampNeg))), (0, .ref (y.2 0 0)), (1, .ref (q1)), (2, .int (v2)), (3, .int (v3))]) hx hb dX1_digest_51 hl (by decide) rfl (fun ls hl => ?_)
      refine lp_X1_digest_53 (C1 := (cells + 0)) (S1 := (slots + 0)) hx hb hr hml hown hts hlocks hK hm0 hW l0 (vp_lt o_47) (Nat.le_trans (by omega) hC) (Nat.le_trans (by omega) hSl) (fun w_53  H locs ls cells9 slots9 h hR hS hl hc9 hs9 => ?_) 6 w (0 : Int32) _ _ _ _ _  h hR hS (lv_sub hl [2, 3, 4, 5, 1, 0] rfl) (by omega) (by omega)
      refine W.widen (k := (cells + 0)) (n := (slots + 0)) hc9 hs9 ?_
      refine lv_aload_n hx hb dX1_digest_85 rfl (lv_at hl 0 rfl) ?_
      refine lv_aload_n hx hb dX1_digest_86 rfl (lv_at hl 0 rfl) ?_
      refine lv_aload hx hb dX1_digest_87 (lv_at hl 4 rfl) ?_
      refine ce_qi (fw := fun u => u) (fy := fun _ => y) (cr_V (n := 1) (As := [.ref (kA κ (20 + (v3).toNatClampNeg))]) (rest := [.ref (y.2 0 0)]) ⟨hx, hb, hml, hown, hts⟩ hK hR (m_X1_direct hW l0 (vp_lt o_47) h) q606 q608 qs8 q74 q609 rfl rfl hd_X1_direct ⟨Nat.le_of_ble_eq_true rfl, Nat.le_of_ble_eq_true rfl⟩ (rv hK hR l0 (ci := 0) rfl rfl) rfl rfl hl.1 rfl (lv_room (Nat.le_of_ble_eq_true rfl)) dX1_digest_89 ⟨(Nat.le_trans (show cells + 10 ≤ C1 from by omega) hC), (Nat.le_trans (show slots + 40 ≤ S1 from by omega) hSl)⟩) hR hS (fun r_89 w_89 H locs h hR _ hS => ?_)
      refine lv_i2l hx hb dX1_digest_92 rfl ?_
      refine ce_qv (fw := fun u => u) (fy := fun _ => y) (cr_V (n := 1) (As := [.long (r_89.toInt64)]) (rest := []) ⟨hx, hb, hml, hown, hts⟩ hK hR (m_X1_add hW l0 h) q590 q592 qs7 q74 q593 rfl rfl hd_X1_add ⟨Nat.le_of_ble_eq_true rfl, Nat.le_of_ble_eq_true rfl⟩ (rv hK hR l0 (ci := 0) rfl rfl) rfl rfl hl.1 rfl (lv_room (Nat.le_of_ble_eq_true rfl)) dX1_digest_93 ⟨(Nat.le_trans (show cells + 10 + 0 ≤ C1 from by omega) hC), (Nat.le_trans (show slots + 40 + 0 ≤ S1 from by omega) hSl)⟩) hR hS (fun w_93 H locs h hR _ hS => ?_)
      obtain ⟨x_96, ex_96⟩ : ∃ z : Int32, z = v3 + (1 : Int32) := ⟨_, rfl⟩
      have h := h x_96 ex_96
      refine lv_iinc (v := x_96) (lv' := [(3, .int (x_96)), (0, .ref (y.2 0 0)), (1, .ref (q1)), (2, .int (v2)), (4, .ref (kA κ (20 + (v3).toNatClampNeg)))]) hx hb dX1_digest_96 hl (k := 3) rfl (by rw [ex_96]; rfl) (by decide) rfl (fun ls hl => ?_)
      refine lv_goto (tgt := 40) hx hb dX1_digest_99 (by decide) ?_
      exact ih w_93 x_96 _ _ _ _ _  h hR hS (lv_sub hl [1, 2, 3, 0] rfl) (by omega) (by omega)
def st_X1_digest_110 (κ : Kx) (y : Ly) (post : Int64 → Wd → Prop) (ex : Wd → Prop) (rec : Wd → Nat → Int32 → Prop)  (w : Wd) (c1 : Nat) (z1 : Int32) : Prop := ((¬ (¬ c1 = nV y)) → (ex w )) ∧ (((¬ c1 = nV y)) → (sp_X1_addVillage κ y (fun w_131 => rec w_131 (c1 + 1) (nI c1)) w c1))
def sp_X1_digest_110 (κ : Kx) (y : Ly) (post : Int64 → Wd → Prop) (ex : Wd → Prop)  : Nat → Wd → Nat → Int32 → Prop
  | 0 => fun _ _ _ => False
  | n + 1 => fun w c1 z1 => st_X1_digest_110 κ y post ex (sp_X1_digest_110 κ y post ex  n)  w c1 z1
set_option maxHeartbeats 4000000 in
theorem lp_X1_digest_110 {p : Program} {l : Launch} {e : Env} {s : State} {m : MethodId} {args : Array Value} {below : List Frame} {meth : Method} {c : Code} {κ : Kx} {y : Ly} {X : XR} {post : Int64 → Wd → Prop} {q1 : Nat} (hx : p.tables.exec = Jvm.exec) (hb : c.code = cX1_digest) (hr : meth.sig.returnType = (Option.some Jvm.ClassFile.FieldType.long)) (hml : c.maxLocals = 6) (hown : s.vm.findClass RX1 = some m.cls) (hts : ∀ w ∈ lw_all, w.before args s = true) (hlocks : meth.locks = false) (hK : KK κ s) (hm0 : mon s.heap (y.2 3 0)) (hW : WFc κ y) (l0 : live y 0 0) {C1 S1 : Nat} (hC : C1 ≤ 239) (hSl : S1 ≤ 946) {ex : Wd → Prop}
    (kx : ∀ (w : Wd)  (H : Heap) (locs : List Loc) (ls : Array Slot) (cells slots : Nat) , ex w  → Rp κ w y X [] H → va_S (Af κ) s.heap H locs → lv_has ls 6 [(0, .ref (y.2 0 0))] → cells ≤ C1 → slots ≤ S1 → W p l e (headSpec (ws_ yX1_digest cX1_digest 6 (Option.some Jvm.ClassFile.FieldType.long)) rm_X1_digest).room s m args below meth c H locs cells slots (MQ below (va_Ql post (fun w t => Rp κ w y X [] t.heap) (Af κ)) args s 239 946 (Af κ)) (F0 m 137 ls [])) :
    ∀ (f : Nat) (w : Wd) (c1 : Nat) (z1 : Int32) (H : Heap) (locs : List Loc) (ls : Array Slot) (cells slots : Nat)  (hc1 : c1 ≤ nV y), sp_X1_digest_110 κ y post ex  f w c1 z1 → Rp κ w y X [(q1, itC y 40 0 c1 z1)] H → va_S (Af κ) s.heap H locs → lv_has ls 6 [(0, .ref (y.2 0 0)), (1, .ref (q1))] → cells + f * 1 ≤ C1 → slots + f * 3 ≤ S1 → W p l e (headSpec (ws_ yX1_digest cX1_digest 6 (Option.some Jvm.ClassFile.FieldType.long)) rm_X1_digest).room s m args below meth c H locs cells slots (MQ below (va_Ql post (fun w t => Rp κ w y X [] t.heap) (Af κ)) args s 239 946 (Af κ)) (F0 m 110 ls []) := by
  intro f
  induction f with
  | zero =>
    intro w c1 z1 H locs ls cells slots hc1 h
    exact False.elim h
  | succ f ih =>
    intro w c1 z1 H locs ls cells slots hc1 h hR hS hl hc hs
    have h : st_X1_digest_110 κ y post ex (sp_X1_digest_110 κ y post ex  f)  w c1 z1 := h
    unfold st_X1_digest_110 at h
    refine lv_aload_n hx hb dX1_digest_110 rfl (lv_at hl 1 rfl) ?_
    refine jr_hasNext (t := 0) ⟨hx, hb, hml, hown, hts⟩ hK hR rfl ⟨fun _ _ _ _ _ => rfl, fun _ _ _ _ _ => rfl⟩ hW.lsV (by omega) (Nat.le_trans hW.nV8 (by decide)) q349 ⟨Nat.le_of_ble_eq_true rfl, Nat.le_of_ble_eq_true rfl⟩ hl.1 (Nat.le_of_ble_eq_true rfl) dX1_digest_111 ⟨(Nat.le_trans (show cells + 0 ≤ C1 from by omega) hC), (Nat.le_trans (show slots + 0 ≤ S1 from by omega) hSl)⟩ ?_
    refine lv_if_eq (tgt := 137) hx hb dX1_digest_116 (by decide) (fun c_116 => ?_) (fun c_116 => ?_)
    · replace c_116 : ¬ (¬ c1 = nV y) := bi_0.mp c_116
      have h := h.1 c_116
      have hR := hR.sub (L' := []) [] rfl rfl
      exact kx w  _ _ _ _ _ h hR hS (lv_sub hl [0] rfl) (by omega) (by omega)
    · replace c_116 : (¬ c1 = nV y) := bi_n0.mp c_116
      have h := h.2 c_116
      refine lv_aload_n hx hb dX1_digest_119 rfl (lv_at hl 1 rfl) ?_
      have hn_120 : c1 < nV y := by omega
      refine jr_next (t := 0) (a := y.2 6 c1) ⟨hx, hb, hml, hown, hts⟩ hK hR hS rfl ⟨fun _ _ _ _ _ => rfl, fun _ _ _ _ _ => rfl⟩ hW.lsV ⟨hW.arV (Nat.lt_of_le_of_lt (Nat.zero_le _) hn_120), (Nat.le_trans hW.nV8 (by decide))⟩ hn_120 (hW.elV hn_120) q359 ⟨Nat.le_of_ble_eq_true rfl, Nat.le_of_ble_eq_true rfl⟩ hl.1 (Nat.le_of_ble_eq_true rfl) dX1_digest_120 ⟨(Nat.le_trans (show cells + 0 ≤ C1 from by omega) hC), (Nat.le_trans (show slots + 0 ≤ S1 from by omega) hSl)⟩ (fun H locs hR hS => ?_)
      have hR : Rp κ w y X [(q1, itC y 40 0 (c1 + 1) (nI c1))] H := hR
      refine jr_castS (ci := 6) hx hb hown hK hts (hR.role (hW.vil hn_120)) rfl q496 dX1_digest_125 ?_
      refine lv_astore_n (lv' := [(2, .ref (y.2 6 c1)), (0, .ref (y.2 0 0)), (1, .ref (q1))]) hx hb dX1_digest_128 rfl hl (by decide) rfl (fun ls hl => ?_)
      refine lv_aload_n hx hb dX1_digest_129 rfl (lv_at hl 1 rfl) ?_
      refine lv_aload_n hx hb dX1_digest_130 rfl (lv_at hl 0 rfl) ?_
      refine ce_qv (fw := fun u => u) (fy := fun _ => y) (cr_V (n := 1) (As := [.ref (y.2 6 c1)]) (rest := []) ⟨hx, hb, hml, hown, hts⟩ hK hR (m_X1_addVillage hW l0 (hW.vil hn_120) h) q672 q674 qs11 q74 q675 rfl rfl hd_X1_addVillage ⟨Nat.le_of_ble_eq_true rfl, Nat.le_of_ble_eq_true rfl⟩ (rv hK hR l0 (ci := 0) rfl rfl) rfl rfl hl.1 rfl (lv_room (Nat.le_of_ble_eq_true rfl)) dX1_digest_131 ⟨(Nat.le_trans (show cells + 1 ≤ C1 from by omega) hC), (Nat.le_trans (show slots + 3 ≤ S1 from by omega) hSl)⟩) hR hS (fun w_131 H locs h hR _ hS => ?_)
      refine lv_goto (tgt := 110) hx hb dX1_digest_134 (by decide) ?_
      exact ih w_131 (c1 + 1) (nI c1) _ _ _ _ _ (by omega) h hR hS (lv_sub hl [1, 2] rfl) (by omega) (by omega)
def st_X1_digest_145 (κ : Kx) (y : Ly) (post : Int64 → Wd → Prop) (ex : Wd → Prop) (rec : Wd → Nat → Int32 → Prop)  (w : Wd) (c1 : Nat) (z1 : Int32) : Prop := ((¬ (¬ c1 = nC y)) → (ex w )) ∧ (((¬ c1 = nC y)) → (sp_X1_addCompany κ y (fun w_166 => rec w_166 (c1 + 1) (nI c1)) w c1))
def sp_X1_digest_145 (κ : Kx) (y : Ly) (post : Int64 → Wd → Prop) (ex : Wd → Prop)  : Nat → Wd → Nat → Int32 → Prop
  | 0 => fun _ _ _ => False
  | n + 1 => fun w c1 z1 => st_X1_digest_145 κ y post ex (sp_X1_digest_145 κ y post ex  n)  w c1 z1
set_option maxHeartbeats 4000000 in
theorem lp_X1_digest_145 {p : Program} {l : Launch} {e : Env} {s : State} {m : MethodId} {args : Array Value} {below : List Frame} {meth : Method} {c : Code} {κ : Kx} {y : Ly} {X : XR} {post : Int64 → Wd → Prop} {q1 : Nat} (hx : p.tables.exec = Jvm.exec) (hb : c.code = cX1_digest) (hr : meth.sig.returnType = (Option.some Jvm.ClassFile.FieldType.long)) (hml : c.maxLocals = 6) (hown : s.vm.findClass RX1 = some m.cls) (hts : ∀ w ∈ lw_all, w.before args s = true) (hlocks : meth.locks = false) (hK : KK κ s) (hm0 : mon s.heap (y.2 3 0)) (hW : WFc κ y) (l0 : live y 0 0) {C1 S1 : Nat} (hC : C1 ≤ 239) (hSl : S1 ≤ 946) {ex : Wd → Prop}
    (kx : ∀ (w : Wd)  (H : Heap) (locs : List Loc) (ls : Array Slot) (cells slots : Nat) , ex w  → Rp κ w y X [] H → va_S (Af κ) s.heap H locs → lv_has ls 6 [(0, .ref (y.2 0 0))] → cells ≤ C1 → slots ≤ S1 → W p l e (headSpec (ws_ yX1_digest cX1_digest 6 (Option.some Jvm.ClassFile.FieldType.long)) rm_X1_digest).room s m args below meth c H locs cells slots (MQ below (va_Ql post (fun w t => Rp κ w y X [] t.heap) (Af κ)) args s 239 946 (Af κ)) (F0 m 172 ls [])) :
    ∀ (f : Nat) (w : Wd) (c1 : Nat) (z1 : Int32) (H : Heap) (locs : List Loc) (ls : Array Slot) (cells slots : Nat)  (hc1 : c1 ≤ nC y), sp_X1_digest_145 κ y post ex  f w c1 z1 → Rp κ w y X [(q1, itC y 42 0 c1 z1)] H → va_S (Af κ) s.heap H locs → lv_has ls 6 [(0, .ref (y.2 0 0)), (1, .ref (q1))] → cells + f * 15 ≤ C1 → slots + f * 60 ≤ S1 → W p l e (headSpec (ws_ yX1_digest cX1_digest 6 (Option.some Jvm.ClassFile.FieldType.long)) rm_X1_digest).room s m args below meth c H locs cells slots (MQ below (va_Ql post (fun w t => Rp κ w y X [] t.heap) (Af κ)) args s 239 946 (Af κ)) (F0 m 145 ls []) := by
  intro f
  induction f with
  | zero =>
    intro w c1 z1 H locs ls cells slots hc1 h
    exact False.elim h
  | succ f ih =>
    intro w c1 z1 H locs ls cells slots hc1 h hR hS hl hc hs
    have h : st_X1_digest_145 κ y post ex (sp_X1_digest_145 κ y post ex  f)  w c1 z1 := h
    unfold st_X1_digest_145 at h
    refine lv_aload_n hx hb dX1_digest_145 rfl (lv_at hl 1 rfl) ?_
    refine jr_hasNext (t := 0) ⟨hx, hb, hml, hown, hts⟩ hK hR rfl ⟨fun _ _ _ _ _ => rfl, fun _ _ _ _ _ => rfl⟩ hW.lsC (by omega) (Nat.le_trans hW.nC4 (by decide)) q349 ⟨Nat.le_of_ble_eq_true rfl, Nat.le_of_ble_eq_true rfl⟩ hl.1 (Nat.le_of_ble_eq_true rfl) dX1_digest_146 ⟨(Nat.le_trans (show cells + 0 ≤ C1 from by omega) hC), (Nat.le_trans (show slots + 0 ≤ S1 from by omega) hSl)⟩ ?_
    refine lv_if_eq (tgt := 172) hx hb dX1_digest_151 (by decide) (fun c_151 => ?_) (fun c_151 => ?_)
    · replace c_151 : ¬ (¬ c1 = nC y) := bi_0.mp c_151
      have h := h.1 c_151
      have hR := hR.sub (L' := []) [] rfl rfl
      exact kx w  _ _ _ _ _ h hR hS (lv_sub hl [0] rfl) (by omega) (by omega)
    · replace c_151 : (¬ c1 = nC y) := bi_n0.mp c_151
      have h := h.2 c_151
      refine lv_aload_n hx hb dX1_digest_154 rfl (lv_at hl 1 rfl) ?_
      have hn_155 : c1 < nC y := by omega
      refine jr_next (t := 0) (a := y.2 9 c1) ⟨hx, hb, hml, hown, hts⟩ hK hR hS rfl ⟨fun _ _ _ _ _ => rfl, fun _ _ _ _ _ => rfl⟩ hW.lsC ⟨hW.arC (Nat.lt_of_le_of_lt (Nat.zero_le _) hn_155), (Nat.le_trans hW.nC4 (by decide))⟩ hn_155 (hW.elC hn_155) q359 ⟨Nat.le_of_ble_eq_true rfl, Nat.le_of_ble_eq_true rfl⟩ hl.1 (Nat.le_of_ble_eq_true rfl) dX1_digest_155 ⟨(Nat.le_trans (show cells + 0 ≤ C1 from by omega) hC), (Nat.le_trans (show slots + 0 ≤ S1 from by omega) hSl)⟩ (fun H locs hR hS => ?_)
      have hR : Rp κ w y X [(q1, itC y 42 0 (c1 + 1) (nI c1))] H := hR
      refine jr_castS (ci := 7) hx hb hown hK hts (hR.role (hW.com hn_155)) rfl q371 dX1_digest_160 ?_
      refine lv_astore_n (lv' := [(2, .ref (y.2 9 c1)), (0, .ref (y.2 0 0)), (1, .ref (q1))]) hx hb dX1_digest_163 rfl hl (by decide) rfl (fun ls hl => ?_)
      refine lv_aload_n hx hb dX1_digest_164 rfl (lv_at hl 1 rfl) ?_
      refine lv_aload_n hx hb dX1_digest_165 rfl (lv_at hl 0 rfl) ?_
      refine ce_qv (fw := fun u => u) (fy := fun _ => y) (cr_V (n := 1) (As := [.ref (y.2 9 c1)]) (rest := []) ⟨hx, hb, hml, hown, hts⟩ hK hR (m_X1_addCompany hW l0 (hW.com hn_155) h) q713 q715 qs12 q74 q716 rfl rfl hd_X1_addCompany ⟨Nat.le_of_ble_eq_true rfl, Nat.le_of_ble_eq_true rfl⟩ (rv hK hR l0 (ci := 0) rfl rfl) rfl rfl hl.1 rfl (lv_room (Nat.le_of_ble_eq_true rfl)) dX1_digest_166 ⟨(Nat.le_trans (show cells + 15 ≤ C1 from by omega) hC), (Nat.le_trans (show slots + 60 ≤ S1 from by omega) hSl)⟩) hR hS (fun w_166 H locs h hR _ hS => ?_)
      refine lv_goto (tgt := 145) hx hb dX1_digest_169 (by decide) ?_
      exact ih w_166 (c1 + 1) (nI c1) _ _ _ _ _ (by omega) h hR hS (lv_sub hl [1, 2] rfl) (by omega) (by omega)
def st_X1_digest_201 (κ : Kx) (y : Ly) (post : Int64 → Wd → Prop) (ex : Wd → Prop) (rec : Wd → Int32 → Prop) (i2 : Nat) (w : Wd) (v3 : Int32) : Prop := (((12 : Int32) ≤ v3) → (ex w )) ∧ ((¬ ((12 : Int32) ≤ v3)) → (sp_X1_told_6 κ y (fun r_210 w_210 => sp_X1_add κ y (fun w_214 => ∀ x_217 : Int32, x_217 = v3 + (1 : Int32) → rec w_214 x_217) w_210 r_210.toInt64) w i2 v3))
def sp_X1_digest_201 (κ : Kx) (y : Ly) (post : Int64 → Wd → Prop) (ex : Wd → Prop) (i2 : Nat) : Nat → Wd → Int32 → Prop
  | 0 => fun _ _ => False
  | n + 1 => fun w v3 => st_X1_digest_201 κ y post ex (sp_X1_digest_201 κ y post ex i2 n) i2 w v3
set_option maxHeartbeats 4000000 in
theorem lp_X1_digest_201 {p : Program} {l : Launch} {e : Env} {s : State} {m : MethodId} {args : Array Value} {below : List Frame} {meth : Method} {c : Code} {κ : Kx} {y : Ly} {X : XR} {post : Int64 → Wd → Prop} {q1 : Nat} {c1 : Nat} {z1 : Int32} {i2 : Nat} (hx : p.tables.exec = Jvm.exec) (hb : c.code = cX1_digest) (hr : meth.sig.returnType = (Option.some Jvm.ClassFile.FieldType.long)) (hml : c.maxLocals = 6) (hown : s.vm.findClass RX1 = some m.cls) (hts : ∀ w ∈ lw_all, w.before args s = true) (hlocks : meth.locks = false) (hK : KK κ s) (hm0 : mon s.heap (y.2 3 0)) (hW : WFc κ y) (l0 : live y 0 0) (l2 : live y 11 i2) {C1 S1 : Nat} (hC : C1 ≤ 239) (hSl : S1 ≤ 946) {ex : Wd → Prop}
    (kx : ∀ (w : Wd)  (H : Heap) (locs : List Loc) (ls : Array Slot) (cells slots : Nat) , ex w  → Rp κ w y X [(q1, itC y 44 0 c1 z1)] H → va_S (Af κ) s.heap H locs → lv_has ls 6 [(0, .ref (y.2 0 0)), (1, .ref (q1)), (2, .ref (y.2 11 i2))] → cells ≤ C1 → slots ≤ S1 → W p l e (headSpec (ws_ yX1_digest cX1_digest 6 (Option.some Jvm.ClassFile.FieldType.long)) rm_X1_digest).room s m args below meth c H locs cells slots (MQ below (va_Ql post (fun w t => Rp κ w y X [] t.heap) (Af κ)) args s 239 946 (Af κ)) (F0 m 223 ls [])) :
    ∀ (f : Nat) (w : Wd) (v3 : Int32) (H : Heap) (locs : List Loc) (ls : Array Slot) (cells slots : Nat)  , sp_X1_digest_201 κ y post ex i2 f w v3 → Rp κ w y X [(q1, itC y 44 0 c1 z1)] H → va_S (Af κ) s.heap H locs → lv_has ls 6 [(0, .ref (y.2 0 0)), (1, .ref (q1)), (2, .ref (y.2 11 i2)), (3, .int (v3))] → cells + f * 0 ≤ C1 → slots + f * 0 ≤ S1 → W p l e (headSpec (ws_ yX1_digest cX1_digest 6 (Option.some Jvm.ClassFile.FieldType.long)) rm_X1_digest).room s m args below meth c H locs cells slots (MQ below (va_Ql post (fun w t => Rp κ w y X [] t.heap) (Af κ)) args s 239 946 (Af κ)) (F0 m 201 ls []) := by
  intro f
  induction f with
  | zero =>
    intro w v3 H locs ls cells slots  h
    exact False.elim h
  | succ f ih =>
    intro w v3 H locs ls cells slots  h hR hS hl hc hs
    have h : st_X1_digest_201 κ y post ex (sp_X1_digest_201 κ y post ex i2 f) i2 w v3 := h
    unfold st_X1_digest_201 at h
    refine lv_iload_n hx hb dX1_digest_201 rfl (lv_at hl 3 rfl) ?_
    refine lv_bipush (v := (12 : Int32)) hx hb dX1_digest_202 (by decide) ?_
    refine lv_icmp_ge (tgt := 223) hx hb dX1_digest_204 (by decide) (fun c_204 => ?_) (fun c_204 => ?_)
    · have h := h.1 c_204
      exact kx w  _ _ _ _ _ h hR hS (lv_sub hl [0, 1, 2] rfl) (by omega) (by omega)
    · have h := h.2 c_204
      refine lv_aload_n hx hb dX1_digest_207 rfl (lv_at hl 0 rfl) ?_
      refine lv_aload_n hx hb dX1_digest_208 rfl (lv_at hl 2 rfl) ?_
      refine lv_iload_n hx hb dX1_digest_209 rfl (lv_at hl 3 rfl) ?_
      refine ce_qi (fw := fun u => u) (fy := fun _ => y) (cr_S (n := 2) (As := [.ref (y.2 11 i2), .int (v3)]) (rest := [.ref (y.2 0 0)]) ⟨hx, hb, hml, hown, hts⟩ hK hR (m_X1_told_6 hW l2 h) q741 q742 q74 q743 rfl rfl hds_X1_told_6 ⟨Nat.le_of_ble_eq_true rfl, Nat.le_of_ble_eq_true rfl⟩ rfl rfl hl.1 rfl (lv_room (Nat.le_of_ble_eq_true rfl)) dX1_digest_210 ⟨(Nat.le_trans (show cells + 0 ≤ C1 from by omega) hC), (Nat.le_trans (show slots + 0 ≤ S1 from by omega) hSl)⟩) hR hS (fun r_210 w_210 H locs h hR _ hS => ?_)
      refine lv_i2l hx hb dX1_digest_213 rfl ?_
      refine ce_qv (fw := fun u => u) (fy := fun _ => y) (cr_V (n := 1) (As := [.long (r_210.toInt64)]) (rest := []) ⟨hx, hb, hml, hown, hts⟩ hK hR (m_X1_add hW l0 h) q590 q592 qs7 q74 q593 rfl rfl hd_X1_add ⟨Nat.le_of_ble_eq_true rfl, Nat.le_of_ble_eq_true rfl⟩ (rv hK hR l0 (ci := 0) rfl rfl) rfl rfl hl.1 rfl (lv_room (Nat.le_of_ble_eq_true rfl)) dX1_digest_214 ⟨(Nat.le_trans (show cells + 0 ≤ C1 from by omega) hC), (Nat.le_trans (show slots + 0 ≤ S1 from by omega) hSl)⟩) hR hS (fun w_214 H locs h hR _ hS => ?_)
      obtain ⟨x_217, ex_217⟩ : ∃ z : Int32, z = v3 + (1 : Int32) := ⟨_, rfl⟩
      have h := h x_217 ex_217
      refine lv_iinc (v := x_217) (lv' := [(3, .int (x_217)), (0, .ref (y.2 0 0)), (1, .ref (q1)), (2, .ref (y.2 11 i2))]) hx hb dX1_digest_217 hl (k := 3) rfl (by rw [ex_217]; rfl) (by decide) rfl (fun ls hl => ?_)
      refine lv_goto (tgt := 201) hx hb dX1_digest_220 (by decide) ?_
      exact ih w_214 x_217 _ _ _ _ _  h hR hS (lv_sub hl [1, 2, 3, 0] rfl) (by omega) (by omega)
def st_X1_digest_180 (κ : Kx) (y : Ly) (post : Int64 → Wd → Prop) (ex : Wd → Prop) (rec : Wd → Nat → Int32 → Prop)  (w : Wd) (c1 : Nat) (z1 : Int32) : Prop := ((¬ (¬ c1 = nL y)) → (ex w )) ∧ (((¬ c1 = nL y)) → (sp_X1_digest_201 κ y post (fun w_201  => sp_X1_bring κ y (fun r_227 w_227 => sp_X1_add κ y (fun w_231 => sp_X1_best κ y (fun r_237 w_237 => sp_X1_add κ y (fun w_241 => rec w_241 (c1 + 1) (nI c1)) w_237 r_237.toInt64) w_231 c1) w_227 r_227.toInt64) w_201 c1 (1 : Int32)) c1 13 w (0 : Int32)))
def sp_X1_digest_180 (κ : Kx) (y : Ly) (post : Int64 → Wd → Prop) (ex : Wd → Prop)  : Nat → Wd → Nat → Int32 → Prop
  | 0 => fun _ _ _ => False
  | n + 1 => fun w c1 z1 => st_X1_digest_180 κ y post ex (sp_X1_digest_180 κ y post ex  n)  w c1 z1
set_option maxHeartbeats 4000000 in
theorem lp_X1_digest_180 {p : Program} {l : Launch} {e : Env} {s : State} {m : MethodId} {args : Array Value} {below : List Frame} {meth : Method} {c : Code} {κ : Kx} {y : Ly} {X : XR} {post : Int64 → Wd → Prop} {q1 : Nat} (hx : p.tables.exec = Jvm.exec) (hb : c.code = cX1_digest) (hr : meth.sig.returnType = (Option.some Jvm.ClassFile.FieldType.long)) (hml : c.maxLocals = 6) (hown : s.vm.findClass RX1 = some m.cls) (hts : ∀ w ∈ lw_all, w.before args s = true) (hlocks : meth.locks = false) (hK : KK κ s) (hm0 : mon s.heap (y.2 3 0)) (hW : WFc κ y) (l0 : live y 0 0) {C1 S1 : Nat} (hC : C1 ≤ 239) (hSl : S1 ≤ 946) {ex : Wd → Prop}
    (kx : ∀ (w : Wd)  (H : Heap) (locs : List Loc) (ls : Array Slot) (cells slots : Nat) , ex w  → Rp κ w y X [] H → va_S (Af κ) s.heap H locs → lv_has ls 6 [(0, .ref (y.2 0 0))] → cells ≤ C1 → slots ≤ S1 → W p l e (headSpec (ws_ yX1_digest cX1_digest 6 (Option.some Jvm.ClassFile.FieldType.long)) rm_X1_digest).room s m args below meth c H locs cells slots (MQ below (va_Ql post (fun w t => Rp κ w y X [] t.heap) (Af κ)) args s 239 946 (Af κ)) (F0 m 247 ls [])) :
    ∀ (f : Nat) (w : Wd) (c1 : Nat) (z1 : Int32) (H : Heap) (locs : List Loc) (ls : Array Slot) (cells slots : Nat)  (hc1 : c1 ≤ nL y), sp_X1_digest_180 κ y post ex  f w c1 z1 → Rp κ w y X [(q1, itC y 44 0 c1 z1)] H → va_S (Af κ) s.heap H locs → lv_has ls 6 [(0, .ref (y.2 0 0)), (1, .ref (q1))] → cells + f * 9 ≤ C1 → slots + f * 36 ≤ S1 → W p l e (headSpec (ws_ yX1_digest cX1_digest 6 (Option.some Jvm.ClassFile.FieldType.long)) rm_X1_digest).room s m args below meth c H locs cells slots (MQ below (va_Ql post (fun w t => Rp κ w y X [] t.heap) (Af κ)) args s 239 946 (Af κ)) (F0 m 180 ls []) := by
  intro f
  induction f with
  | zero =>
    intro w c1 z1 H locs ls cells slots hc1 h
    exact False.elim h
  | succ f ih =>
    intro w c1 z1 H locs ls cells slots hc1 h hR hS hl hc hs
    have h : st_X1_digest_180 κ y post ex (sp_X1_digest_180 κ y post ex  f)  w c1 z1 := h
    unfold st_X1_digest_180 at h
    refine lv_aload_n hx hb dX1_digest_180 rfl (lv_at hl 1 rfl) ?_
    refine jr_hasNext (t := 0) ⟨hx, hb, hml, hown, hts⟩ hK hR rfl ⟨fun _ _ _ _ _ => rfl, fun _ _ _ _ _ => rfl⟩ hW.lsL (by omega) (Nat.le_trans hW.nL8 (by decide)) q349 ⟨Nat.le_of_ble_eq_true rfl, Nat.le_of_ble_eq_true rfl⟩ hl.1 (Nat.le_of_ble_eq_true rfl) dX1_digest_181 ⟨(Nat.le_trans (show cells + 0 ≤ C1 from by omega) hC), (Nat.le_trans (show slots + 0 ≤ S1 from by omega) hSl)⟩ ?_
    refine lv_if_eq (tgt := 247) hx hb dX1_digest_186 (by decide) (fun c_186 => ?_) (fun c_186 => ?_)
    · replace c_186 : ¬ (¬ c1 = nL y) := bi_0.mp c_186
      have h := h.1 c_186
      have hR := hR.sub (L' := []) [] rfl rfl
      exact kx w  _ _ _ _ _ h hR hS (lv_sub hl [0] rfl) (by omega) (by omega)
    · replace c_186 : (¬ c1 = nL y) := bi_n0.mp c_186
      have h := h.2 c_186
      refine lv_aload_n hx hb dX1_digest_189 rfl (lv_at hl 1 rfl) ?_
      have hn_190 : c1 < nL y := by omega
      refine jr_next (t := 0) (a := y.2 11 c1) ⟨hx, hb, hml, hown, hts⟩ hK hR hS rfl ⟨fun _ _ _ _ _ => rfl, fun _ _ _ _ _ => rfl⟩ hW.lsL ⟨hW.arL (Nat.lt_of_le_of_lt (Nat.zero_le _) hn_190), (Nat.le_trans hW.nL8 (by decide))⟩ hn_190 (hW.elL hn_190) q359 ⟨Nat.le_of_ble_eq_true rfl, Nat.le_of_ble_eq_true rfl⟩ hl.1 (Nat.le_of_ble_eq_true rfl) dX1_digest_190 ⟨(Nat.le_trans (show cells + 0 ≤ C1 from by omega) hC), (Nat.le_trans (show slots + 0 ≤ S1 from by omega) hSl)⟩ (fun H locs hR hS => ?_)
      have hR : Rp κ w y X [(q1, itC y 44 0 (c1 + 1) (nI c1))] H := hR
      refine jr_castS (ci := 9) hx hb hown hK hts (hR.role (hW.lot hn_190)) rfl q497 dX1_digest_195 ?_
      refine lv_astore_n (lv' := [(2, .ref (y.2 11 c1)), (0, .ref (y.2 0 0)), (1, .ref (q1))]) hx hb dX1_digest_198 rfl hl (by decide) rfl (fun ls hl => ?_)
      refine lv_iconst (v := (0 : Int32)) hx hb dX1_digest_199 (by decide) ?_
      refine lv_istore_n (lv' := [(3, .int ((0 : Int32))), (2, .ref (y.2 11 c1)), (0, .ref (y.2 0 0)), (1, .ref (q1))]) hx hb dX1_digest_200 rfl hl (by decide) rfl (fun ls hl => ?_)
      refine lp_X1_digest_201 (C1 := (cells + 0)) (S1 := (slots + 0)) hx hb hr hml hown hts hlocks hK hm0 hW l0 (hW.lot hn_190) (Nat.le_trans (by omega) hC) (Nat.le_trans (by omega) hSl) (fun w_201  H locs ls cells9 slots9 h hR hS hl hc9 hs9 => ?_) 13 w (0 : Int32) _ _ _ _ _  h hR hS (lv_sub hl [2, 3, 1, 0] rfl) (by omega) (by omega)
      refine W.widen (k := (cells + 0)) (n := (slots + 0)) hc9 hs9 ?_
      refine lv_aload_n hx hb dX1_digest_223 rfl (lv_at hl 0 rfl) ?_
      refine lv_aload_n hx hb dX1_digest_224 rfl (lv_at hl 0 rfl) ?_
      refine lv_aload_n hx hb dX1_digest_225 rfl (lv_at hl 2 rfl) ?_
      refine lv_iconst (v := (1 : Int32)) hx hb dX1_digest_226 (by decide) ?_
      refine ce_qi (fw := fun u => u) (fy := fun _ => y) (cr_V (n := 2) (As := [.ref (y.2 11 c1), .int ((1 : Int32))]) (rest := [.ref (y.2 0 0)]) ⟨hx, hb, hml, hown, hts⟩ hK hR (m_X1_bring hW l0 (hW.lot hn_190) h) q757 q759 qs15 q74 q760 rfl rfl hd_X1_bring ⟨Nat.le_of_ble_eq_true rfl, Nat.le_of_ble_eq_true rfl⟩ (rv hK hR l0 (ci := 0) rfl rfl) rfl rfl hl.1 rfl (lv_room (Nat.le_of_ble_eq_true rfl)) dX1_digest_227 ⟨(Nat.le_trans (show cells + 1 ≤ C1 from by omega) hC), (Nat.le_trans (show slots + 4 ≤ S1 from by omega) hSl)⟩) hR hS (fun r_227 w_227 H locs h hR _ hS => ?_)
      refine lv_i2l hx hb dX1_digest_230 rfl ?_
      refine ce_qv (fw := fun u => u) (fy := fun _ => y) (cr_V (n := 1) (As := [.long (r_227.toInt64)]) (rest := []) ⟨hx, hb, hml, hown, hts⟩ hK hR (m_X1_add hW l0 h) q590 q592 qs7 q74 q593 rfl rfl hd_X1_add ⟨Nat.le_of_ble_eq_true rfl, Nat.le_of_ble_eq_true rfl⟩ (rv hK hR l0 (ci := 0) rfl rfl) rfl rfl hl.1 rfl (lv_room (Nat.le_of_ble_eq_true rfl)) dX1_digest_231 ⟨(Nat.le_trans (show cells + 1 + 0 ≤ C1 from by omega) hC), (Nat.le_trans (show slots + 4 + 0 ≤ S1 from by omega) hSl)⟩) hR hS (fun w_231 H locs h hR _ hS => ?_)
      refine lv_aload_n hx hb dX1_digest_234 rfl (lv_at hl 0 rfl) ?_
      refine lv_aload_n hx hb dX1_digest_235 rfl (lv_at hl 0 rfl) ?_
      refine lv_aload_n hx hb dX1_digest_236 rfl (lv_at hl 2 rfl) ?_
      refine ce_qi (fw := fun u => u) (fy := fun _ => y) (cr_V (n := 1) (As := [.ref (y.2 11 c1)]) (rest := [.ref (y.2 0 0)]) ⟨hx, hb, hml, hown, hts⟩ hK hR (m_X1_best hW l0 (hW.lot hn_190) h) q761 q763 qs16 q74 q764 rfl rfl hd_X1_best ⟨Nat.le_of_ble_eq_true rfl, Nat.le_of_ble_eq_true rfl⟩ (rv hK hR l0 (ci := 0) rfl rfl) rfl rfl hl.1 rfl (lv_room (Nat.le_of_ble_eq_true rfl)) dX1_digest_237 ⟨(Nat.le_trans (show cells + 1 + 8 ≤ C1 from by omega) hC), (Nat.le_trans (show slots + 4 + 32 ≤ S1 from by omega) hSl)⟩) hR hS (fun r_237 w_237 H locs h hR _ hS => ?_)
      refine lv_i2l hx hb dX1_digest_240 rfl ?_
      refine ce_qv (fw := fun u => u) (fy := fun _ => y) (cr_V (n := 1) (As := [.long (r_237.toInt64)]) (rest := []) ⟨hx, hb, hml, hown, hts⟩ hK hR (m_X1_add hW l0 h) q590 q592 qs7 q74 q593 rfl rfl hd_X1_add ⟨Nat.le_of_ble_eq_true rfl, Nat.le_of_ble_eq_true rfl⟩ (rv hK hR l0 (ci := 0) rfl rfl) rfl rfl hl.1 rfl (lv_room (Nat.le_of_ble_eq_true rfl)) dX1_digest_241 ⟨(Nat.le_trans (show cells + 9 + 0 ≤ C1 from by omega) hC), (Nat.le_trans (show slots + 36 + 0 ≤ S1 from by omega) hSl)⟩) hR hS (fun w_241 H locs h hR _ hS => ?_)
      refine lv_goto (tgt := 180) hx hb dX1_digest_244 (by decide) ?_
      exact ih w_241 (c1 + 1) (nI c1) _ _ _ _ _ (by omega) h hR hS (lv_sub hl [0, 1] rfl) (by omega) (by omega)
def sp_X1_digest (κ : Kx) (y : Ly) (post : Int64 → Wd → Prop) (w : Wd)  : Prop := ∀ w_4 : Wd, w_4 = sd w ((58260 : Int64)) → sp_X1_digest_9 κ y post (fun w_9  => ∀ x_37 : Int32, x_37 = nI 3 → sp_X1_digest_40 κ y post (fun w_40  => sp_X1_digest_110 κ y post (fun w_110  => sp_X1_digest_145 κ y post (fun w_145  => sp_X1_digest_180 κ y post (fun w_180  => sp_X1_isWhole κ y (fun r_249 w_249 => sp_X1_one κ y (fun r_252 w_252 => sp_X1_add κ y (fun w_256 => post (w_256.2) w_256) w_252 r_252.toInt64) w_249 r_249) w_180 )  9 w_145 0 (-1))  5 w_110 0 (-1))  9 w_40 0 (-1)) x_37 4 w_9 (0 : Int32))  18 w_4 (0 : Int32)
theorem hd_X1_digest : yX1_digest.cls = RX1 ∧ yX1_digest.cls ≠ "java/lang/invoke/MethodHandle" ∧ yX1_digest.cls ≠ "java/lang/invoke/VarHandle" ∧ (parseMethodDescriptor yX1_digest.desc).map (fun d => d.parameters.length) = some 0 := by decide +kernel
set_option maxHeartbeats 4000000 in
theorem m_X1_digest {l : Launch} {κ : Kx} {y : Ly} {X : XR} {post : Int64 → Wd → Prop} {w : Wd}   (hW : WFc κ y) (l0 : live y 0 0) (h : sp_X1_digest κ y post w ) : Met l yX1_digest (ws_ yX1_digest cX1_digest 6 (Option.some Jvm.ClassFile.FieldType.long)) rm_X1_digest (va_Pc [.ref (y.2 0 0)] (RCm κ w y X)) (va_Ql post (fun w t => Rp κ w y X [] t.heap) (Af κ)) 239 946 (Af κ) := by
  unfold sp_X1_digest at h
  refine Met.ofW (cc := cX1_digest) (maxL := 6) (ret := (Option.some Jvm.ClassFile.FieldType.long)) (by decide) rfl ?_
  intro p e s m args below meth c s₁ B hml hv
  obtain ⟨rfl, ⟨hR, hK⟩, hm0⟩ := hv
  have hx := B.exec
  have hb := B.bytes
  have hr := B.returns
  have hts := atoms_spec (ws := ws_ yX1_digest cX1_digest 6 (Option.some Jvm.ClassFile.FieldType.long)) B.pre
  have hts : ∀ w ∈ lw_all, w.before _ s = true := fun w h => hts w (List.mem_cons_of_mem _ h)
  have hown : s.vm.findClass RX1 = some m.cls := findClass_of_methodNamed B.named
  have hlocks := B.notSynchronized
  have hS : va_S (Af κ) s.heap s.heap [] := va_S.rf
  have hl := lv_entry ([.ref (y.2 0 0)]) (n := 6) (Nat.le_of_ble_eq_true rfl)
  rw [lg_entry_eq]
  generalize (lg_sl ([.ref (y.2 0 0)]) ++ List.replicate (6 - (lg_sl ([.ref (y.2 0 0)])).length) Slot.unset).toArray = ls at hl ⊢
  have hl : lv_has ls 6 [(0, .ref (y.2 0 0))] := hl
  refine lv_aload_n hx hb dX1_digest_0 rfl (lv_at hl 0 rfl) ?_
  refine lv_ldc2 (v := (58260 : Int64)) hx hb hown (hts _ q527) dX1_digest_1 ?_
  refine p0_15 hx hb hts hown hK hR hS hW.pu0 l0 q262 dX1_digest_4 (fun H locs w_4 ew_4 hR hS => ?_)
  have h := h w_4 ew_4
  refine lv_iconst (v := (0 : Int32)) hx hb dX1_digest_7 (by decide) ?_
  refine lv_istore_n (lv' := [(1, .int ((0 : Int32))), (0, .ref (y.2 0 0))]) hx hb dX1_digest_8 rfl hl (by decide) rfl (fun ls hl => ?_)
  refine lp_X1_digest_9 (C1 := 18) (S1 := 72) hx hb hr hml hown hts hlocks hK hm0 hW l0 (Nat.le_of_ble_eq_true rfl) (Nat.le_of_ble_eq_true rfl) (fun w_9  H locs ls cells9 slots9 h hR hS hl hc9 hs9 => ?_) 18 w_4 (0 : Int32) _ _ _ _ _  h hR hS (lv_sub hl [1, 0] rfl) (by omega) (by omega)
  refine W.widen (k := 18) (n := 72) hc9 hs9 ?_
  refine jr_values (rest := []) ⟨hx, hb, hml, hown, hts⟩ hK hR hS q206 ⟨Nat.le_of_ble_eq_true rfl, Nat.le_of_ble_eq_true rfl⟩ hl.1 (Nat.le_of_ble_eq_true rfl) dX1_digest_31 ⟨(Nat.le_of_ble_eq_true rfl), (Nat.le_of_ble_eq_true rfl)⟩ (fun q_31 H locs hR hS => ?_)
  have hR : Rp κ w_9 y X [(q_31, dvC κ)] H := hR
  refine lv_astore_n (lv' := [(1, .ref (q_31)), (0, .ref (y.2 0 0))]) hx hb dX1_digest_34 rfl hl (by decide) rfl (fun ls hl => ?_)
  refine lv_aload_n hx hb dX1_digest_35 rfl (lv_at hl 0 rfl) ?_
  refine xa_alen hx hb hK.1 (hR.L 0 _ rfl) 7 rfl dX1_digest_36 ?_
  refine lv_topi (fun x_37 ex_37 => ?_)
  have h := h x_37 ex_37
  refine lv_istore_n (lv' := [(2, .int (x_37)), (1, .ref (q_31)), (0, .ref (y.2 0 0))]) hx hb dX1_digest_37 rfl hl (by decide) rfl (fun ls hl => ?_)
  refine lv_iconst (v := (0 : Int32)) hx hb dX1_digest_38 (by decide) ?_
  refine lv_istore_n (lv' := [(3, .int ((0 : Int32))), (2, .int (x_37)), (1, .ref (q_31)), (0, .ref (y.2 0 0))]) hx hb dX1_digest_39 rfl hl (by decide) rfl (fun ls hl => ?_)
  refine lp_X1_digest_40 (C1 := 59) (S1 := 235) hx hb hr hml hown hts hlocks hK hm0 hW l0 (Nat.le_of_ble_eq_true rfl) (Nat.le_of_ble_eq_true rfl) (fun w_40  H locs ls cells9 slots9 h hR hS hl hc9 hs9 => ?_) 4 w_9 (0 : Int32) _ _ _ _ _  h hR hS (lv_sub hl [3, 2, 1, 0] rfl) (by omega) (by omega)
  refine W.widen (k := 59) (n := 235) hc9 hs9 ?_
  refine lv_aload_n hx hb dX1_digest_102 rfl (lv_at hl 0 rfl) ?_
  refine g0_0 hx hb hts hown hK hR l0 q247 dX1_digest_103 ?_
  refine jr_iter ⟨hx, hb, hml, hown, hts⟩ hK hR hS ⟨fun _ _ _ _ _ => rfl, fun _ _ _ _ _ => rfl⟩ hW.lsV q325 ⟨Nat.le_of_ble_eq_true rfl, Nat.le_of_ble_eq_true rfl⟩ hl.1 (Nat.le_of_ble_eq_true rfl) dX1_digest_106 ⟨(Nat.le_of_ble_eq_true rfl), (Nat.le_of_ble_eq_true rfl)⟩ (fun q_106 H locs hR hS => ?_)
  have hR : Rp κ w_40 y X [(q_106, itC y 40 0 0 (-1))] H := hR
  refine lv_astore_n (lv' := [(1, .ref (q_106)), (0, .ref (y.2 0 0))]) hx hb dX1_digest_109 rfl hl (by decide) rfl (fun ls hl => ?_)
  refine lp_X1_digest_110 (C1 := 69) (S1 := 266) hx hb hr hml hown hts hlocks hK hm0 hW l0 (Nat.le_of_ble_eq_true rfl) (Nat.le_of_ble_eq_true rfl) (fun w_110  H locs ls cells9 slots9 h hR hS hl hc9 hs9 => ?_) 9 w_40 0 (-1) _ _ _ _ _ (by omega) h hR hS (lv_sub hl [1, 0] rfl) (by omega) (by omega)
  refine W.widen (k := 69) (n := 266) hc9 hs9 ?_
  refine lv_aload_n hx hb dX1_digest_137 rfl (lv_at hl 0 rfl) ?_
  refine g0_1 hx hb hts hown hK hR l0 q248 dX1_digest_138 ?_
  refine jr_iter ⟨hx, hb, hml, hown, hts⟩ hK hR hS ⟨fun _ _ _ _ _ => rfl, fun _ _ _ _ _ => rfl⟩ hW.lsC q325 ⟨Nat.le_of_ble_eq_true rfl, Nat.le_of_ble_eq_true rfl⟩ hl.1 (Nat.le_of_ble_eq_true rfl) dX1_digest_141 ⟨(Nat.le_of_ble_eq_true rfl), (Nat.le_of_ble_eq_true rfl)⟩ (fun q_141 H locs hR hS => ?_)
  have hR : Rp κ w_110 y X [(q_141, itC y 42 0 0 (-1))] H := hR
  refine lv_astore_n (lv' := [(1, .ref (q_141)), (0, .ref (y.2 0 0))]) hx hb dX1_digest_144 rfl hl (by decide) rfl (fun ls hl => ?_)
  refine lp_X1_digest_145 (C1 := 145) (S1 := 570) hx hb hr hml hown hts hlocks hK hm0 hW l0 (Nat.le_of_ble_eq_true rfl) (Nat.le_of_ble_eq_true rfl) (fun w_145  H locs ls cells9 slots9 h hR hS hl hc9 hs9 => ?_) 5 w_110 0 (-1) _ _ _ _ _ (by omega) h hR hS (lv_sub hl [1, 0] rfl) (by omega) (by omega)
  refine W.widen (k := 145) (n := 570) hc9 hs9 ?_
  refine lv_aload_n hx hb dX1_digest_172 rfl (lv_at hl 0 rfl) ?_
  refine g0_2 hx hb hts hown hK hR l0 q249 dX1_digest_173 ?_
  refine jr_iter ⟨hx, hb, hml, hown, hts⟩ hK hR hS ⟨fun _ _ _ _ _ => rfl, fun _ _ _ _ _ => rfl⟩ hW.lsL q325 ⟨Nat.le_of_ble_eq_true rfl, Nat.le_of_ble_eq_true rfl⟩ hl.1 (Nat.le_of_ble_eq_true rfl) dX1_digest_176 ⟨(Nat.le_of_ble_eq_true rfl), (Nat.le_of_ble_eq_true rfl)⟩ (fun q_176 H locs hR hS => ?_)
  have hR : Rp κ w_145 y X [(q_176, itC y 44 0 0 (-1))] H := hR
  refine lv_astore_n (lv' := [(1, .ref (q_176)), (0, .ref (y.2 0 0))]) hx hb dX1_digest_179 rfl hl (by decide) rfl (fun ls hl => ?_)
  refine lp_X1_digest_180 (C1 := 227) (S1 := 898) hx hb hr hml hown hts hlocks hK hm0 hW l0 (Nat.le_of_ble_eq_true rfl) (Nat.le_of_ble_eq_true rfl) (fun w_180  H locs ls cells9 slots9 h hR hS hl hc9 hs9 => ?_) 9 w_145 0 (-1) _ _ _ _ _ (by omega) h hR hS (lv_sub hl [1, 0] rfl) (by omega) (by omega)
  refine W.widen (k := 227) (n := 898) hc9 hs9 ?_
  refine lv_aload_n hx hb dX1_digest_247 rfl (lv_at hl 0 rfl) ?_
  refine lv_aload_n hx hb dX1_digest_248 rfl (lv_at hl 0 rfl) ?_
  refine ce_qi (fw := fun u => u) (fy := fun _ => y) (cr_V (n := 0) (As := []) (rest := [.ref (y.2 0 0)]) ⟨hx, hb, hml, hown, hts⟩ hK hR (m_X1_isWhole hW l0 h) q492 q494 qs1 q74 q495 rfl rfl hd_X1_isWhole ⟨Nat.le_of_ble_eq_true rfl, Nat.le_of_ble_eq_true rfl⟩ (rv hK hR l0 (ci := 0) rfl rfl) rfl rfl hl.1 rfl (lv_room (Nat.le_of_ble_eq_true rfl)) dX1_digest_249 ⟨(Nat.le_of_ble_eq_true rfl), (Nat.le_of_ble_eq_true rfl)⟩) hR hS (fun r_249 w_249 H locs h hR _ hS => ?_)
  refine ce_qi (fw := fun u => u) (fy := fun _ => y) (cr_S (n := 1) (As := [.int (r_249)]) (rest := [.ref (y.2 0 0)]) ⟨hx, hb, hml, hown, hts⟩ hK hR (m_X1_one hW h) q548 q549 q74 q550 rfl rfl hds_X1_one ⟨Nat.le_of_ble_eq_true rfl, Nat.le_of_ble_eq_true rfl⟩ rfl rfl hl.1 rfl (lv_room (Nat.le_of_ble_eq_true rfl)) dX1_digest_252 ⟨(Nat.le_of_ble_eq_true rfl), (Nat.le_of_ble_eq_true rfl)⟩) hR hS (fun r_252 w_252 H locs h hR _ hS => ?_)
  refine lv_i2l hx hb dX1_digest_255 rfl ?_
  refine ce_qv (fw := fun u => u) (fy := fun _ => y) (cr_V (n := 1) (As := [.long (r_252.toInt64)]) (rest := []) ⟨hx, hb, hml, hown, hts⟩ hK hR (m_X1_add hW l0 h) q590 q592 qs7 q74 q593 rfl rfl hd_X1_add ⟨Nat.le_of_ble_eq_true rfl, Nat.le_of_ble_eq_true rfl⟩ (rv hK hR l0 (ci := 0) rfl rfl) rfl rfl hl.1 rfl (lv_room (Nat.le_of_ble_eq_true rfl)) dX1_digest_256 ⟨(Nat.le_of_ble_eq_true rfl), (Nat.le_of_ble_eq_true rfl)⟩) hR hS (fun w_256 H locs h hR _ hS => ?_)
  refine lv_aload_n hx hb dX1_digest_259 rfl (lv_at hl 0 rfl) ?_
  refine g0_15 hx hb hts hown hK hR l0 q262 dX1_digest_260 ?_
  refine W.widen (k := 239) (n := 946) (Nat.le_of_ble_eq_true rfl) (Nat.le_of_ble_eq_true rfl) ?_
  exact W.lret (v := w_256.2) hx hb hr (fun t ht hW9 => ⟨⟨w_256.2, w_256, rfl, h, rpt ht hR⟩, hS.F ht⟩) hS.2.2 dX1_digest_263
