/-! THE LAW's WRAPPER of tell (printed by wip gen/x0tell.py) -/
set_option maxRecDepth 100000
abbrev rm_X0_tell : Room := { frames := 9, cells := 13, slots := 1290, locals := 311 }
def sp_X0_tell (κ : Kx) (y : Ly) (post : Int32 → Option Tx → Wd → Prop) (w : Wd) (p1 : Int32) : Prop := sp_X1_tell κ y (fun T w => post (0 : Int32) T w) (fun E w => (E = "java/lang/IndexOutOfBoundsException" ∧ post (1 : Int32) none w)) w p1
set_option maxHeartbeats 4000000 in
theorem m_X0_tell {l : Launch} {κ : Kx} {y : Ly} {X : XR} {post : Int32 → Option Tx → Wd → Prop} {w : Wd} {oa : Nat} {nn : Int64} {dd : UInt64} {ss : Value} {p1 : Int32} (hfl : l.stackTraces = false) (hW : WFc κ y) (l0 : live y 0 0) (hX : X oa (.inr (15, [.long nn, .double dd, ss]))) (h : sp_X0_tell κ y post w p1) : vx_Met l yX0_tell (wsW_ yX0_tell cX0_tell 4 (Option.some Jvm.ClassFile.FieldType.int) [(0, 9, 12, 27)]) rm_X0_tell (va_Pc [.ref (y.2 0 0), .int (p1), .ref oa] (RCt κ w y X)) (va_Qi (fun r (u : Option Tx × Wd × Nat × (Nat → Int32)) => post r u.1 u.2.1) (fun (u : Option Tx × Wd × Nat × (Nat → Int32)) t => (u.1 = none ∧ ∃ s9, Rp κ u.2.1 y (upX X oa (.inr (15, [.long nn, .double dd, s9]))) [] t.heap) ∨ ∃ (T : Tx) (ra : Nat), u.1 = some T ∧ Rp κ u.2.1 y (upX X oa (.inr (15, [.long nn, .double dd, .ref ra]))) [(ra, stC u.2.2.1 0 0), (u.2.2.1, byC κ T.1 u.2.2.2)] t.heap ∧ sb_Lat T.2 T.1 u.2.2.2 ∧ sb_Fit u.2.2.2 ∧ T.1 ≤ 70) (Af κ)) (XF κ) 13 1290 (Af κ) := by
  unfold sp_X0_tell at h
  refine vx_ofWH (cc := cX0_tell) (maxL := 4) (ret := (Option.some Jvm.ClassFile.FieldType.int)) (hh := [(0, 9, 12, 27)]) (by decide) rfl ?_
  intro p e s m args below meth c s₁ B hml hv
  obtain ⟨rfl, ⟨hR, hK⟩, hPx⟩ := hv
  have hx := B.exec
  have hb := B.bytes
  have hr := B.returns
  have hts := atoms_spec (ws := wsW_ yX0_tell cX0_tell 4 (Option.some Jvm.ClassFile.FieldType.int) [(0, 9, 12, 27)]) B.pre
  have htab : c.exceptionTable.toList = tableOf [(0, 9, 12, 27)] := vx_table (x := yX0_tell) B (hts _ List.mem_cons_self)
  have hts : ∀ w ∈ lw_all, w.before _ s = true := fun w h => hts w (List.mem_cons_of_mem _ h)
  have hown : s.vm.findClass RX0 = some m.cls := findClass_of_methodNamed B.named
  have hS : va_S (Af κ) s.heap s.heap [] := va_S.rf
  have hl := lv_entry ([.ref (y.2 0 0), .int (p1), .ref oa]) (n := 4) (Nat.le_of_ble_eq_true rfl)
  rw [lg_entry_eq]
  generalize (lg_sl ([.ref (y.2 0 0), .int (p1), .ref oa]) ++ List.replicate (4 - (lg_sl ([.ref (y.2 0 0), .int (p1), .ref oa])).length) Slot.unset).toArray = ls at hl ⊢
  have hl : lv_has ls 4 [(0, .ref (y.2 0 0)), (1, .int (p1)), (2, .ref oa)] := hl
  refine lv_aload_n hx hb dX0_tell_0 rfl (lv_at hl 2 rfl) ?_
  refine lv_aload_n hx hb dX0_tell_1 rfl (lv_at hl 0 rfl) ?_
  refine lv_iload_n hx hb dX0_tell_2 rfl (lv_at hl 1 rfl) ?_
  refine vx_callr (vx_runV (As := [.int (p1)]) (rest := [.ref oa]) ⟨hx, hb, hml, hown, hts⟩ (m_X1_tell (X := xl X []) hfl hW l0 h) (cwV 1 hts (lw_V q1654 q1655 q1656 q74 q1657) rfl rfl rfl hd_X1_tell ⟨(Nat.le_of_ble_eq_true rfl), (Nat.le_of_ble_eq_true rfl)⟩) ⟨RCt.blind, rv hK hR l0 (ci := 0) rfl rfl, RCt.pre hR hK hPx⟩ rfl rfl hl.1 rfl (lv_room (Nat.le_of_ble_eq_true rfl)) dX0_tell_3 ⟨(Nat.le_of_ble_eq_true rfl), (Nat.le_of_ble_eq_true rfl)⟩) hS (fun _ _ h => h) (fun _ h => h) (fun _ _ h => h) (fun E9 ce q9 u t H1 locs e1 _ _ hu _ _ hS hcell hv9 hcl => ?_) (fun u ra t H1 locs ht _ hp hB hz _ hS => ?_)
  · have hR : Rp κ u y X [] H1 := by rw [← e1]; exact hu.2.wk xl_l
    obtain ⟨rfl, h⟩ := hu.1
    have hR := hR.toUp hX
    refine vx_catch (name := "java/lang/IndexOutOfBoundsException") hown [] ⟨0, 9, 12, 27⟩ [] htab (fun z9 hz9 => nomatch hz9) rfl (by decide) (hts _ q1006) (va_Nw.use rfl (hK.2.1.2.2.1 _ (List.mem_of_getElem? (i := 0) rfl))) hcell hv9 hcl ?_
    refine lv_astore_n (lv' := [(3, .ref q9), (0, .ref (y.2 0 0)), (1, .int (p1)), (2, .ref oa)]) hx hb dX0_tell_12 rfl hl (by decide) rfl (fun ls hl => ?_)
    refine lv_iconst (v := (1 : Int32)) hx hb dX0_tell_13 (by decide) ?_
    exact vx_ret (W.iret (v := (1 : Int32)) hx hb hr (fun t ht hW9 => ⟨⟨(1 : Int32), (none, u, 0, fun _ => 0), rfl, h, Or.inl ⟨rfl, ss, rpt ht hR⟩⟩, hS.F ht⟩) hS.2.2 dX0_tell_14)
  · rw [ht] at hB
    obtain ⟨T9, w9, b9, f9⟩ := u
    dsimp only at hp hB
    have hcase : ∃ L9, Rp κ w9 y X L9 H1 ∧ ((T9 = none ∧ L9 = []) ∨ ∃ T : Tx, T9 = some T ∧ L9 = [(ra, stC b9 0 0), (b9, byC κ T.1 f9)] ∧ sb_Lat T.2 T.1 f9 ∧ sb_Fit f9 ∧ T.1 ≤ 70) := by
      rcases hB with ⟨e1, hB⟩ | ⟨T, e1, hB, h2, h3, h4⟩
      · exact ⟨[], hB.wk xl_l, Or.inl ⟨e1, rfl⟩⟩
      · exact ⟨_, hB.wk xl_l, Or.inr ⟨T, e1, rfl, h2, h3, h4⟩⟩
    obtain ⟨L9, hR, hc9⟩ := hcase
    clear hB ht hz
    refine xa_putN (T := TX9) (N := 3) (ref := "PublicanryLaw$Out") (host := "PublicanryLaw") hx hb hts in_X9 tyX9 tyX9_ok nmX9 hown hK.1 hS (hR.2.2.2.1 _ _ hX).2.1 (hR.2.2.2.1 _ _ hX).1 rfl 2 (by decide) (va_Nw.use rfl (hK.2.1.2.1 _ (List.mem_of_getElem? (i := 3) rfl))) rfl rfl rfl rfl (Nat.le_of_ble_eq_true rfl) dX0_tell_6 (fun H1 locs h1 hz ho hS => ?_)
    have hR := hR.putXL hX h1 hz ho
    refine lv_goto (tgt := 15) hx hb dX0_tell_9 (by decide) ?_
    refine lv_iconst (v := (0 : Int32)) hx hb dX0_tell_15 (by decide) ?_
    exact vx_ret (W.iret (v := (0 : Int32)) hx hb hr (fun t ht hW9 => ⟨⟨(0 : Int32), (T9, w9, b9, f9), rfl, hp, by
      rcases hc9 with ⟨e1, rfl⟩ | ⟨T, e1, rfl, h2, h3, h4⟩
      · exact Or.inl ⟨e1, .ref ra, rpt ht hR⟩
      · exact Or.inr ⟨T, ra, e1, rpt ht hR, h2, h3, h4⟩⟩, hS.F ht⟩) hS.2.2 dX0_tell_16)
