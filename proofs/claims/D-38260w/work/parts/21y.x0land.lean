/-! THE LAW's WRAPPER of land (printed by wip gen/x0.py) -/
set_option maxRecDepth 100000
abbrev rm_X0_land : Room := { frames := 8, cells := 2, slots := 10, locals := 141 }
def sp_X0_land (κ : Kx) (y : Ly) (post : Int32 → Int64 → Wd → Prop) (n0 : Int64) (w : Wd) (p1 : Int32) : Prop := sp_X1_land κ y (fun r w => post (0 : Int32) r.toInt64 w) (fun E w => (E = "java/lang/IllegalArgumentException" ∧ post (1 : Int32) n0 w)) w p1
set_option maxHeartbeats 4000000 in
theorem m_X0_land {l : Launch} {κ : Kx} {y : Ly} {X : XR} {post : Int32 → Int64 → Wd → Prop} {w : Wd} {oa : Nat} {n0 : Int64} {dd : UInt64} {ss : Value} {p1 : Int32} (hfl : l.stackTraces = false) (hW : WFc κ y) (l0 : live y 0 0) (hX : X oa (.inr (15, [.long n0, .double dd, ss]))) (h : sp_X0_land κ y post n0 w p1) : vx_Met l yX0_land (wsW_ yX0_land cX0_land 4 (Option.some Jvm.ClassFile.FieldType.int) [(0, 10, 13, 19)]) rm_X0_land (va_Pc [.ref (y.2 0 0), .int (p1), .ref oa] (RCm κ w y X)) (va_Qi (fun r (u : Wd × Int64) => post r u.2 u.1) (fun (u : Wd × Int64) t => Rp κ u.1 y (upX X oa (.inr (15, [.long u.2, .double dd, ss]))) [] t.heap) (Af κ)) (XF κ) 2 10 (Af κ) := by
  unfold sp_X0_land at h
  refine vx_ofWH (cc := cX0_land) (maxL := 4) (ret := (Option.some Jvm.ClassFile.FieldType.int)) (hh := [(0, 10, 13, 19)]) (by decide) rfl ?_
  intro p e s m args below meth c s₁ B hml hv
  obtain ⟨rfl, ⟨hR, hK⟩, hm0⟩ := hv
  have hx := B.exec
  have hb := B.bytes
  have hr := B.returns
  have hts := atoms_spec (ws := wsW_ yX0_land cX0_land 4 (Option.some Jvm.ClassFile.FieldType.int) [(0, 10, 13, 19)]) B.pre
  have htab : c.exceptionTable.toList = tableOf [(0, 10, 13, 19)] := vx_table (x := yX0_land) B (hts _ List.mem_cons_self)
  have hts : ∀ w ∈ lw_all, w.before _ s = true := fun w h => hts w (List.mem_cons_of_mem _ h)
  have hown : s.vm.findClass RX0 = some m.cls := findClass_of_methodNamed B.named
  have hS : va_S (Af κ) s.heap s.heap [] := va_S.rf
  have hl := lv_entry ([.ref (y.2 0 0), .int (p1), .ref oa]) (n := 4) (Nat.le_of_ble_eq_true rfl)
  rw [lg_entry_eq]
  generalize (lg_sl ([.ref (y.2 0 0), .int (p1), .ref oa]) ++ List.replicate (4 - (lg_sl ([.ref (y.2 0 0), .int (p1), .ref oa])).length) Slot.unset).toArray = ls at hl ⊢
  have hl : lv_has ls 4 [(0, .ref (y.2 0 0)), (1, .int (p1)), (2, .ref oa)] := hl
  refine lv_aload_n hx hb dX0_land_0 rfl (lv_at hl 2 rfl) ?_
  refine lv_aload_n hx hb dX0_land_1 rfl (lv_at hl 0 rfl) ?_
  refine lv_iload_n hx hb dX0_land_2 rfl (lv_at hl 1 rfl) ?_
  refine W.mon hm0 (fun hm => ?_)
  refine cew_qi (fw := fun u => u) (fy := fun _ => y) (X := X) (L := []) (BB := fun _ => True) (fun _ _ h => ⟨h, trivial⟩) (crxm_V (n := 1) (As := [.int (p1)]) (rest := [.ref oa]) ⟨hx, hb, hml, hown, hts⟩ hK hR hm (m_X1_land hfl hW l0 h) q1647 q1648 q1649 q74 q1650 rfl rfl hd_X1_land ⟨Nat.le_of_ble_eq_true rfl, Nat.le_of_ble_eq_true rfl⟩ (rv hK hR l0 (ci := 0) rfl rfl) rfl rfl hl.1 rfl (lv_room (Nat.le_of_ble_eq_true rfl)) dX0_land_3 ⟨(Nat.le_of_ble_eq_true rfl), (Nat.le_of_ble_eq_true rfl)⟩) hR hS (fun E ce9 q9 u H locs hp hR hS hcell hv9 hcl => ?_) (fun r u H locs h hB hR hS => ?_)
  · have hR := hR.xsame hX
    obtain ⟨rfl, h⟩ := hp
    refine vx_catch (name := "java/lang/IllegalArgumentException") hown [] ⟨0, 10, 13, 19⟩ [] htab (fun z9 hz9 => nomatch hz9) rfl (by decide) (hts _ q784) (va_Nw.use rfl (hK.2.1.2.2.1 _ (List.mem_of_getElem? (i := 14) rfl))) hcell hv9 hcl ?_
    refine lv_astore_n (lv' := [(3, .ref q9), (0, .ref (y.2 0 0)), (1, .int (p1)), (2, .ref oa)]) hx hb dX0_land_13 rfl hl (by decide) rfl (fun ls hl => ?_)
    refine lv_iconst (v := (1 : Int32)) hx hb dX0_land_14 (by decide) ?_
    exact vx_ret (W.iret (v := (1 : Int32)) hx hb hr (fun t ht hW9 => ⟨⟨(1 : Int32), (u, n0), rfl, h, rpt ht hR⟩, hS.F ht⟩) hS.2.2 dX0_land_15)
  · refine lv_i2l hx hb dX0_land_6 rfl ?_
    refine xa_putN (T := TX9) (N := 3) (ref := "PublicanryLaw$Out") (host := "PublicanryLaw") hx hb hts in_X9 tyX9 tyX9_ok nmX9 hown hK.1 hS (hR.2.2.2.1 _ _ hX).2.1 (hR.2.2.2.1 _ _ hX).1 rfl 0 (by decide) (va_Nw.use rfl (hK.2.1.2.1 _ (List.mem_of_getElem? (i := 1) rfl))) rfl rfl rfl rfl (Nat.le_of_ble_eq_true rfl) dX0_land_7 (fun H1 locs h1 hz ho hS => ?_)
    have hR := hR.putXL hX h1 hz ho
    refine lv_goto (tgt := 16) hx hb dX0_land_10 (by decide) ?_
    refine lv_iconst (v := (0 : Int32)) hx hb dX0_land_16 (by decide) ?_
    exact vx_ret (W.iret (v := (0 : Int32)) hx hb hr (fun t ht hW9 => ⟨⟨(0 : Int32), (u, r.toInt64), rfl, h, rpt ht hR⟩, hS.F ht⟩) hS.2.2 dX0_land_17)
