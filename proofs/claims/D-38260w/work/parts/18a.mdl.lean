/-! printed by wip gen: X11_anger, X13_allShares, X8_thrown, X8_isIn, X8_refuse, X8_has, X8_isNoVillage, X8_treasuryPays, X8_isNoDuty, X8_isNoCompany, X8_isTaken, X8_isNoLot, X8_pledged, X8_highest, X8_fallDue, X8_letOnOf, X8_year, X8_votesNow, X8_recall -/
set_option maxRecDepth 100000
abbrev rm_X11_anger : Room := { frames := 1, cells := 0, slots := 0, locals := 24 }
def sp_X11_anger (κ : Kx) (y : Ly) (post : Wd → Prop) (w : Wd) (a0 : Nat) (p1 : Int32) : Prop := ∀ w_16 : Wd, w_16 = sv w 21 a0 7 (jmax (0 : Int32) (jmin (20 : Int32) ((gv w 21 a0 7) + p1))) → post w_16
theorem hd_X11_anger : yX11_anger.cls = RX11 ∧ yX11_anger.cls ≠ "java/lang/invoke/MethodHandle" ∧ yX11_anger.cls ≠ "java/lang/invoke/VarHandle" ∧ (parseMethodDescriptor yX11_anger.desc).map (fun d => d.parameters.length) = some 1 := by decide +kernel
set_option maxHeartbeats 4000000 in
theorem m_X11_anger {l : Launch} {κ : Kx} {y : Ly} {X : XR} {post : Wd → Prop} {w : Wd} {a0 : Nat} {p1 : Int32}  (hM : WFm κ y) (l0 : live y 21 a0) (h : sp_X11_anger κ y post w a0 p1) : Met l yX11_anger (ws_ yX11_anger cX11_anger 2 (Option.none : Option Jvm.ClassFile.FieldType)) rm_X11_anger (va_Pc [.ref (y.2 21 a0), .int (p1)] (RC κ w y X)) (va_Qv post (fun w t => Rp κ w y X [] t.heap) (Af κ)) 0 0 (Af κ) := by
  unfold sp_X11_anger at h
  refine Met.ofW (cc := cX11_anger) (maxL := 2) (ret := (Option.none : Option Jvm.ClassFile.FieldType)) (by decide) rfl ?_
  intro p e s m args below meth c s₁ B hml hv
  obtain ⟨rfl, hR, hK⟩ := hv
  have hx := B.exec
  have hb := B.bytes
  have hr := B.returns
  have hts := atoms_spec (ws := ws_ yX11_anger cX11_anger 2 (Option.none : Option Jvm.ClassFile.FieldType)) B.pre
  have hts : ∀ w ∈ lw_all, w.before _ s = true := fun w h => hts w (List.mem_cons_of_mem _ h)
  have hown : s.vm.findClass RX11 = some m.cls := findClass_of_methodNamed B.named
  have hlocks := B.notSynchronized
  have hS : va_S (Af κ) s.heap s.heap [] := va_S.rf
  have hl := lv_entry ([.ref (y.2 21 a0), .int (p1)]) (n := 2) (Nat.le_of_ble_eq_true rfl)
  rw [lg_entry_eq]
  generalize (lg_sl ([.ref (y.2 21 a0), .int (p1)]) ++ List.replicate (2 - (lg_sl ([.ref (y.2 21 a0), .int (p1)])).length) Slot.unset).toArray = ls at hl ⊢
  have hl : lv_has ls 2 [(0, .ref (y.2 21 a0)), (1, .int (p1))] := hl
  refine lv_aload_n hx hb dX11_anger_0 rfl (lv_at hl 0 rfl) ?_
  refine lv_iconst (v := (0 : Int32)) hx hb dX11_anger_1 (by decide) ?_
  refine lv_bipush (v := (20 : Int32)) hx hb dX11_anger_2 (by decide) ?_
  refine lv_aload_n hx hb dX11_anger_4 rfl (lv_at hl 0 rfl) ?_
  refine g21_7 hx hb hts hown hK hR l0 q2047 dX11_anger_5 ?_
  refine lv_iload_n hx hb dX11_anger_8 rfl (lv_at hl 1 rfl) ?_
  refine lv_iadd hx hb dX11_anger_9 ?_
  refine va_mmin hx hb (hml.trans hl.1.symm) hown (hts _ q2371) (hts _ q322) (hts _ q95) (hts _ q323) (Nat.le_of_ble_eq_true rfl) (Nat.le_of_ble_eq_true rfl) (Nat.le_of_ble_eq_true rfl) (Nat.le_of_ble_eq_true rfl) dX11_anger_10 ?_
  refine va_mmax hx hb (hml.trans hl.1.symm) hown (hts _ q2372) (hts _ q642) (hts _ q95) (hts _ q643) (Nat.le_of_ble_eq_true rfl) (Nat.le_of_ble_eq_true rfl) (Nat.le_of_ble_eq_true rfl) (Nat.le_of_ble_eq_true rfl) dX11_anger_13 ?_
  refine p21_7 hx hb hts hown hK hR hS l0 q2047 dX11_anger_16 (fun H locs w_16 ew_16 hR hS => ?_)
  have h := h w_16 ew_16
  refine W.widen (k := 0) (n := 0) (Nat.le_of_ble_eq_true rfl) (Nat.le_of_ble_eq_true rfl) ?_
  exact W.vret hx hb hr (fun t ht hW9 => ⟨⟨w_16, rfl, h, rpt ht hR⟩, hS.F ht⟩) hS.2.2 dX11_anger_19
abbrev rm_X13_allShares : Room := { frames := 3, cells := 1, slots := 4, locals := 68 }
def st_X13_allShares_10 (κ : Kx) (y : Ly) (post : Int32 → Wd → Prop) (ex : Wd → (Int32) → Prop) (rec : Wd → Int32 → Nat → Int32 → Prop) (i2 : Nat) (w : Wd) (v1 : Int32) (c2 : Nat) (z2 : Int32) : Prop := ((¬ (¬ c2 = mS y i2)) → (ex w v1)) ∧ (((¬ c2 = mS y i2)) → (∀ x_31 : Int32, x_31 = bxV w y (5 * i2 + c2) → ∀ x_35 : Int32, x_35 = v1 + x_31 → rec w x_35 (c2 + 1) (nI c2)))
def sp_X13_allShares_10 (κ : Kx) (y : Ly) (post : Int32 → Wd → Prop) (ex : Wd → (Int32) → Prop) (i2 : Nat) : Nat → Wd → Int32 → Nat → Int32 → Prop
  | 0 => fun _ _ _ _ => False
  | n + 1 => fun w v1 c2 z2 => st_X13_allShares_10 κ y post ex (sp_X13_allShares_10 κ y post ex i2 n) i2 w v1 c2 z2
set_option maxHeartbeats 4000000 in
theorem lp_X13_allShares_10 {p : Program} {l : Launch} {e : Env} {s : State} {m : MethodId} {args : Array Value} {below : List Frame} {meth : Method} {c : Code} {κ : Kx} {y : Ly} {X : XR} {post : Int32 → Wd → Prop} {q2 : Nat} {i2 : Nat} (hx : p.tables.exec = Jvm.exec) (hb : c.code = cX13_allShares) (hr : meth.sig.returnType = (Option.some Jvm.ClassFile.FieldType.int)) (hml : c.maxLocals = 4) (hown : s.vm.findClass RX13 = some m.cls) (hts : ∀ w ∈ lw_all, w.before args s = true) (hlocks : meth.locks = false) (hK : KK κ s) (hM : WFm κ y) (l2 : live y 26 i2) {C1 S1 : Nat} (hC : C1 ≤ 1) (hSl : S1 ≤ 4) {ex : Wd → (Int32) → Prop}
    (kx : ∀ (w : Wd) (v1 : Int32) (H : Heap) (locs : List Loc) (ls : Array Slot) (cells slots : Nat) , ex w v1 → Rp κ w y X [] H → va_S (Af κ) s.heap H locs → lv_has ls 4 [(1, .int (v1))] → cells ≤ C1 → slots ≤ S1 → W p l e (headSpec (ws_ yX13_allShares cX13_allShares 4 (Option.some Jvm.ClassFile.FieldType.int)) rm_X13_allShares).room s m args below meth c H locs cells slots (MQ below (va_Qi post (fun w t => Rp κ w y X [] t.heap) (Af κ)) args s 1 4 (Af κ)) (F0 m 39 ls [])) :
    ∀ (f : Nat) (w : Wd) (v1 : Int32) (c2 : Nat) (z2 : Int32) (H : Heap) (locs : List Loc) (ls : Array Slot) (cells slots : Nat)  (hc2 : c2 ≤ mS y i2), sp_X13_allShares_10 κ y post ex i2 f w v1 c2 z2 → Rp κ w y X [(q2, itC y 56 i2 c2 z2)] H → va_S (Af κ) s.heap H locs → lv_has ls 4 [(1, .int (v1)), (2, .ref (q2))] → cells + f * 0 ≤ C1 → slots + f * 0 ≤ S1 → W p l e (headSpec (ws_ yX13_allShares cX13_allShares 4 (Option.some Jvm.ClassFile.FieldType.int)) rm_X13_allShares).room s m args below meth c H locs cells slots (MQ below (va_Qi post (fun w t => Rp κ w y X [] t.heap) (Af κ)) args s 1 4 (Af κ)) (F0 m 10 ls []) := by
  intro f
  induction f with
  | zero =>
    intro w v1 c2 z2 H locs ls cells slots hc2 h
    exact False.elim h
  | succ f ih =>
    intro w v1 c2 z2 H locs ls cells slots hc2 h hR hS hl hc hs
    have h : st_X13_allShares_10 κ y post ex (sp_X13_allShares_10 κ y post ex i2 f) i2 w v1 c2 z2 := h
    unfold st_X13_allShares_10 at h
    refine lv_aload_n hx hb dX13_allShares_10 rfl (lv_at hl 1 rfl) ?_
    refine jr_hasNext (t := 0) ⟨hx, hb, hml, hown, hts⟩ hK hR rfl ⟨fun _ _ _ _ _ => rfl, fun _ _ _ _ _ => rfl⟩ (hM.csh l2) (by omega) (Nat.le_trans (hM.mS5 l2) (by decide)) q2224 ⟨Nat.le_of_ble_eq_true rfl, Nat.le_of_ble_eq_true rfl⟩ hl.1 (Nat.le_of_ble_eq_true rfl) dX13_allShares_11 ⟨(Nat.le_trans (show cells + 0 ≤ C1 from by omega) hC), (Nat.le_trans (show slots + 0 ≤ S1 from by omega) hSl)⟩ ?_
    refine lv_if_eq (tgt := 39) hx hb dX13_allShares_16 (by decide) (fun c_16 => ?_) (fun c_16 => ?_)
    · replace c_16 : ¬ (¬ c2 = mS y i2) := bi_0.mp c_16
      have h := h.1 c_16
      have hR := hR.sub (L' := []) [] rfl rfl
      exact kx w v1 _ _ _ _ _ h hR hS (lv_sub hl [0] rfl) (by omega) (by omega)
    · replace c_16 : (¬ c2 = mS y i2) := bi_n0.mp c_16
      have h := h.2 c_16
      refine lv_aload_n hx hb dX13_allShares_19 rfl (lv_at hl 1 rfl) ?_
      have hn_20 : c2 < mS y i2 := by omega
      refine jr_next (t := 0) (a := y.2 356 (16 * i2 + c2)) ⟨hx, hb, hml, hown, hts⟩ hK hR hS rfl ⟨fun _ _ _ _ _ => rfl, fun _ _ _ _ _ => rfl⟩ (hM.csh l2) ⟨hM.arS (Nat.lt_of_le_of_lt (Nat.zero_le _) hn_20), (Nat.le_trans (hM.mS5 l2) (by decide))⟩ hn_20 rfl q2226 ⟨Nat.le_of_ble_eq_true rfl, Nat.le_of_ble_eq_true rfl⟩ hl.1 (Nat.le_of_ble_eq_true rfl) dX13_allShares_20 ⟨(Nat.le_trans (show cells + 0 ≤ C1 from by omega) hC), (Nat.le_trans (show slots + 0 ≤ S1 from by omega) hSl)⟩ (fun H locs hR hS => ?_)
      have hR : Rp κ w y X [(q2, itC y 56 i2 (c2 + 1) (nI c2))] H := hR
      refine jr_castS (ci := 19) hx hb hown hK hts (bx_at hK hR (hM.bxS l2 hn_20)) rfl q2227 dX13_allShares_25 ?_
      refine jr_intv ⟨hx, hb, hml, hown, hts⟩ hK (bx_at hK hR (hM.bxS l2 hn_20)) q2228 ⟨Nat.le_of_ble_eq_true rfl, Nat.le_of_ble_eq_true rfl⟩ hl.1 (Nat.le_of_ble_eq_true rfl) dX13_allShares_28 ⟨(Nat.le_trans (show cells + 0 ≤ C1 from by omega) hC), (Nat.le_trans (show slots + 0 ≤ S1 from by omega) hSl)⟩ ?_
      refine lv_topi (fun x_31 ex_31 => ?_)
      have h := h x_31 ex_31
      refine lv_istore_n (lv' := [(3, .int (x_31)), (1, .int (v1)), (2, .ref (q2))]) hx hb dX13_allShares_31 rfl hl (by decide) rfl (fun ls hl => ?_)
      refine lv_iload_n hx hb dX13_allShares_32 rfl (lv_at hl 1 rfl) ?_
      refine lv_iload_n hx hb dX13_allShares_33 rfl (lv_at hl 0 rfl) ?_
      refine lv_iadd hx hb dX13_allShares_34 ?_
      refine lv_topi (fun x_35 ex_35 => ?_)
      have h := h x_35 ex_35
      refine lv_istore_n (lv' := [(1, .int (x_35)), (3, .int (x_31)), (2, .ref (q2))]) hx hb dX13_allShares_35 rfl hl (by decide) rfl (fun ls hl => ?_)
      refine lv_goto (tgt := 10) hx hb dX13_allShares_36 (by decide) ?_
      exact ih w x_35 (c2 + 1) (nI c2) _ _ _ _ _ (by omega) h hR hS (lv_sub hl [0, 2] rfl) (by omega) (by omega)
def sp_X13_allShares (κ : Kx) (y : Ly) (post : Int32 → Wd → Prop) (w : Wd) (a0 : Nat) : Prop := sp_X13_allShares_10 κ y post (fun w_10 y1_10 => post (y1_10) w_10) a0 6 w (0 : Int32) 0 (-1)
theorem hd_X13_allShares : yX13_allShares.cls = RX13 ∧ yX13_allShares.cls ≠ "java/lang/invoke/MethodHandle" ∧ yX13_allShares.cls ≠ "java/lang/invoke/VarHandle" ∧ (parseMethodDescriptor yX13_allShares.desc).map (fun d => d.parameters.length) = some 0 := by decide +kernel
set_option maxHeartbeats 4000000 in
theorem m_X13_allShares {l : Launch} {κ : Kx} {y : Ly} {X : XR} {post : Int32 → Wd → Prop} {w : Wd} {a0 : Nat}  (hM : WFm κ y) (l0 : live y 26 a0) (h : sp_X13_allShares κ y post w a0) : Met l yX13_allShares (ws_ yX13_allShares cX13_allShares 4 (Option.some Jvm.ClassFile.FieldType.int)) rm_X13_allShares (va_Pc [.ref (y.2 26 a0)] (RC κ w y X)) (va_Qi post (fun w t => Rp κ w y X [] t.heap) (Af κ)) 1 4 (Af κ) := by
  unfold sp_X13_allShares at h
  refine Met.ofW (cc := cX13_allShares) (maxL := 4) (ret := (Option.some Jvm.ClassFile.FieldType.int)) (by decide) rfl ?_
  intro p e s m args below meth c s₁ B hml hv
  obtain ⟨rfl, hR, hK⟩ := hv
  have hx := B.exec
  have hb := B.bytes
  have hr := B.returns
  have hts := atoms_spec (ws := ws_ yX13_allShares cX13_allShares 4 (Option.some Jvm.ClassFile.FieldType.int)) B.pre
  have hts : ∀ w ∈ lw_all, w.before _ s = true := fun w h => hts w (List.mem_cons_of_mem _ h)
  have hown : s.vm.findClass RX13 = some m.cls := findClass_of_methodNamed B.named
  have hlocks := B.notSynchronized
  have hS : va_S (Af κ) s.heap s.heap [] := va_S.rf
  have hl := lv_entry ([.ref (y.2 26 a0)]) (n := 4) (Nat.le_of_ble_eq_true rfl)
  rw [lg_entry_eq]
  generalize (lg_sl ([.ref (y.2 26 a0)]) ++ List.replicate (4 - (lg_sl ([.ref (y.2 26 a0)])).length) Slot.unset).toArray = ls at hl ⊢
  have hl : lv_has ls 4 [(0, .ref (y.2 26 a0))] := hl
  refine lv_iconst (v := (0 : Int32)) hx hb dX13_allShares_0 (by decide) ?_
  refine lv_istore_n (lv' := [(1, .int ((0 : Int32))), (0, .ref (y.2 26 a0))]) hx hb dX13_allShares_1 rfl hl (by decide) rfl (fun ls hl => ?_)
  refine lv_aload_n hx hb dX13_allShares_2 rfl (lv_at hl 1 rfl) ?_
  refine g26_9 hx hb hts hown hK hR l0 q2158 dX13_allShares_3 ?_
  refine jr_iter ⟨hx, hb, hml, hown, hts⟩ hK hR hS ⟨fun _ _ _ _ _ => rfl, fun _ _ _ _ _ => rfl⟩ (hM.csh l0) q2222 ⟨Nat.le_of_ble_eq_true rfl, Nat.le_of_ble_eq_true rfl⟩ hl.1 (Nat.le_of_ble_eq_true rfl) dX13_allShares_6 ⟨(Nat.le_of_ble_eq_true rfl), (Nat.le_of_ble_eq_true rfl)⟩ (fun q_6 H locs hR hS => ?_)
  have hR : Rp κ w y X [(q_6, itC y 56 a0 0 (-1))] H := hR
  refine lv_astore_n (lv' := [(2, .ref (q_6)), (1, .int ((0 : Int32))), (0, .ref (y.2 26 a0))]) hx hb dX13_allShares_9 rfl hl (by decide) rfl (fun ls hl => ?_)
  refine lp_X13_allShares_10 (C1 := 1) (S1 := 4) hx hb hr hml hown hts hlocks hK hM l0 (Nat.le_of_ble_eq_true rfl) (Nat.le_of_ble_eq_true rfl) (fun w_10 y1_10 H locs ls cells9 slots9 h hR hS hl hc9 hs9 => ?_) 6 w (0 : Int32) 0 (-1) _ _ _ _ _ (by omega) h hR hS (lv_sub hl [1, 0] rfl) (by omega) (by omega)
  refine W.widen (k := 1) (n := 4) hc9 hs9 ?_
  refine lv_iload_n hx hb dX13_allShares_39 rfl (lv_at hl 0 rfl) ?_
  refine W.widen (k := 1) (n := 4) (Nat.le_of_ble_eq_true rfl) (Nat.le_of_ble_eq_true rfl) ?_
  exact W.iret (v := y1_10) hx hb hr (fun t ht hW9 => ⟨⟨y1_10, w_10, rfl, h, rpt ht hR⟩, hS.F ht⟩) hS.2.2 dX13_allShares_40
abbrev rm_X8_thrown : Room := { frames := 0, cells := 0, slots := 0, locals := 0 }
def sp_X8_thrown (κ : Kx) (y : Ly) (post : Int32 → Wd → Prop) (w : Wd)  : Prop := post (gv w 20 0 0) w
theorem hd_X8_thrown : yX8_thrown.cls = RX8 ∧ yX8_thrown.cls ≠ "java/lang/invoke/MethodHandle" ∧ yX8_thrown.cls ≠ "java/lang/invoke/VarHandle" ∧ (parseMethodDescriptor yX8_thrown.desc).map (fun d => d.parameters.length) = some 0 := by decide +kernel
set_option maxHeartbeats 4000000 in
theorem m_X8_thrown {l : Launch} {κ : Kx} {y : Ly} {X : XR} {post : Int32 → Wd → Prop} {w : Wd}   (hM : WFm κ y) (l0 : live y 20 0) (h : sp_X8_thrown κ y post w ) : Met l yX8_thrown (ws_ yX8_thrown cX8_thrown 1 (Option.some Jvm.ClassFile.FieldType.int)) rm_X8_thrown (va_Pc [.ref (y.2 20 0)] (RC κ w y X)) (va_Qi post (fun w t => Rp κ w y X [] t.heap) (Af κ)) 0 0 (Af κ) := by
  unfold sp_X8_thrown at h
  refine Met.ofW (cc := cX8_thrown) (maxL := 1) (ret := (Option.some Jvm.ClassFile.FieldType.int)) (by decide) rfl ?_
  intro p e s m args below meth c s₁ B hml hv
  obtain ⟨rfl, hR, hK⟩ := hv
  have hx := B.exec
  have hb := B.bytes
  have hr := B.returns
  have hts := atoms_spec (ws := ws_ yX8_thrown cX8_thrown 1 (Option.some Jvm.ClassFile.FieldType.int)) B.pre
  have hts : ∀ w ∈ lw_all, w.before _ s = true := fun w h => hts w (List.mem_cons_of_mem _ h)
  have hown : s.vm.findClass RX8 = some m.cls := findClass_of_methodNamed B.named
  have hlocks := B.notSynchronized
  have hS : va_S (Af κ) s.heap s.heap [] := va_S.rf
  have hl := lv_entry ([.ref (y.2 20 0)]) (n := 1) (Nat.le_of_ble_eq_true rfl)
  rw [lg_entry_eq]
  generalize (lg_sl ([.ref (y.2 20 0)]) ++ List.replicate (1 - (lg_sl ([.ref (y.2 20 0)])).length) Slot.unset).toArray = ls at hl ⊢
  have hl : lv_has ls 1 [(0, .ref (y.2 20 0))] := hl
  refine lv_aload_n hx hb dX8_thrown_0 rfl (lv_at hl 0 rfl) ?_
  refine g20_0 hx hb hts hown hK hR l0 q1945 dX8_thrown_1 ?_
  refine W.widen (k := 0) (n := 0) (Nat.le_of_ble_eq_true rfl) (Nat.le_of_ble_eq_true rfl) ?_
  exact W.iret (v := gv w 20 0 0) hx hb hr (fun t ht hW9 => ⟨⟨gv w 20 0 0, w, rfl, h, rpt ht hR⟩, hS.F ht⟩) hS.2.2 dX8_thrown_4
abbrev rm_X8_isIn : Room := { frames := 0, cells := 0, slots := 0, locals := 0 }
def sp_X8_isIn (κ : Kx) (y : Ly) (post : Int32 → Wd → Prop) (w : Wd) (p0 : Int32) (p1 : Int32) (p2 : Int32) : Prop := ((p0 < p1) → (post ((0 : Int32)) w)) ∧ ((¬ (p0 < p1)) → (((p2 < p0) → (post ((0 : Int32)) w)) ∧ ((¬ (p2 < p0)) → (post ((1 : Int32)) w))))
theorem hds_X8_isIn : yX8_isIn.cls ≠ "java/lang/invoke/MethodHandle" ∧ yX8_isIn.cls ≠ "java/lang/invoke/VarHandle" ∧ (parseMethodDescriptor yX8_isIn.desc).map (fun d => d.parameters.length) = some 3 := by decide +kernel
set_option maxHeartbeats 4000000 in
theorem m_X8_isIn {l : Launch} {κ : Kx} {y : Ly} {X : XR} {post : Int32 → Wd → Prop} {w : Wd} {p0 : Int32} {p1 : Int32} {p2 : Int32}  (hM : WFm κ y)  (h : sp_X8_isIn κ y post w p0 p1 p2) : Met l yX8_isIn (ws_ yX8_isIn cX8_isIn 3 (Option.some Jvm.ClassFile.FieldType.boolean)) rm_X8_isIn (va_Pc [.int (p0), .int (p1), .int (p2)] (RC κ w y X)) (va_Qi post (fun w t => Rp κ w y X [] t.heap) (Af κ)) 0 0 (Af κ) := by
  unfold sp_X8_isIn at h
  refine Met.ofW (cc := cX8_isIn) (maxL := 3) (ret := (Option.some Jvm.ClassFile.FieldType.boolean)) (by decide) rfl ?_
  intro p e s m args below meth c s₁ B hml hv
  obtain ⟨rfl, hR, hK⟩ := hv
  have hx := B.exec
  have hb := B.bytes
  have hr := B.returns
  have hts := atoms_spec (ws := ws_ yX8_isIn cX8_isIn 3 (Option.some Jvm.ClassFile.FieldType.boolean)) B.pre
  have hts : ∀ w ∈ lw_all, w.before _ s = true := fun w h => hts w (List.mem_cons_of_mem _ h)
  have hown : s.vm.findClass RX8 = some m.cls := findClass_of_methodNamed B.named
  have hlocks := B.notSynchronized
  have hS : va_S (Af κ) s.heap s.heap [] := va_S.rf
  have hl := lv_entry ([.int (p0), .int (p1), .int (p2)]) (n := 3) (Nat.le_of_ble_eq_true rfl)
  rw [lg_entry_eq]
  generalize (lg_sl ([.int (p0), .int (p1), .int (p2)]) ++ List.replicate (3 - (lg_sl ([.int (p0), .int (p1), .int (p2)])).length) Slot.unset).toArray = ls at hl ⊢
  have hl : lv_has ls 3 [(0, .int (p0)), (1, .int (p1)), (2, .int (p2))] := hl
  refine lv_iload_n hx hb dX8_isIn_0 rfl (lv_at hl 0 rfl) ?_
  refine lv_iload_n hx hb dX8_isIn_1 rfl (lv_at hl 1 rfl) ?_
  refine lv_icmp_lt (tgt := 14) hx hb dX8_isIn_2 (by decide) (fun c_2 => ?_) (fun c_2 => ?_)
  · have h := h.1 c_2
    refine lv_iconst (v := (0 : Int32)) hx hb dX8_isIn_14 (by decide) ?_
    refine W.widen (k := 0) (n := 0) (Nat.le_of_ble_eq_true rfl) (Nat.le_of_ble_eq_true rfl) ?_
    exact W.zret (v := (0 : Int32)) hx hb hr nbo_0.n (fun t ht hW9 => ⟨⟨(0 : Int32), w, rfl, h, rpt ht hR⟩, hS.F ht⟩) hS.2.2 dX8_isIn_15
  · have h := h.2 c_2
    refine lv_iload_n hx hb dX8_isIn_5 rfl (lv_at hl 0 rfl) ?_
    refine lv_iload_n hx hb dX8_isIn_6 rfl (lv_at hl 2 rfl) ?_
    refine lv_icmp_gt (tgt := 14) hx hb dX8_isIn_7 (by decide) (fun c_7 => ?_) (fun c_7 => ?_)
    · have h := h.1 c_7
      refine lv_iconst (v := (0 : Int32)) hx hb dX8_isIn_14 (by decide) ?_
      refine W.widen (k := 0) (n := 0) (Nat.le_of_ble_eq_true rfl) (Nat.le_of_ble_eq_true rfl) ?_
      exact W.zret (v := (0 : Int32)) hx hb hr nbo_0.n (fun t ht hW9 => ⟨⟨(0 : Int32), w, rfl, h, rpt ht hR⟩, hS.F ht⟩) hS.2.2 dX8_isIn_15
    · have h := h.2 c_7
      refine lv_iconst (v := (1 : Int32)) hx hb dX8_isIn_10 (by decide) ?_
      refine lv_goto (tgt := 15) hx hb dX8_isIn_11 (by decide) ?_
      refine W.widen (k := 0) (n := 0) (Nat.le_of_ble_eq_true rfl) (Nat.le_of_ble_eq_true rfl) ?_
      exact W.zret (v := (1 : Int32)) hx hb hr nbo_1.n (fun t ht hW9 => ⟨⟨(1 : Int32), w, rfl, h, rpt ht hR⟩, hS.F ht⟩) hS.2.2 dX8_isIn_15
abbrev rm_X8_refuse : Room := { frames := 0, cells := 0, slots := 0, locals := 0 }
def sp_X8_refuse (κ : Kx) (y : Ly) (post : Int32 → Wd → Prop) (w : Wd) (p1 : Int32) (p2 : Int32) : Prop := ((p1 = 0) → (((gv w 20 0 0 ≤ 0) → (post ((0 : Int32)) w)) ∧ ((¬ (gv w 20 0 0 ≤ 0)) → (post ((1 : Int32)) w)))) ∧ ((¬ (p1 = 0)) → (((¬ gv w 20 0 0 = 0) → (((gv w 20 0 0 ≤ 0) → (post ((0 : Int32)) w)) ∧ ((¬ (gv w 20 0 0 ≤ 0)) → (post ((1 : Int32)) w)))) ∧ ((gv w 20 0 0 = 0) → (∀ w_13 : Wd, w_13 = sv w 20 0 0 (p2) → ((gv w_13 20 0 0 ≤ 0) → (post ((0 : Int32)) w_13)) ∧ ((¬ (gv w_13 20 0 0 ≤ 0)) → (post ((1 : Int32)) w_13))))))
theorem hd_X8_refuse : yX8_refuse.cls = RX8 ∧ yX8_refuse.cls ≠ "java/lang/invoke/MethodHandle" ∧ yX8_refuse.cls ≠ "java/lang/invoke/VarHandle" ∧ (parseMethodDescriptor yX8_refuse.desc).map (fun d => d.parameters.length) = some 2 := by decide +kernel
set_option maxHeartbeats 4000000 in
theorem m_X8_refuse {l : Launch} {κ : Kx} {y : Ly} {X : XR} {post : Int32 → Wd → Prop} {w : Wd} {p1 : Int32} {p2 : Int32}  (hM : WFm κ y) (l0 : live y 20 0) (h : sp_X8_refuse κ y post w p1 p2) : Met l yX8_refuse (ws_ yX8_refuse cX8_refuse 3 (Option.some Jvm.ClassFile.FieldType.boolean)) rm_X8_refuse (va_Pc [.ref (y.2 20 0), .int (p1), .int (p2)] (RC κ w y X)) (va_Qi post (fun w t => Rp κ w y X [] t.heap) (Af κ)) 0 0 (Af κ) := by
  unfold sp_X8_refuse at h
  refine Met.ofW (cc := cX8_refuse) (maxL := 3) (ret := (Option.some Jvm.ClassFile.FieldType.boolean)) (by decide) rfl ?_
  intro p e s m args below meth c s₁ B hml hv
  obtain ⟨rfl, hR, hK⟩ := hv
  have hx := B.exec
  have hb := B.bytes
  have hr := B.returns
  have hts := atoms_spec (ws := ws_ yX8_refuse cX8_refuse 3 (Option.some Jvm.ClassFile.FieldType.boolean)) B.pre
  have hts : ∀ w ∈ lw_all, w.before _ s = true := fun w h => hts w (List.mem_cons_of_mem _ h)
  have hown : s.vm.findClass RX8 = some m.cls := findClass_of_methodNamed B.named
  have hlocks := B.notSynchronized
  have hS : va_S (Af κ) s.heap s.heap [] := va_S.rf
  have hl := lv_entry ([.ref (y.2 20 0), .int (p1), .int (p2)]) (n := 3) (Nat.le_of_ble_eq_true rfl)
  rw [lg_entry_eq]
  generalize (lg_sl ([.ref (y.2 20 0), .int (p1), .int (p2)]) ++ List.replicate (3 - (lg_sl ([.ref (y.2 20 0), .int (p1), .int (p2)])).length) Slot.unset).toArray = ls at hl ⊢
  have hl : lv_has ls 3 [(0, .ref (y.2 20 0)), (1, .int (p1)), (2, .int (p2))] := hl
  refine lv_iload_n hx hb dX8_refuse_0 rfl (lv_at hl 1 rfl) ?_
  refine lv_if_eq (tgt := 16) hx hb dX8_refuse_1 (by decide) (fun c_1 => ?_) (fun c_1 => ?_)
  · have h := h.1 c_1
    refine lv_aload_n hx hb dX8_refuse_16 rfl (lv_at hl 0 rfl) ?_
    refine g20_0 hx hb hts hown hK hR l0 q1945 dX8_refuse_17 ?_
    refine lv_if_le (tgt := 27) hx hb dX8_refuse_20 (by decide) (fun c_20 => ?_) (fun c_20 => ?_)
    · have h := h.1 c_20
      refine lv_iconst (v := (0 : Int32)) hx hb dX8_refuse_27 (by decide) ?_
      refine W.widen (k := 0) (n := 0) (Nat.le_of_ble_eq_true rfl) (Nat.le_of_ble_eq_true rfl) ?_
      exact W.zret (v := (0 : Int32)) hx hb hr nbo_0.n (fun t ht hW9 => ⟨⟨(0 : Int32), w, rfl, h, rpt ht hR⟩, hS.F ht⟩) hS.2.2 dX8_refuse_28
    · have h := h.2 c_20
      refine lv_iconst (v := (1 : Int32)) hx hb dX8_refuse_23 (by decide) ?_
      refine lv_goto (tgt := 28) hx hb dX8_refuse_24 (by decide) ?_
      refine W.widen (k := 0) (n := 0) (Nat.le_of_ble_eq_true rfl) (Nat.le_of_ble_eq_true rfl) ?_
      exact W.zret (v := (1 : Int32)) hx hb hr nbo_1.n (fun t ht hW9 => ⟨⟨(1 : Int32), w, rfl, h, rpt ht hR⟩, hS.F ht⟩) hS.2.2 dX8_refuse_28
  · have h := h.2 c_1
    refine lv_aload_n hx hb dX8_refuse_4 rfl (lv_at hl 0 rfl) ?_
    refine g20_0 hx hb hts hown hK hR l0 q1945 dX8_refuse_5 ?_
    refine lv_if_ne (tgt := 16) hx hb dX8_refuse_8 (by decide) (fun c_8 => ?_) (fun c_8 => ?_)
    · have h := h.1 c_8
      refine lv_aload_n hx hb dX8_refuse_16 rfl (lv_at hl 0 rfl) ?_
      refine g20_0 hx hb hts hown hK hR l0 q1945 dX8_refuse_17 ?_
      refine lv_if_le (tgt := 27) hx hb dX8_refuse_20 (by decide) (fun c_20_a => ?_) (fun c_20_a => ?_)
      · have h := h.1 c_20_a
        refine lv_iconst (v := (0 : Int32)) hx hb dX8_refuse_27 (by decide) ?_
        refine W.widen (k := 0) (n := 0) (Nat.le_of_ble_eq_true rfl) (Nat.le_of_ble_eq_true rfl) ?_
        exact W.zret (v := (0 : Int32)) hx hb hr nbo_0.n (fun t ht hW9 => ⟨⟨(0 : Int32), w, rfl, h, rpt ht hR⟩, hS.F ht⟩) hS.2.2 dX8_refuse_28
      · have h := h.2 c_20_a
        refine lv_iconst (v := (1 : Int32)) hx hb dX8_refuse_23 (by decide) ?_
        refine lv_goto (tgt := 28) hx hb dX8_refuse_24 (by decide) ?_
        refine W.widen (k := 0) (n := 0) (Nat.le_of_ble_eq_true rfl) (Nat.le_of_ble_eq_true rfl) ?_
        exact W.zret (v := (1 : Int32)) hx hb hr nbo_1.n (fun t ht hW9 => ⟨⟨(1 : Int32), w, rfl, h, rpt ht hR⟩, hS.F ht⟩) hS.2.2 dX8_refuse_28
    · have h := h.2 c_8
      refine lv_aload_n hx hb dX8_refuse_11 rfl (lv_at hl 0 rfl) ?_
      refine lv_iload_n hx hb dX8_refuse_12 rfl (lv_at hl 2 rfl) ?_
      refine p20_0 hx hb hts hown hK hR hS l0 q1945 dX8_refuse_13 (fun H locs w_13 ew_13 hR hS => ?_)
      have h := h w_13 ew_13
      refine lv_aload_n hx hb dX8_refuse_16 rfl (lv_at hl 0 rfl) ?_
      refine g20_0 hx hb hts hown hK hR l0 q1945 dX8_refuse_17 ?_
      refine lv_if_le (tgt := 27) hx hb dX8_refuse_20 (by decide) (fun c_20_b => ?_) (fun c_20_b => ?_)
      · have h := h.1 c_20_b
        refine lv_iconst (v := (0 : Int32)) hx hb dX8_refuse_27 (by decide) ?_
        refine W.widen (k := 0) (n := 0) (Nat.le_of_ble_eq_true rfl) (Nat.le_of_ble_eq_true rfl) ?_
        exact W.zret (v := (0 : Int32)) hx hb hr nbo_0.n (fun t ht hW9 => ⟨⟨(0 : Int32), w_13, rfl, h, rpt ht hR⟩, hS.F ht⟩) hS.2.2 dX8_refuse_28
      · have h := h.2 c_20_b
        refine lv_iconst (v := (1 : Int32)) hx hb dX8_refuse_23 (by decide) ?_
        refine lv_goto (tgt := 28) hx hb dX8_refuse_24 (by decide) ?_
        refine W.widen (k := 0) (n := 0) (Nat.le_of_ble_eq_true rfl) (Nat.le_of_ble_eq_true rfl) ?_
        exact W.zret (v := (1 : Int32)) hx hb hr nbo_1.n (fun t ht hW9 => ⟨⟨(1 : Int32), w_13, rfl, h, rpt ht hR⟩, hS.F ht⟩) hS.2.2 dX8_refuse_28
abbrev rm_X8_has : Room := { frames := 0, cells := 0, slots := 0, locals := 0 }
def sp_X8_has (κ : Kx) (y : Ly) (post : Int32 → Wd → Prop) (w : Wd) (p0 : Int32) (p1 : Int32) : Prop := ((¬ (p0 >>> (p1 &&& 31)) &&& (1 : Int32) = (1 : Int32)) → (post ((0 : Int32)) w)) ∧ (((p0 >>> (p1 &&& 31)) &&& (1 : Int32) = (1 : Int32)) → (post ((1 : Int32)) w))
theorem hds_X8_has : yX8_has.cls ≠ "java/lang/invoke/MethodHandle" ∧ yX8_has.cls ≠ "java/lang/invoke/VarHandle" ∧ (parseMethodDescriptor yX8_has.desc).map (fun d => d.parameters.length) = some 2 := by decide +kernel
set_option maxHeartbeats 4000000 in
theorem m_X8_has {l : Launch} {κ : Kx} {y : Ly} {X : XR} {post : Int32 → Wd → Prop} {w : Wd} {p0 : Int32} {p1 : Int32}  (hM : WFm κ y)  (h : sp_X8_has κ y post w p0 p1) : Met l yX8_has (ws_ yX8_has cX8_has 2 (Option.some Jvm.ClassFile.FieldType.boolean)) rm_X8_has (va_Pc [.int (p0), .int (p1)] (RC κ w y X)) (va_Qi post (fun w t => Rp κ w y X [] t.heap) (Af κ)) 0 0 (Af κ) := by
  unfold sp_X8_has at h
  refine Met.ofW (cc := cX8_has) (maxL := 2) (ret := (Option.some Jvm.ClassFile.FieldType.boolean)) (by decide) rfl ?_
  intro p e s m args below meth c s₁ B hml hv
  obtain ⟨rfl, hR, hK⟩ := hv
  have hx := B.exec
  have hb := B.bytes
  have hr := B.returns
  have hts := atoms_spec (ws := ws_ yX8_has cX8_has 2 (Option.some Jvm.ClassFile.FieldType.boolean)) B.pre
  have hts : ∀ w ∈ lw_all, w.before _ s = true := fun w h => hts w (List.mem_cons_of_mem _ h)
  have hown : s.vm.findClass RX8 = some m.cls := findClass_of_methodNamed B.named
  have hlocks := B.notSynchronized
  have hS : va_S (Af κ) s.heap s.heap [] := va_S.rf
  have hl := lv_entry ([.int (p0), .int (p1)]) (n := 2) (Nat.le_of_ble_eq_true rfl)
  rw [lg_entry_eq]
  generalize (lg_sl ([.int (p0), .int (p1)]) ++ List.replicate (2 - (lg_sl ([.int (p0), .int (p1)])).length) Slot.unset).toArray = ls at hl ⊢
  have hl : lv_has ls 2 [(0, .int (p0)), (1, .int (p1))] := hl
  refine lv_iload_n hx hb dX8_has_0 rfl (lv_at hl 0 rfl) ?_
  refine lv_iload_n hx hb dX8_has_1 rfl (lv_at hl 1 rfl) ?_
  refine lv_ishr hx hb dX8_has_2 ?_
  refine lv_iconst (v := (1 : Int32)) hx hb dX8_has_3 (by decide) ?_
  refine lv_iand hx hb dX8_has_4 ?_
  refine lv_iconst (v := (1 : Int32)) hx hb dX8_has_5 (by decide) ?_
  refine lv_icmp_ne (tgt := 13) hx hb dX8_has_6 (by decide) (fun c_6 => ?_) (fun c_6 => ?_)
  · have h := h.1 c_6
    refine lv_iconst (v := (0 : Int32)) hx hb dX8_has_13 (by decide) ?_
    refine W.widen (k := 0) (n := 0) (Nat.le_of_ble_eq_true rfl) (Nat.le_of_ble_eq_true rfl) ?_
    exact W.zret (v := (0 : Int32)) hx hb hr nbo_0.n (fun t ht hW9 => ⟨⟨(0 : Int32), w, rfl, h, rpt ht hR⟩, hS.F ht⟩) hS.2.2 dX8_has_14
  · have h := h.2 c_6
    refine lv_iconst (v := (1 : Int32)) hx hb dX8_has_9 (by decide) ?_
    refine lv_goto (tgt := 14) hx hb dX8_has_10 (by decide) ?_
    refine W.widen (k := 0) (n := 0) (Nat.le_of_ble_eq_true rfl) (Nat.le_of_ble_eq_true rfl) ?_
    exact W.zret (v := (1 : Int32)) hx hb hr nbo_1.n (fun t ht hW9 => ⟨⟨(1 : Int32), w, rfl, h, rpt ht hR⟩, hS.F ht⟩) hS.2.2 dX8_has_14
abbrev rm_X8_isNoVillage : Room := { frames := 1, cells := 0, slots := 0, locals := 22 }
def sp_X8_isNoVillage (κ : Kx) (y : Ly) (post : Int32 → Wd → Prop) (w : Wd) (p1 : Int32) : Prop := sp_X8_isIn κ y (fun r_11 w_11 => ((¬ r_11 = 0) → (post ((0 : Int32)) w_11)) ∧ ((r_11 = 0) → (post ((1 : Int32)) w_11))) w p1 (0 : Int32) ((nI (mV y)) - (1 : Int32))
theorem hd_X8_isNoVillage : yX8_isNoVillage.cls = RX8 ∧ yX8_isNoVillage.cls ≠ "java/lang/invoke/MethodHandle" ∧ yX8_isNoVillage.cls ≠ "java/lang/invoke/VarHandle" ∧ (parseMethodDescriptor yX8_isNoVillage.desc).map (fun d => d.parameters.length) = some 1 := by decide +kernel
set_option maxHeartbeats 4000000 in
theorem m_X8_isNoVillage {l : Launch} {κ : Kx} {y : Ly} {X : XR} {post : Int32 → Wd → Prop} {w : Wd} {p1 : Int32}  (hM : WFm κ y) (l0 : live y 20 0) (h : sp_X8_isNoVillage κ y post w p1) : Met l yX8_isNoVillage (ws_ yX8_isNoVillage cX8_isNoVillage 2 (Option.some Jvm.ClassFile.FieldType.boolean)) rm_X8_isNoVillage (va_Pc [.ref (y.2 20 0), .int (p1)] (RC κ w y X)) (va_Qi post (fun w t => Rp κ w y X [] t.heap) (Af κ)) 0 0 (Af κ) := by
  unfold sp_X8_isNoVillage at h
  refine Met.ofW (cc := cX8_isNoVillage) (maxL := 2) (ret := (Option.some Jvm.ClassFile.FieldType.boolean)) (by decide) rfl ?_
  intro p e s m args below meth c s₁ B hml hv
  obtain ⟨rfl, hR, hK⟩ := hv
  have hx := B.exec
  have hb := B.bytes
  have hr := B.returns
  have hts := atoms_spec (ws := ws_ yX8_isNoVillage cX8_isNoVillage 2 (Option.some Jvm.ClassFile.FieldType.boolean)) B.pre
  have hts : ∀ w ∈ lw_all, w.before _ s = true := fun w h => hts w (List.mem_cons_of_mem _ h)
  have hown : s.vm.findClass RX8 = some m.cls := findClass_of_methodNamed B.named
  have hlocks := B.notSynchronized
  have hS : va_S (Af κ) s.heap s.heap [] := va_S.rf
  have hl := lv_entry ([.ref (y.2 20 0), .int (p1)]) (n := 2) (Nat.le_of_ble_eq_true rfl)
  rw [lg_entry_eq]
  generalize (lg_sl ([.ref (y.2 20 0), .int (p1)]) ++ List.replicate (2 - (lg_sl ([.ref (y.2 20 0), .int (p1)])).length) Slot.unset).toArray = ls at hl ⊢
  have hl : lv_has ls 2 [(0, .ref (y.2 20 0)), (1, .int (p1))] := hl
  refine lv_iload_n hx hb dX8_isNoVillage_0 rfl (lv_at hl 1 rfl) ?_
  refine lv_iconst (v := (0 : Int32)) hx hb dX8_isNoVillage_1 (by decide) ?_
  refine lv_aload_n hx hb dX8_isNoVillage_2 rfl (lv_at hl 0 rfl) ?_
  refine g20_3 hx hb hts hown hK hR l0 q1948 dX8_isNoVillage_3 ?_
  refine jr_size ⟨hx, hb, hml, hown, hts⟩ hK hR ⟨fun _ _ _ _ _ => rfl, fun _ _ _ _ _ => rfl⟩ hM.lsV q2031 ⟨Nat.le_of_ble_eq_true rfl, Nat.le_of_ble_eq_true rfl⟩ hl.1 (Nat.le_of_ble_eq_true rfl) dX8_isNoVillage_6 ⟨(Nat.le_of_ble_eq_true rfl), (Nat.le_of_ble_eq_true rfl)⟩ ?_
  refine lv_iconst (v := (1 : Int32)) hx hb dX8_isNoVillage_9 (by decide) ?_
  refine lv_isub hx hb dX8_isNoVillage_10 ?_
  refine ce_qi (fw := fun u => u) (fy := fun _ => y) (cr_S (n := 3) (As := [.int (p1), .int ((0 : Int32)), .int ((nI (mV y)) - (1 : Int32))]) (rest := []) ⟨hx, hb, hml, hown, hts⟩ hK hR (m_X8_isIn hM h) q2020 q2021 q85 q2022 rfl rfl hds_X8_isIn ⟨Nat.le_of_ble_eq_true rfl, Nat.le_of_ble_eq_true rfl⟩ rfl rfl hl.1 rfl (lv_room (Nat.le_of_ble_eq_true rfl)) dX8_isNoVillage_11 ⟨(Nat.le_of_ble_eq_true rfl), (Nat.le_of_ble_eq_true rfl)⟩) hR hS (fun r_11 w_11 H locs h hR _ hS => ?_)
  refine lv_if_ne (tgt := 21) hx hb dX8_isNoVillage_14 (by decide) (fun c_14 => ?_) (fun c_14 => ?_)
  · have h := h.1 c_14
    refine lv_iconst (v := (0 : Int32)) hx hb dX8_isNoVillage_21 (by decide) ?_
    refine W.widen (k := 0) (n := 0) (Nat.le_of_ble_eq_true rfl) (Nat.le_of_ble_eq_true rfl) ?_
    exact W.zret (v := (0 : Int32)) hx hb hr nbo_0.n (fun t ht hW9 => ⟨⟨(0 : Int32), w_11, rfl, h, rpt ht hR⟩, hS.F ht⟩) hS.2.2 dX8_isNoVillage_22
  · have h := h.2 c_14
    refine lv_iconst (v := (1 : Int32)) hx hb dX8_isNoVillage_17 (by decide) ?_
    refine lv_goto (tgt := 22) hx hb dX8_isNoVillage_18 (by decide) ?_
    refine W.widen (k := 0) (n := 0) (Nat.le_of_ble_eq_true rfl) (Nat.le_of_ble_eq_true rfl) ?_
    exact W.zret (v := (1 : Int32)) hx hb hr nbo_1.n (fun t ht hW9 => ⟨⟨(1 : Int32), w_11, rfl, h, rpt ht hR⟩, hS.F ht⟩) hS.2.2 dX8_isNoVillage_22
abbrev rm_X8_treasuryPays : Room := { frames := 1, cells := 0, slots := 0, locals := 24 }
def sp_X8_treasuryPays (κ : Kx) (y : Ly) (post : Wd → Prop) (w : Wd) (p1 : Int32) : Prop := ∀ x_8 : Int32, x_8 = jmin (gv w 20 0 13) p1 → ∀ w_16 : Wd, w_16 = sv w 20 0 13 ((gv w 20 0 13) - x_8) → ∀ w_26 : Wd, w_26 = sv w_16 20 0 15 ((gv w_16 20 0 15) + x_8) → post w_26
theorem hd_X8_treasuryPays : yX8_treasuryPays.cls = RX8 ∧ yX8_treasuryPays.cls ≠ "java/lang/invoke/MethodHandle" ∧ yX8_treasuryPays.cls ≠ "java/lang/invoke/VarHandle" ∧ (parseMethodDescriptor yX8_treasuryPays.desc).map (fun d => d.parameters.length) = some 1 := by decide +kernel
set_option maxHeartbeats 4000000 in
theorem m_X8_treasuryPays {l : Launch} {κ : Kx} {y : Ly} {X : XR} {post : Wd → Prop} {w : Wd} {p1 : Int32}  (hM : WFm κ y) (l0 : live y 20 0) (h : sp_X8_treasuryPays κ y post w p1) : Met l yX8_treasuryPays (ws_ yX8_treasuryPays cX8_treasuryPays 3 (Option.none : Option Jvm.ClassFile.FieldType)) rm_X8_treasuryPays (va_Pc [.ref (y.2 20 0), .int (p1)] (RC κ w y X)) (va_Qv post (fun w t => Rp κ w y X [] t.heap) (Af κ)) 0 0 (Af κ) := by
  unfold sp_X8_treasuryPays at h
  refine Met.ofW (cc := cX8_treasuryPays) (maxL := 3) (ret := (Option.none : Option Jvm.ClassFile.FieldType)) (by decide) rfl ?_
  intro p e s m args below meth c s₁ B hml hv
  obtain ⟨rfl, hR, hK⟩ := hv
  have hx := B.exec
  have hb := B.bytes
  have hr := B.returns
  have hts := atoms_spec (ws := ws_ yX8_treasuryPays cX8_treasuryPays 3 (Option.none : Option Jvm.ClassFile.FieldType)) B.pre
  have hts : ∀ w ∈ lw_all, w.before _ s = true := fun w h => hts w (List.mem_cons_of_mem _ h)
  have hown : s.vm.findClass RX8 = some m.cls := findClass_of_methodNamed B.named
  have hlocks := B.notSynchronized
  have hS : va_S (Af κ) s.heap s.heap [] := va_S.rf
  have hl := lv_entry ([.ref (y.2 20 0), .int (p1)]) (n := 3) (Nat.le_of_ble_eq_true rfl)
  rw [lg_entry_eq]
  generalize (lg_sl ([.ref (y.2 20 0), .int (p1)]) ++ List.replicate (3 - (lg_sl ([.ref (y.2 20 0), .int (p1)])).length) Slot.unset).toArray = ls at hl ⊢
  have hl : lv_has ls 3 [(0, .ref (y.2 20 0)), (1, .int (p1))] := hl
  refine lv_aload_n hx hb dX8_treasuryPays_0 rfl (lv_at hl 0 rfl) ?_
  refine g20_13 hx hb hts hown hK hR l0 q1958 dX8_treasuryPays_1 ?_
  refine lv_iload_n hx hb dX8_treasuryPays_4 rfl (lv_at hl 1 rfl) ?_
  refine va_mmin hx hb (hml.trans hl.1.symm) hown (hts _ q2113) (hts _ q322) (hts _ q95) (hts _ q323) (Nat.le_of_ble_eq_true rfl) (Nat.le_of_ble_eq_true rfl) (Nat.le_of_ble_eq_true rfl) (Nat.le_of_ble_eq_true rfl) dX8_treasuryPays_5 ?_
  refine lv_topi (fun x_8 ex_8 => ?_)
  have h := h x_8 ex_8
  refine lv_istore_n (lv' := [(2, .int (x_8)), (0, .ref (y.2 20 0)), (1, .int (p1))]) hx hb dX8_treasuryPays_8 rfl hl (by decide) rfl (fun ls hl => ?_)
  refine lv_aload_n hx hb dX8_treasuryPays_9 rfl (lv_at hl 1 rfl) ?_
  refine lv_dup hx hb dX8_treasuryPays_10 rfl ?_
  refine g20_13 hx hb hts hown hK hR l0 q1958 dX8_treasuryPays_11 ?_
  refine lv_iload_n hx hb dX8_treasuryPays_14 rfl (lv_at hl 0 rfl) ?_
  refine lv_isub hx hb dX8_treasuryPays_15 ?_
  refine p20_13 hx hb hts hown hK hR hS l0 q1958 dX8_treasuryPays_16 (fun H locs w_16 ew_16 hR hS => ?_)
  have h := h w_16 ew_16
  refine lv_aload_n hx hb dX8_treasuryPays_19 rfl (lv_at hl 1 rfl) ?_
  refine lv_dup hx hb dX8_treasuryPays_20 rfl ?_
  refine g20_15 hx hb hts hown hK hR l0 q1960 dX8_treasuryPays_21 ?_
  refine lv_iload_n hx hb dX8_treasuryPays_24 rfl (lv_at hl 0 rfl) ?_
  refine lv_iadd hx hb dX8_treasuryPays_25 ?_
  refine p20_15 hx hb hts hown hK hR hS l0 q1960 dX8_treasuryPays_26 (fun H locs w_26 ew_26 hR hS => ?_)
  have h := h w_26 ew_26
  refine W.widen (k := 0) (n := 0) (Nat.le_of_ble_eq_true rfl) (Nat.le_of_ble_eq_true rfl) ?_
  exact W.vret hx hb hr (fun t ht hW9 => ⟨⟨w_26, rfl, h, rpt ht hR⟩, hS.F ht⟩) hS.2.2 dX8_treasuryPays_29
abbrev rm_X8_isNoDuty : Room := { frames := 1, cells := 0, slots := 0, locals := 22 }
def sp_X8_isNoDuty (κ : Kx) (y : Ly) (post : Int32 → Wd → Prop) (w : Wd) (p0 : Int32) : Prop := sp_X8_isIn κ y (fun r_3 w_3 => ((¬ r_3 = 0) → (post ((0 : Int32)) w_3)) ∧ ((r_3 = 0) → (post ((1 : Int32)) w_3))) w p0 (0 : Int32) (2 : Int32)
theorem hds_X8_isNoDuty : yX8_isNoDuty.cls ≠ "java/lang/invoke/MethodHandle" ∧ yX8_isNoDuty.cls ≠ "java/lang/invoke/VarHandle" ∧ (parseMethodDescriptor yX8_isNoDuty.desc).map (fun d => d.parameters.length) = some 1 := by decide +kernel
set_option maxHeartbeats 4000000 in
theorem m_X8_isNoDuty {l : Launch} {κ : Kx} {y : Ly} {X : XR} {post : Int32 → Wd → Prop} {w : Wd} {p0 : Int32}  (hM : WFm κ y)  (h : sp_X8_isNoDuty κ y post w p0) : Met l yX8_isNoDuty (ws_ yX8_isNoDuty cX8_isNoDuty 1 (Option.some Jvm.ClassFile.FieldType.boolean)) rm_X8_isNoDuty (va_Pc [.int (p0)] (RC κ w y X)) (va_Qi post (fun w t => Rp κ w y X [] t.heap) (Af κ)) 0 0 (Af κ) := by
  unfold sp_X8_isNoDuty at h
  refine Met.ofW (cc := cX8_isNoDuty) (maxL := 1) (ret := (Option.some Jvm.ClassFile.FieldType.boolean)) (by decide) rfl ?_
  intro p e s m args below meth c s₁ B hml hv
  obtain ⟨rfl, hR, hK⟩ := hv
  have hx := B.exec
  have hb := B.bytes
  have hr := B.returns
  have hts := atoms_spec (ws := ws_ yX8_isNoDuty cX8_isNoDuty 1 (Option.some Jvm.ClassFile.FieldType.boolean)) B.pre
  have hts : ∀ w ∈ lw_all, w.before _ s = true := fun w h => hts w (List.mem_cons_of_mem _ h)
  have hown : s.vm.findClass RX8 = some m.cls := findClass_of_methodNamed B.named
  have hlocks := B.notSynchronized
  have hS : va_S (Af κ) s.heap s.heap [] := va_S.rf
  have hl := lv_entry ([.int (p0)]) (n := 1) (Nat.le_of_ble_eq_true rfl)
  rw [lg_entry_eq]
  generalize (lg_sl ([.int (p0)]) ++ List.replicate (1 - (lg_sl ([.int (p0)])).length) Slot.unset).toArray = ls at hl ⊢
  have hl : lv_has ls 1 [(0, .int (p0))] := hl
  refine lv_iload_n hx hb dX8_isNoDuty_0 rfl (lv_at hl 0 rfl) ?_
  refine lv_iconst (v := (0 : Int32)) hx hb dX8_isNoDuty_1 (by decide) ?_
  refine lv_iconst (v := (2 : Int32)) hx hb dX8_isNoDuty_2 (by decide) ?_
  refine ce_qi (fw := fun u => u) (fy := fun _ => y) (cr_S (n := 3) (As := [.int (p0), .int ((0 : Int32)), .int ((2 : Int32))]) (rest := []) ⟨hx, hb, hml, hown, hts⟩ hK hR (m_X8_isIn hM h) q2020 q2021 q85 q2022 rfl rfl hds_X8_isIn ⟨Nat.le_of_ble_eq_true rfl, Nat.le_of_ble_eq_true rfl⟩ rfl rfl hl.1 rfl (lv_room (Nat.le_of_ble_eq_true rfl)) dX8_isNoDuty_3 ⟨(Nat.le_of_ble_eq_true rfl), (Nat.le_of_ble_eq_true rfl)⟩) hR hS (fun r_3 w_3 H locs h hR _ hS => ?_)
  refine lv_if_ne (tgt := 13) hx hb dX8_isNoDuty_6 (by decide) (fun c_6 => ?_) (fun c_6 => ?_)
  · have h := h.1 c_6
    refine lv_iconst (v := (0 : Int32)) hx hb dX8_isNoDuty_13 (by decide) ?_
    refine W.widen (k := 0) (n := 0) (Nat.le_of_ble_eq_true rfl) (Nat.le_of_ble_eq_true rfl) ?_
    exact W.zret (v := (0 : Int32)) hx hb hr nbo_0.n (fun t ht hW9 => ⟨⟨(0 : Int32), w_3, rfl, h, rpt ht hR⟩, hS.F ht⟩) hS.2.2 dX8_isNoDuty_14
  · have h := h.2 c_6
    refine lv_iconst (v := (1 : Int32)) hx hb dX8_isNoDuty_9 (by decide) ?_
    refine lv_goto (tgt := 14) hx hb dX8_isNoDuty_10 (by decide) ?_
    refine W.widen (k := 0) (n := 0) (Nat.le_of_ble_eq_true rfl) (Nat.le_of_ble_eq_true rfl) ?_
    exact W.zret (v := (1 : Int32)) hx hb hr nbo_1.n (fun t ht hW9 => ⟨⟨(1 : Int32), w_3, rfl, h, rpt ht hR⟩, hS.F ht⟩) hS.2.2 dX8_isNoDuty_14
abbrev rm_X8_isNoCompany : Room := { frames := 1, cells := 0, slots := 0, locals := 22 }
def sp_X8_isNoCompany (κ : Kx) (y : Ly) (post : Int32 → Wd → Prop) (w : Wd) (p1 : Int32) : Prop := sp_X8_isIn κ y (fun r_11 w_11 => ((¬ r_11 = 0) → (post ((0 : Int32)) w_11)) ∧ ((r_11 = 0) → (post ((1 : Int32)) w_11))) w p1 (0 : Int32) ((nI (mC y)) - (1 : Int32))
theorem hd_X8_isNoCompany : yX8_isNoCompany.cls = RX8 ∧ yX8_isNoCompany.cls ≠ "java/lang/invoke/MethodHandle" ∧ yX8_isNoCompany.cls ≠ "java/lang/invoke/VarHandle" ∧ (parseMethodDescriptor yX8_isNoCompany.desc).map (fun d => d.parameters.length) = some 1 := by decide +kernel
set_option maxHeartbeats 4000000 in
theorem m_X8_isNoCompany {l : Launch} {κ : Kx} {y : Ly} {X : XR} {post : Int32 → Wd → Prop} {w : Wd} {p1 : Int32}  (hM : WFm κ y) (l0 : live y 20 0) (h : sp_X8_isNoCompany κ y post w p1) : Met l yX8_isNoCompany (ws_ yX8_isNoCompany cX8_isNoCompany 2 (Option.some Jvm.ClassFile.FieldType.boolean)) rm_X8_isNoCompany (va_Pc [.ref (y.2 20 0), .int (p1)] (RC κ w y X)) (va_Qi post (fun w t => Rp κ w y X [] t.heap) (Af κ)) 0 0 (Af κ) := by
  unfold sp_X8_isNoCompany at h
  refine Met.ofW (cc := cX8_isNoCompany) (maxL := 2) (ret := (Option.some Jvm.ClassFile.FieldType.boolean)) (by decide) rfl ?_
  intro p e s m args below meth c s₁ B hml hv
  obtain ⟨rfl, hR, hK⟩ := hv
  have hx := B.exec
  have hb := B.bytes
  have hr := B.returns
  have hts := atoms_spec (ws := ws_ yX8_isNoCompany cX8_isNoCompany 2 (Option.some Jvm.ClassFile.FieldType.boolean)) B.pre
  have hts : ∀ w ∈ lw_all, w.before _ s = true := fun w h => hts w (List.mem_cons_of_mem _ h)
  have hown : s.vm.findClass RX8 = some m.cls := findClass_of_methodNamed B.named
  have hlocks := B.notSynchronized
  have hS : va_S (Af κ) s.heap s.heap [] := va_S.rf
  have hl := lv_entry ([.ref (y.2 20 0), .int (p1)]) (n := 2) (Nat.le_of_ble_eq_true rfl)
  rw [lg_entry_eq]
  generalize (lg_sl ([.ref (y.2 20 0), .int (p1)]) ++ List.replicate (2 - (lg_sl ([.ref (y.2 20 0), .int (p1)])).length) Slot.unset).toArray = ls at hl ⊢
  have hl : lv_has ls 2 [(0, .ref (y.2 20 0)), (1, .int (p1))] := hl
  refine lv_iload_n hx hb dX8_isNoCompany_0 rfl (lv_at hl 1 rfl) ?_
  refine lv_iconst (v := (0 : Int32)) hx hb dX8_isNoCompany_1 (by decide) ?_
  refine lv_aload_n hx hb dX8_isNoCompany_2 rfl (lv_at hl 0 rfl) ?_
  refine g20_4 hx hb hts hown hK hR l0 q1949 dX8_isNoCompany_3 ?_
  refine jr_size ⟨hx, hb, hml, hown, hts⟩ hK hR ⟨fun _ _ _ _ _ => rfl, fun _ _ _ _ _ => rfl⟩ hM.lsC q2031 ⟨Nat.le_of_ble_eq_true rfl, Nat.le_of_ble_eq_true rfl⟩ hl.1 (Nat.le_of_ble_eq_true rfl) dX8_isNoCompany_6 ⟨(Nat.le_of_ble_eq_true rfl), (Nat.le_of_ble_eq_true rfl)⟩ ?_
  refine lv_iconst (v := (1 : Int32)) hx hb dX8_isNoCompany_9 (by decide) ?_
  refine lv_isub hx hb dX8_isNoCompany_10 ?_
  refine ce_qi (fw := fun u => u) (fy := fun _ => y) (cr_S (n := 3) (As := [.int (p1), .int ((0 : Int32)), .int ((nI (mC y)) - (1 : Int32))]) (rest := []) ⟨hx, hb, hml, hown, hts⟩ hK hR (m_X8_isIn hM h) q2020 q2021 q85 q2022 rfl rfl hds_X8_isIn ⟨Nat.le_of_ble_eq_true rfl, Nat.le_of_ble_eq_true rfl⟩ rfl rfl hl.1 rfl (lv_room (Nat.le_of_ble_eq_true rfl)) dX8_isNoCompany_11 ⟨(Nat.le_of_ble_eq_true rfl), (Nat.le_of_ble_eq_true rfl)⟩) hR hS (fun r_11 w_11 H locs h hR _ hS => ?_)
  refine lv_if_ne (tgt := 21) hx hb dX8_isNoCompany_14 (by decide) (fun c_14 => ?_) (fun c_14 => ?_)
  · have h := h.1 c_14
    refine lv_iconst (v := (0 : Int32)) hx hb dX8_isNoCompany_21 (by decide) ?_
    refine W.widen (k := 0) (n := 0) (Nat.le_of_ble_eq_true rfl) (Nat.le_of_ble_eq_true rfl) ?_
    exact W.zret (v := (0 : Int32)) hx hb hr nbo_0.n (fun t ht hW9 => ⟨⟨(0 : Int32), w_11, rfl, h, rpt ht hR⟩, hS.F ht⟩) hS.2.2 dX8_isNoCompany_22
  · have h := h.2 c_14
    refine lv_iconst (v := (1 : Int32)) hx hb dX8_isNoCompany_17 (by decide) ?_
    refine lv_goto (tgt := 22) hx hb dX8_isNoCompany_18 (by decide) ?_
    refine W.widen (k := 0) (n := 0) (Nat.le_of_ble_eq_true rfl) (Nat.le_of_ble_eq_true rfl) ?_
    exact W.zret (v := (1 : Int32)) hx hb hr nbo_1.n (fun t ht hW9 => ⟨⟨(1 : Int32), w_11, rfl, h, rpt ht hR⟩, hS.F ht⟩) hS.2.2 dX8_isNoCompany_22
abbrev rm_X8_isTaken : Room := { frames := 3, cells := 1, slots := 4, locals := 68 }
def st_X8_isTaken_8 (κ : Kx) (y : Ly) (post : Int32 → Wd → Prop) (ex : Wd → Prop) (rec : Wd → Nat → Int32 → Prop) (v1 : Int32) (v2 : Int32) (w : Wd) (c3 : Nat) (z3 : Int32) : Prop := ((¬ (¬ c3 = mL y)) → (ex w )) ∧ (((¬ c3 = mL y)) → ((((2 : Int32) ≤ gv w 27 c3 4) → (rec w (c3 + 1) (nI c3))) ∧ ((¬ ((2 : Int32) ≤ gv w 27 c3 4)) → (((¬ gv w 27 c3 0 = v1) → (rec w (c3 + 1) (nI c3))) ∧ ((gv w 27 c3 0 = v1) → ((((gv w 27 c3 1) &&& v2 = 0) → (rec w (c3 + 1) (nI c3))) ∧ ((¬ ((gv w 27 c3 1) &&& v2 = 0)) → (post ((1 : Int32)) w))))))))
def sp_X8_isTaken_8 (κ : Kx) (y : Ly) (post : Int32 → Wd → Prop) (ex : Wd → Prop) (v1 : Int32) (v2 : Int32) : Nat → Wd → Nat → Int32 → Prop
  | 0 => fun _ _ _ => False
  | n + 1 => fun w c3 z3 => st_X8_isTaken_8 κ y post ex (sp_X8_isTaken_8 κ y post ex v1 v2 n) v1 v2 w c3 z3
set_option maxHeartbeats 4000000 in
theorem lp_X8_isTaken_8 {p : Program} {l : Launch} {e : Env} {s : State} {m : MethodId} {args : Array Value} {below : List Frame} {meth : Method} {c : Code} {κ : Kx} {y : Ly} {X : XR} {post : Int32 → Wd → Prop} {q3 : Nat} {v1 : Int32} {v2 : Int32} (hx : p.tables.exec = Jvm.exec) (hb : c.code = cX8_isTaken) (hr : meth.sig.returnType = (Option.some Jvm.ClassFile.FieldType.boolean)) (hml : c.maxLocals = 5) (hown : s.vm.findClass RX8 = some m.cls) (hts : ∀ w ∈ lw_all, w.before args s = true) (hlocks : meth.locks = false) (hK : KK κ s) (hM : WFm κ y)  {C1 S1 : Nat} (hC : C1 ≤ 1) (hSl : S1 ≤ 4) {ex : Wd → Prop}
    (kx : ∀ (w : Wd)  (H : Heap) (locs : List Loc) (ls : Array Slot) (cells slots : Nat) , ex w  → Rp κ w y X [] H → va_S (Af κ) s.heap H locs → lv_has ls 5 [] → cells ≤ C1 → slots ≤ S1 → W p l e (headSpec (ws_ yX8_isTaken cX8_isTaken 5 (Option.some Jvm.ClassFile.FieldType.boolean)) rm_X8_isTaken).room s m args below meth c H locs cells slots (MQ below (va_Qi post (fun w t => Rp κ w y X [] t.heap) (Af κ)) args s 1 4 (Af κ)) (F0 m 61 ls [])) :
    ∀ (f : Nat) (w : Wd) (c3 : Nat) (z3 : Int32) (H : Heap) (locs : List Loc) (ls : Array Slot) (cells slots : Nat)  (hc3 : c3 ≤ mL y), sp_X8_isTaken_8 κ y post ex v1 v2 f w c3 z3 → Rp κ w y X [(q3, itC y 54 0 c3 z3)] H → va_S (Af κ) s.heap H locs → lv_has ls 5 [(1, .int (v1)), (2, .int (v2)), (3, .ref (q3))] → cells + f * 0 ≤ C1 → slots + f * 0 ≤ S1 → W p l e (headSpec (ws_ yX8_isTaken cX8_isTaken 5 (Option.some Jvm.ClassFile.FieldType.boolean)) rm_X8_isTaken).room s m args below meth c H locs cells slots (MQ below (va_Qi post (fun w t => Rp κ w y X [] t.heap) (Af κ)) args s 1 4 (Af κ)) (F0 m 8 ls []) := by
  intro f
  induction f with
  | zero =>
    intro w c3 z3 H locs ls cells slots hc3 h
    exact False.elim h
  | succ f ih =>
    intro w c3 z3 H locs ls cells slots hc3 h hR hS hl hc hs
    have h : st_X8_isTaken_8 κ y post ex (sp_X8_isTaken_8 κ y post ex v1 v2 f) v1 v2 w c3 z3 := h
    unfold st_X8_isTaken_8 at h
    refine lv_aload_n hx hb dX8_isTaken_8 rfl (lv_at hl 2 rfl) ?_
    refine jr_hasNext (t := 0) ⟨hx, hb, hml, hown, hts⟩ hK hR rfl ⟨fun _ _ _ _ _ => rfl, fun _ _ _ _ _ => rfl⟩ hM.lsL (by omega) (Nat.le_trans hM.mL8 (by decide)) q2250 ⟨Nat.le_of_ble_eq_true rfl, Nat.le_of_ble_eq_true rfl⟩ hl.1 (Nat.le_of_ble_eq_true rfl) dX8_isTaken_9 ⟨(Nat.le_trans (show cells + 0 ≤ C1 from by omega) hC), (Nat.le_trans (show slots + 0 ≤ S1 from by omega) hSl)⟩ ?_
    refine lv_if_eq (tgt := 61) hx hb dX8_isTaken_14 (by decide) (fun c_14 => ?_) (fun c_14 => ?_)
    · replace c_14 : ¬ (¬ c3 = mL y) := bi_0.mp c_14
      have h := h.1 c_14
      have hR := hR.sub (L' := []) [] rfl rfl
      exact kx w  _ _ _ _ _ h hR hS (lv_sub hl [] rfl) (by omega) (by omega)
    · replace c_14 : (¬ c3 = mL y) := bi_n0.mp c_14
      have h := h.2 c_14
      refine lv_aload_n hx hb dX8_isTaken_17 rfl (lv_at hl 2 rfl) ?_
      have hn_18 : c3 < mL y := by omega
      refine jr_next (t := 0) (a := y.2 27 c3) ⟨hx, hb, hml, hown, hts⟩ hK hR hS rfl ⟨fun _ _ _ _ _ => rfl, fun _ _ _ _ _ => rfl⟩ hM.lsL ⟨hM.arL (Nat.lt_of_le_of_lt (Nat.zero_le _) hn_18), (Nat.le_trans hM.mL8 (by decide))⟩ hn_18 (hM.elL hn_18) q2252 ⟨Nat.le_of_ble_eq_true rfl, Nat.le_of_ble_eq_true rfl⟩ hl.1 (Nat.le_of_ble_eq_true rfl) dX8_isTaken_18 ⟨(Nat.le_trans (show cells + 0 ≤ C1 from by omega) hC), (Nat.le_trans (show slots + 0 ≤ S1 from by omega) hSl)⟩ (fun H locs hR hS => ?_)
      have hR : Rp κ w y X [(q3, itC y 54 0 (c3 + 1) (nI c3))] H := hR
      refine jr_castS (ci := 14) hx hb hown hK hts (hR.role (hM.lot hn_18)) rfl q2253 dX8_isTaken_23 ?_
      refine lv_astore (lv' := [(4, .ref (y.2 27 c3)), (1, .int (v1)), (2, .int (v2)), (3, .ref (q3))]) hx hb dX8_isTaken_26 hl (by decide) rfl (fun ls hl => ?_)
      refine lv_aload hx hb dX8_isTaken_28 (lv_at hl 0 rfl) ?_
      refine g27_4 hx hb hts hown hK hR (hM.lot hn_18) q2264 dX8_isTaken_30 ?_
      refine lv_iconst (v := (2 : Int32)) hx hb dX8_isTaken_33 (by decide) ?_
      refine lv_icmp_ge (tgt := 58) hx hb dX8_isTaken_34 (by decide) (fun c_34 => ?_) (fun c_34 => ?_)
      · have h := h.1 c_34
        refine lv_goto (tgt := 8) hx hb dX8_isTaken_58 (by decide) ?_
        exact ih w (c3 + 1) (nI c3) _ _ _ _ _ (by omega) h hR hS (lv_sub hl [1, 2, 3] rfl) (by omega) (by omega)
      · have h := h.2 c_34
        refine lv_aload hx hb dX8_isTaken_37 (lv_at hl 0 rfl) ?_
        refine g27_0 hx hb hts hown hK hR (hM.lot hn_18) q2259 dX8_isTaken_39 ?_
        refine lv_iload_n hx hb dX8_isTaken_42 rfl (lv_at hl 1 rfl) ?_
        refine lv_icmp_ne (tgt := 58) hx hb dX8_isTaken_43 (by decide) (fun c_43 => ?_) (fun c_43 => ?_)
        · have h := h.1 c_43
          refine lv_goto (tgt := 8) hx hb dX8_isTaken_58 (by decide) ?_
          exact ih w (c3 + 1) (nI c3) _ _ _ _ _ (by omega) h hR hS (lv_sub hl [1, 2, 3] rfl) (by omega) (by omega)
        · have h := h.2 c_43
          refine lv_aload hx hb dX8_isTaken_46 (lv_at hl 0 rfl) ?_
          refine g27_1 hx hb hts hown hK hR (hM.lot hn_18) q2260 dX8_isTaken_48 ?_
          refine lv_iload_n hx hb dX8_isTaken_51 rfl (lv_at hl 2 rfl) ?_
          refine lv_iand hx hb dX8_isTaken_52 ?_
          refine lv_if_eq (tgt := 58) hx hb dX8_isTaken_53 (by decide) (fun c_53 => ?_) (fun c_53 => ?_)
          · have h := h.1 c_53
            refine lv_goto (tgt := 8) hx hb dX8_isTaken_58 (by decide) ?_
            exact ih w (c3 + 1) (nI c3) _ _ _ _ _ (by omega) h hR hS (lv_sub hl [1, 2, 3] rfl) (by omega) (by omega)
          · have h := h.2 c_53
            refine lv_iconst (v := (1 : Int32)) hx hb dX8_isTaken_56 (by decide) ?_
            have hR := hR.sub (L' := []) [] rfl rfl
            refine W.widen (k := 1) (n := 4) (Nat.le_trans (show cells ≤ C1 from by omega) hC) (Nat.le_trans (show slots ≤ S1 from by omega) hSl) ?_
            exact W.zret (v := (1 : Int32)) hx hb hr nbo_1.n (fun t ht hW9 => ⟨⟨(1 : Int32), w, rfl, h, rpt ht hR⟩, hS.F ht⟩) hS.2.2 dX8_isTaken_57
def sp_X8_isTaken (κ : Kx) (y : Ly) (post : Int32 → Wd → Prop) (w : Wd) (p1 : Int32) (p2 : Int32) : Prop := sp_X8_isTaken_8 κ y post (fun w_8  => post ((0 : Int32)) w_8) p1 p2 9 w 0 (-1)
theorem hd_X8_isTaken : yX8_isTaken.cls = RX8 ∧ yX8_isTaken.cls ≠ "java/lang/invoke/MethodHandle" ∧ yX8_isTaken.cls ≠ "java/lang/invoke/VarHandle" ∧ (parseMethodDescriptor yX8_isTaken.desc).map (fun d => d.parameters.length) = some 2 := by decide +kernel
set_option maxHeartbeats 4000000 in
theorem m_X8_isTaken {l : Launch} {κ : Kx} {y : Ly} {X : XR} {post : Int32 → Wd → Prop} {w : Wd} {p1 : Int32} {p2 : Int32}  (hM : WFm κ y) (l0 : live y 20 0) (h : sp_X8_isTaken κ y post w p1 p2) : Met l yX8_isTaken (ws_ yX8_isTaken cX8_isTaken 5 (Option.some Jvm.ClassFile.FieldType.boolean)) rm_X8_isTaken (va_Pc [.ref (y.2 20 0), .int (p1), .int (p2)] (RC κ w y X)) (va_Qi post (fun w t => Rp κ w y X [] t.heap) (Af κ)) 1 4 (Af κ) := by
  unfold sp_X8_isTaken at h
  refine Met.ofW (cc := cX8_isTaken) (maxL := 5) (ret := (Option.some Jvm.ClassFile.FieldType.boolean)) (by decide) rfl ?_
  intro p e s m args below meth c s₁ B hml hv
  obtain ⟨rfl, hR, hK⟩ := hv
  have hx := B.exec
  have hb := B.bytes
  have hr := B.returns
  have hts := atoms_spec (ws := ws_ yX8_isTaken cX8_isTaken 5 (Option.some Jvm.ClassFile.FieldType.boolean)) B.pre
  have hts : ∀ w ∈ lw_all, w.before _ s = true := fun w h => hts w (List.mem_cons_of_mem _ h)
  have hown : s.vm.findClass RX8 = some m.cls := findClass_of_methodNamed B.named
  have hlocks := B.notSynchronized
  have hS : va_S (Af κ) s.heap s.heap [] := va_S.rf
  have hl := lv_entry ([.ref (y.2 20 0), .int (p1), .int (p2)]) (n := 5) (Nat.le_of_ble_eq_true rfl)
  rw [lg_entry_eq]
  generalize (lg_sl ([.ref (y.2 20 0), .int (p1), .int (p2)]) ++ List.replicate (5 - (lg_sl ([.ref (y.2 20 0), .int (p1), .int (p2)])).length) Slot.unset).toArray = ls at hl ⊢
  have hl : lv_has ls 5 [(0, .ref (y.2 20 0)), (1, .int (p1)), (2, .int (p2))] := hl
  refine lv_aload_n hx hb dX8_isTaken_0 rfl (lv_at hl 0 rfl) ?_
  refine g20_5 hx hb hts hown hK hR l0 q1950 dX8_isTaken_1 ?_
  refine jr_iter ⟨hx, hb, hml, hown, hts⟩ hK hR hS ⟨fun _ _ _ _ _ => rfl, fun _ _ _ _ _ => rfl⟩ hM.lsL q2248 ⟨Nat.le_of_ble_eq_true rfl, Nat.le_of_ble_eq_true rfl⟩ hl.1 (Nat.le_of_ble_eq_true rfl) dX8_isTaken_4 ⟨(Nat.le_of_ble_eq_true rfl), (Nat.le_of_ble_eq_true rfl)⟩ (fun q_4 H locs hR hS => ?_)
  have hR : Rp κ w y X [(q_4, itC y 54 0 0 (-1))] H := hR
  refine lv_astore_n (lv' := [(3, .ref (q_4)), (0, .ref (y.2 20 0)), (1, .int (p1)), (2, .int (p2))]) hx hb dX8_isTaken_7 rfl hl (by decide) rfl (fun ls hl => ?_)
  refine lp_X8_isTaken_8 (C1 := 1) (S1 := 4) hx hb hr hml hown hts hlocks hK hM  (Nat.le_of_ble_eq_true rfl) (Nat.le_of_ble_eq_true rfl) (fun w_8  H locs ls cells9 slots9 h hR hS hl hc9 hs9 => ?_) 9 w 0 (-1) _ _ _ _ _ (by omega) h hR hS (lv_sub hl [2, 3, 0] rfl) (by omega) (by omega)
  refine W.widen (k := 1) (n := 4) hc9 hs9 ?_
  refine lv_iconst (v := (0 : Int32)) hx hb dX8_isTaken_61 (by decide) ?_
  refine W.widen (k := 1) (n := 4) (Nat.le_of_ble_eq_true rfl) (Nat.le_of_ble_eq_true rfl) ?_
  exact W.zret (v := (0 : Int32)) hx hb hr nbo_0.n (fun t ht hW9 => ⟨⟨(0 : Int32), w_8, rfl, h, rpt ht hR⟩, hS.F ht⟩) hS.2.2 dX8_isTaken_62
abbrev rm_X8_isNoLot : Room := { frames := 1, cells := 0, slots := 0, locals := 22 }
def sp_X8_isNoLot (κ : Kx) (y : Ly) (post : Int32 → Wd → Prop) (w : Wd) (p1 : Int32) : Prop := sp_X8_isIn κ y (fun r_11 w_11 => ((¬ r_11 = 0) → (post ((0 : Int32)) w_11)) ∧ ((r_11 = 0) → (post ((1 : Int32)) w_11))) w p1 (0 : Int32) ((nI (mL y)) - (1 : Int32))
theorem hd_X8_isNoLot : yX8_isNoLot.cls = RX8 ∧ yX8_isNoLot.cls ≠ "java/lang/invoke/MethodHandle" ∧ yX8_isNoLot.cls ≠ "java/lang/invoke/VarHandle" ∧ (parseMethodDescriptor yX8_isNoLot.desc).map (fun d => d.parameters.length) = some 1 := by decide +kernel
set_option maxHeartbeats 4000000 in
theorem m_X8_isNoLot {l : Launch} {κ : Kx} {y : Ly} {X : XR} {post : Int32 → Wd → Prop} {w : Wd} {p1 : Int32}  (hM : WFm κ y) (l0 : live y 20 0) (h : sp_X8_isNoLot κ y post w p1) : Met l yX8_isNoLot (ws_ yX8_isNoLot cX8_isNoLot 2 (Option.some Jvm.ClassFile.FieldType.boolean)) rm_X8_isNoLot (va_Pc [.ref (y.2 20 0), .int (p1)] (RC κ w y X)) (va_Qi post (fun w t => Rp κ w y X [] t.heap) (Af κ)) 0 0 (Af κ) := by
  unfold sp_X8_isNoLot at h
  refine Met.ofW (cc := cX8_isNoLot) (maxL := 2) (ret := (Option.some Jvm.ClassFile.FieldType.boolean)) (by decide) rfl ?_
  intro p e s m args below meth c s₁ B hml hv
  obtain ⟨rfl, hR, hK⟩ := hv
  have hx := B.exec
  have hb := B.bytes
  have hr := B.returns
  have hts := atoms_spec (ws := ws_ yX8_isNoLot cX8_isNoLot 2 (Option.some Jvm.ClassFile.FieldType.boolean)) B.pre
  have hts : ∀ w ∈ lw_all, w.before _ s = true := fun w h => hts w (List.mem_cons_of_mem _ h)
  have hown : s.vm.findClass RX8 = some m.cls := findClass_of_methodNamed B.named
  have hlocks := B.notSynchronized
  have hS : va_S (Af κ) s.heap s.heap [] := va_S.rf
  have hl := lv_entry ([.ref (y.2 20 0), .int (p1)]) (n := 2) (Nat.le_of_ble_eq_true rfl)
  rw [lg_entry_eq]
  generalize (lg_sl ([.ref (y.2 20 0), .int (p1)]) ++ List.replicate (2 - (lg_sl ([.ref (y.2 20 0), .int (p1)])).length) Slot.unset).toArray = ls at hl ⊢
  have hl : lv_has ls 2 [(0, .ref (y.2 20 0)), (1, .int (p1))] := hl
  refine lv_iload_n hx hb dX8_isNoLot_0 rfl (lv_at hl 1 rfl) ?_
  refine lv_iconst (v := (0 : Int32)) hx hb dX8_isNoLot_1 (by decide) ?_
  refine lv_aload_n hx hb dX8_isNoLot_2 rfl (lv_at hl 0 rfl) ?_
  refine g20_5 hx hb hts hown hK hR l0 q1950 dX8_isNoLot_3 ?_
  refine jr_size ⟨hx, hb, hml, hown, hts⟩ hK hR ⟨fun _ _ _ _ _ => rfl, fun _ _ _ _ _ => rfl⟩ hM.lsL q2031 ⟨Nat.le_of_ble_eq_true rfl, Nat.le_of_ble_eq_true rfl⟩ hl.1 (Nat.le_of_ble_eq_true rfl) dX8_isNoLot_6 ⟨(Nat.le_of_ble_eq_true rfl), (Nat.le_of_ble_eq_true rfl)⟩ ?_
  refine lv_iconst (v := (1 : Int32)) hx hb dX8_isNoLot_9 (by decide) ?_
  refine lv_isub hx hb dX8_isNoLot_10 ?_
  refine ce_qi (fw := fun u => u) (fy := fun _ => y) (cr_S (n := 3) (As := [.int (p1), .int ((0 : Int32)), .int ((nI (mL y)) - (1 : Int32))]) (rest := []) ⟨hx, hb, hml, hown, hts⟩ hK hR (m_X8_isIn hM h) q2020 q2021 q85 q2022 rfl rfl hds_X8_isIn ⟨Nat.le_of_ble_eq_true rfl, Nat.le_of_ble_eq_true rfl⟩ rfl rfl hl.1 rfl (lv_room (Nat.le_of_ble_eq_true rfl)) dX8_isNoLot_11 ⟨(Nat.le_of_ble_eq_true rfl), (Nat.le_of_ble_eq_true rfl)⟩) hR hS (fun r_11 w_11 H locs h hR _ hS => ?_)
  refine lv_if_ne (tgt := 21) hx hb dX8_isNoLot_14 (by decide) (fun c_14 => ?_) (fun c_14 => ?_)
  · have h := h.1 c_14
    refine lv_iconst (v := (0 : Int32)) hx hb dX8_isNoLot_21 (by decide) ?_
    refine W.widen (k := 0) (n := 0) (Nat.le_of_ble_eq_true rfl) (Nat.le_of_ble_eq_true rfl) ?_
    exact W.zret (v := (0 : Int32)) hx hb hr nbo_0.n (fun t ht hW9 => ⟨⟨(0 : Int32), w_11, rfl, h, rpt ht hR⟩, hS.F ht⟩) hS.2.2 dX8_isNoLot_22
  · have h := h.2 c_14
    refine lv_iconst (v := (1 : Int32)) hx hb dX8_isNoLot_17 (by decide) ?_
    refine lv_goto (tgt := 22) hx hb dX8_isNoLot_18 (by decide) ?_
    refine W.widen (k := 0) (n := 0) (Nat.le_of_ble_eq_true rfl) (Nat.le_of_ble_eq_true rfl) ?_
    exact W.zret (v := (1 : Int32)) hx hb hr nbo_1.n (fun t ht hW9 => ⟨⟨(1 : Int32), w_11, rfl, h, rpt ht hR⟩, hS.F ht⟩) hS.2.2 dX8_isNoLot_22
abbrev rm_X8_pledged : Room := { frames := 3, cells := 1, slots := 4, locals := 68 }
def st_X8_pledged_10 (κ : Kx) (y : Ly) (post : Int32 → Wd → Prop) (ex : Wd → (Int32) → Prop) (rec : Wd → Int32 → Nat → Int32 → Prop) (v1 : Int32) (w : Wd) (v2 : Int32) (c3 : Nat) (z3 : Int32) : Prop := ((¬ (¬ c3 = mL y)) → (ex w v2)) ∧ (((¬ c3 = mL y)) → (((¬ gv w 27 c3 4 = (1 : Int32)) → (∀ x_61 : Int32, x_61 = v2 + (0 : Int32) → rec w x_61 (c3 + 1) (nI c3))) ∧ ((gv w 27 c3 4 = (1 : Int32)) → (((¬ gv w 27 c3 5 = v1) → (∀ x_61_a : Int32, x_61_a = v2 + (0 : Int32) → rec w x_61_a (c3 + 1) (nI c3))) ∧ ((gv w 27 c3 5 = v1) → (∀ x_61_b : Int32, x_61_b = v2 + ((gv w 27 c3 6) / (4 : Int32)) → rec w x_61_b (c3 + 1) (nI c3)))))))
def sp_X8_pledged_10 (κ : Kx) (y : Ly) (post : Int32 → Wd → Prop) (ex : Wd → (Int32) → Prop) (v1 : Int32) : Nat → Wd → Int32 → Nat → Int32 → Prop
  | 0 => fun _ _ _ _ => False
  | n + 1 => fun w v2 c3 z3 => st_X8_pledged_10 κ y post ex (sp_X8_pledged_10 κ y post ex v1 n) v1 w v2 c3 z3
set_option maxHeartbeats 4000000 in
theorem lp_X8_pledged_10 {p : Program} {l : Launch} {e : Env} {s : State} {m : MethodId} {args : Array Value} {below : List Frame} {meth : Method} {c : Code} {κ : Kx} {y : Ly} {X : XR} {post : Int32 → Wd → Prop} {q3 : Nat} {v1 : Int32} (hx : p.tables.exec = Jvm.exec) (hb : c.code = cX8_pledged) (hr : meth.sig.returnType = (Option.some Jvm.ClassFile.FieldType.int)) (hml : c.maxLocals = 5) (hown : s.vm.findClass RX8 = some m.cls) (hts : ∀ w ∈ lw_all, w.before args s = true) (hlocks : meth.locks = false) (hK : KK κ s) (hM : WFm κ y)  {C1 S1 : Nat} (hC : C1 ≤ 1) (hSl : S1 ≤ 4) {ex : Wd → (Int32) → Prop}
    (kx : ∀ (w : Wd) (v2 : Int32) (H : Heap) (locs : List Loc) (ls : Array Slot) (cells slots : Nat) , ex w v2 → Rp κ w y X [] H → va_S (Af κ) s.heap H locs → lv_has ls 5 [(2, .int (v2))] → cells ≤ C1 → slots ≤ S1 → W p l e (headSpec (ws_ yX8_pledged cX8_pledged 5 (Option.some Jvm.ClassFile.FieldType.int)) rm_X8_pledged).room s m args below meth c H locs cells slots (MQ below (va_Qi post (fun w t => Rp κ w y X [] t.heap) (Af κ)) args s 1 4 (Af κ)) (F0 m 65 ls [])) :
    ∀ (f : Nat) (w : Wd) (v2 : Int32) (c3 : Nat) (z3 : Int32) (H : Heap) (locs : List Loc) (ls : Array Slot) (cells slots : Nat)  (hc3 : c3 ≤ mL y), sp_X8_pledged_10 κ y post ex v1 f w v2 c3 z3 → Rp κ w y X [(q3, itC y 54 0 c3 z3)] H → va_S (Af κ) s.heap H locs → lv_has ls 5 [(1, .int (v1)), (2, .int (v2)), (3, .ref (q3))] → cells + f * 0 ≤ C1 → slots + f * 0 ≤ S1 → W p l e (headSpec (ws_ yX8_pledged cX8_pledged 5 (Option.some Jvm.ClassFile.FieldType.int)) rm_X8_pledged).room s m args below meth c H locs cells slots (MQ below (va_Qi post (fun w t => Rp κ w y X [] t.heap) (Af κ)) args s 1 4 (Af κ)) (F0 m 10 ls []) := by
  intro f
  induction f with
  | zero =>
    intro w v2 c3 z3 H locs ls cells slots hc3 h
    exact False.elim h
  | succ f ih =>
    intro w v2 c3 z3 H locs ls cells slots hc3 h hR hS hl hc hs
    have h : st_X8_pledged_10 κ y post ex (sp_X8_pledged_10 κ y post ex v1 f) v1 w v2 c3 z3 := h
    unfold st_X8_pledged_10 at h
    refine lv_aload_n hx hb dX8_pledged_10 rfl (lv_at hl 2 rfl) ?_
    refine jr_hasNext (t := 0) ⟨hx, hb, hml, hown, hts⟩ hK hR rfl ⟨fun _ _ _ _ _ => rfl, fun _ _ _ _ _ => rfl⟩ hM.lsL (by omega) (Nat.le_trans hM.mL8 (by decide)) q2250 ⟨Nat.le_of_ble_eq_true rfl, Nat.le_of_ble_eq_true rfl⟩ hl.1 (Nat.le_of_ble_eq_true rfl) dX8_pledged_11 ⟨(Nat.le_trans (show cells + 0 ≤ C1 from by omega) hC), (Nat.le_trans (show slots + 0 ≤ S1 from by omega) hSl)⟩ ?_
    refine lv_if_eq (tgt := 65) hx hb dX8_pledged_16 (by decide) (fun c_16 => ?_) (fun c_16 => ?_)
    · replace c_16 : ¬ (¬ c3 = mL y) := bi_0.mp c_16
      have h := h.1 c_16
      have hR := hR.sub (L' := []) [] rfl rfl
      exact kx w v2 _ _ _ _ _ h hR hS (lv_sub hl [1] rfl) (by omega) (by omega)
    · replace c_16 : (¬ c3 = mL y) := bi_n0.mp c_16
      have h := h.2 c_16
      refine lv_aload_n hx hb dX8_pledged_19 rfl (lv_at hl 2 rfl) ?_
      have hn_20 : c3 < mL y := by omega
      refine jr_next (t := 0) (a := y.2 27 c3) ⟨hx, hb, hml, hown, hts⟩ hK hR hS rfl ⟨fun _ _ _ _ _ => rfl, fun _ _ _ _ _ => rfl⟩ hM.lsL ⟨hM.arL (Nat.lt_of_le_of_lt (Nat.zero_le _) hn_20), (Nat.le_trans hM.mL8 (by decide))⟩ hn_20 (hM.elL hn_20) q2252 ⟨Nat.le_of_ble_eq_true rfl, Nat.le_of_ble_eq_true rfl⟩ hl.1 (Nat.le_of_ble_eq_true rfl) dX8_pledged_20 ⟨(Nat.le_trans (show cells + 0 ≤ C1 from by omega) hC), (Nat.le_trans (show slots + 0 ≤ S1 from by omega) hSl)⟩ (fun H locs hR hS => ?_)
      have hR : Rp κ w y X [(q3, itC y 54 0 (c3 + 1) (nI c3))] H := hR
      refine jr_castS (ci := 14) hx hb hown hK hts (hR.role (hM.lot hn_20)) rfl q2253 dX8_pledged_25 ?_
      refine lv_astore (lv' := [(4, .ref (y.2 27 c3)), (1, .int (v1)), (2, .int (v2)), (3, .ref (q3))]) hx hb dX8_pledged_28 hl (by decide) rfl (fun ls hl => ?_)
      refine lv_iload_n hx hb dX8_pledged_30 rfl (lv_at hl 2 rfl) ?_
      refine lv_aload hx hb dX8_pledged_31 (lv_at hl 0 rfl) ?_
      refine g27_4 hx hb hts hown hK hR (hM.lot hn_20) q2264 dX8_pledged_33 ?_
      refine lv_iconst (v := (1 : Int32)) hx hb dX8_pledged_36 (by decide) ?_
      refine lv_icmp_ne (tgt := 59) hx hb dX8_pledged_37 (by decide) (fun c_37 => ?_) (fun c_37 => ?_)
      · have h := h.1 c_37
        refine lv_iconst (v := (0 : Int32)) hx hb dX8_pledged_59 (by decide) ?_
        refine lv_iadd hx hb dX8_pledged_60 ?_
        refine lv_topi (fun x_61 ex_61 => ?_)
        have h := h x_61 ex_61
        refine lv_istore_n (lv' := [(2, .int (x_61)), (4, .ref (y.2 27 c3)), (1, .int (v1)), (3, .ref (q3))]) hx hb dX8_pledged_61 rfl hl (by decide) rfl (fun ls hl => ?_)
        refine lv_goto (tgt := 10) hx hb dX8_pledged_62 (by decide) ?_
        exact ih w x_61 (c3 + 1) (nI c3) _ _ _ _ _ (by omega) h hR hS (lv_sub hl [2, 0, 3] rfl) (by omega) (by omega)
      · have h := h.2 c_37
        refine lv_aload hx hb dX8_pledged_40 (lv_at hl 0 rfl) ?_
        refine g27_5 hx hb hts hown hK hR (hM.lot hn_20) q2266 dX8_pledged_42 ?_
        refine lv_iload_n hx hb dX8_pledged_45 rfl (lv_at hl 1 rfl) ?_
        refine lv_icmp_ne (tgt := 59) hx hb dX8_pledged_46 (by decide) (fun c_46 => ?_) (fun c_46 => ?_)
        · have h := h.1 c_46
          refine lv_iconst (v := (0 : Int32)) hx hb dX8_pledged_59 (by decide) ?_
          refine lv_iadd hx hb dX8_pledged_60 ?_
          refine lv_topi (fun x_61_a ex_61_a => ?_)
          have h := h x_61_a ex_61_a
          refine lv_istore_n (lv' := [(2, .int (x_61_a)), (4, .ref (y.2 27 c3)), (1, .int (v1)), (3, .ref (q3))]) hx hb dX8_pledged_61 rfl hl (by decide) rfl (fun ls hl => ?_)
          refine lv_goto (tgt := 10) hx hb dX8_pledged_62 (by decide) ?_
          exact ih w x_61_a (c3 + 1) (nI c3) _ _ _ _ _ (by omega) h hR hS (lv_sub hl [2, 0, 3] rfl) (by omega) (by omega)
        · have h := h.2 c_46
          refine lv_aload hx hb dX8_pledged_49 (lv_at hl 0 rfl) ?_
          refine g27_6 hx hb hts hown hK hR (hM.lot hn_20) q2267 dX8_pledged_51 ?_
          refine lv_iconst (v := (4 : Int32)) hx hb dX8_pledged_54 (by decide) ?_
          refine lv_idiv hx hb dX8_pledged_55 (by decide) ?_
          refine lv_goto (tgt := 60) hx hb dX8_pledged_56 (by decide) ?_
          refine lv_iadd hx hb dX8_pledged_60 ?_
          refine lv_topi (fun x_61_b ex_61_b => ?_)
          have h := h x_61_b ex_61_b
          refine lv_istore_n (lv' := [(2, .int (x_61_b)), (4, .ref (y.2 27 c3)), (1, .int (v1)), (3, .ref (q3))]) hx hb dX8_pledged_61 rfl hl (by decide) rfl (fun ls hl => ?_)
          refine lv_goto (tgt := 10) hx hb dX8_pledged_62 (by decide) ?_
          exact ih w x_61_b (c3 + 1) (nI c3) _ _ _ _ _ (by omega) h hR hS (lv_sub hl [2, 0, 3] rfl) (by omega) (by omega)
def sp_X8_pledged (κ : Kx) (y : Ly) (post : Int32 → Wd → Prop) (w : Wd) (p1 : Int32) : Prop := sp_X8_pledged_10 κ y post (fun w_10 y2_10 => post (y2_10) w_10) p1 9 w (0 : Int32) 0 (-1)
theorem hd_X8_pledged : yX8_pledged.cls = RX8 ∧ yX8_pledged.cls ≠ "java/lang/invoke/MethodHandle" ∧ yX8_pledged.cls ≠ "java/lang/invoke/VarHandle" ∧ (parseMethodDescriptor yX8_pledged.desc).map (fun d => d.parameters.length) = some 1 := by decide +kernel
set_option maxHeartbeats 4000000 in
theorem m_X8_pledged {l : Launch} {κ : Kx} {y : Ly} {X : XR} {post : Int32 → Wd → Prop} {w : Wd} {p1 : Int32}  (hM : WFm κ y) (l0 : live y 20 0) (h : sp_X8_pledged κ y post w p1) : Met l yX8_pledged (ws_ yX8_pledged cX8_pledged 5 (Option.some Jvm.ClassFile.FieldType.int)) rm_X8_pledged (va_Pc [.ref (y.2 20 0), .int (p1)] (RC κ w y X)) (va_Qi post (fun w t => Rp κ w y X [] t.heap) (Af κ)) 1 4 (Af κ) := by
  unfold sp_X8_pledged at h
  refine Met.ofW (cc := cX8_pledged) (maxL := 5) (ret := (Option.some Jvm.ClassFile.FieldType.int)) (by decide) rfl ?_
  intro p e s m args below meth c s₁ B hml hv
  obtain ⟨rfl, hR, hK⟩ := hv
  have hx := B.exec
  have hb := B.bytes
  have hr := B.returns
  have hts := atoms_spec (ws := ws_ yX8_pledged cX8_pledged 5 (Option.some Jvm.ClassFile.FieldType.int)) B.pre
  have hts : ∀ w ∈ lw_all, w.before _ s = true := fun w h => hts w (List.mem_cons_of_mem _ h)
  have hown : s.vm.findClass RX8 = some m.cls := findClass_of_methodNamed B.named
  have hlocks := B.notSynchronized
  have hS : va_S (Af κ) s.heap s.heap [] := va_S.rf
  have hl := lv_entry ([.ref (y.2 20 0), .int (p1)]) (n := 5) (Nat.le_of_ble_eq_true rfl)
  rw [lg_entry_eq]
  generalize (lg_sl ([.ref (y.2 20 0), .int (p1)]) ++ List.replicate (5 - (lg_sl ([.ref (y.2 20 0), .int (p1)])).length) Slot.unset).toArray = ls at hl ⊢
  have hl : lv_has ls 5 [(0, .ref (y.2 20 0)), (1, .int (p1))] := hl
  refine lv_iconst (v := (0 : Int32)) hx hb dX8_pledged_0 (by decide) ?_
  refine lv_istore_n (lv' := [(2, .int ((0 : Int32))), (0, .ref (y.2 20 0)), (1, .int (p1))]) hx hb dX8_pledged_1 rfl hl (by decide) rfl (fun ls hl => ?_)
  refine lv_aload_n hx hb dX8_pledged_2 rfl (lv_at hl 1 rfl) ?_
  refine g20_5 hx hb hts hown hK hR l0 q1950 dX8_pledged_3 ?_
  refine jr_iter ⟨hx, hb, hml, hown, hts⟩ hK hR hS ⟨fun _ _ _ _ _ => rfl, fun _ _ _ _ _ => rfl⟩ hM.lsL q2248 ⟨Nat.le_of_ble_eq_true rfl, Nat.le_of_ble_eq_true rfl⟩ hl.1 (Nat.le_of_ble_eq_true rfl) dX8_pledged_6 ⟨(Nat.le_of_ble_eq_true rfl), (Nat.le_of_ble_eq_true rfl)⟩ (fun q_6 H locs hR hS => ?_)
  have hR : Rp κ w y X [(q_6, itC y 54 0 0 (-1))] H := hR
  refine lv_astore_n (lv' := [(3, .ref (q_6)), (2, .int ((0 : Int32))), (0, .ref (y.2 20 0)), (1, .int (p1))]) hx hb dX8_pledged_9 rfl hl (by decide) rfl (fun ls hl => ?_)
  refine lp_X8_pledged_10 (C1 := 1) (S1 := 4) hx hb hr hml hown hts hlocks hK hM  (Nat.le_of_ble_eq_true rfl) (Nat.le_of_ble_eq_true rfl) (fun w_10 y2_10 H locs ls cells9 slots9 h hR hS hl hc9 hs9 => ?_) 9 w (0 : Int32) 0 (-1) _ _ _ _ _ (by omega) h hR hS (lv_sub hl [3, 1, 0] rfl) (by omega) (by omega)
  refine W.widen (k := 1) (n := 4) hc9 hs9 ?_
  refine lv_iload_n hx hb dX8_pledged_65 rfl (lv_at hl 0 rfl) ?_
  refine W.widen (k := 1) (n := 4) (Nat.le_of_ble_eq_true rfl) (Nat.le_of_ble_eq_true rfl) ?_
  exact W.iret (v := y2_10) hx hb hr (fun t ht hW9 => ⟨⟨y2_10, w_10, rfl, h, rpt ht hR⟩, hS.F ht⟩) hS.2.2 dX8_pledged_66
abbrev rm_X8_highest : Room := { frames := 1, cells := 0, slots := 0, locals := 24 }
def st_X8_highest_13 (κ : Kx) (y : Ly) (post : Int32 → Wd → Prop) (ex : Wd → (Int32) → Prop) (rec : Wd → Int32 → Int32 → Prop) (i2 : Nat) (v3 : Int32) (w : Wd) (v1 : Int32) (v4 : Int32) : Prop := ((v3 ≤ v4) → (ex w v1)) ∧ ((¬ (v3 ≤ v4)) → ((vp_in (v4) 4) ∧ (∀ x_23 : Int32, x_23 = gv w 28 i2 (v4).toNatClampNeg → ∀ x_31 : Int32, x_31 = jmax v1 x_23 → ∀ x_32 : Int32, x_32 = v4 + (1 : Int32) → rec w x_31 x_32)))
def sp_X8_highest_13 (κ : Kx) (y : Ly) (post : Int32 → Wd → Prop) (ex : Wd → (Int32) → Prop) (i2 : Nat) (v3 : Int32) : Nat → Wd → Int32 → Int32 → Prop
  | 0 => fun _ _ _ => False
  | n + 1 => fun w v1 v4 => st_X8_highest_13 κ y post ex (sp_X8_highest_13 κ y post ex i2 v3 n) i2 v3 w v1 v4
set_option maxHeartbeats 4000000 in
theorem lp_X8_highest_13 {p : Program} {l : Launch} {e : Env} {s : State} {m : MethodId} {args : Array Value} {below : List Frame} {meth : Method} {c : Code} {κ : Kx} {y : Ly} {X : XR} {post : Int32 → Wd → Prop} {i2 : Nat} {v3 : Int32} (hx : p.tables.exec = Jvm.exec) (hb : c.code = cX8_highest) (hr : meth.sig.returnType = (Option.some Jvm.ClassFile.FieldType.int)) (hml : c.maxLocals = 6) (hown : s.vm.findClass RX8 = some m.cls) (hts : ∀ w ∈ lw_all, w.before args s = true) (hlocks : meth.locks = false) (hK : KK κ s) (hM : WFm κ y) (l2 : live y 28 i2) {C1 S1 : Nat} (hC : C1 ≤ 0) (hSl : S1 ≤ 0) {ex : Wd → (Int32) → Prop}
    (kx : ∀ (w : Wd) (v1 : Int32) (H : Heap) (locs : List Loc) (ls : Array Slot) (cells slots : Nat) , ex w v1 → Rp κ w y X [] H → va_S (Af κ) s.heap H locs → lv_has ls 6 [(1, .int (v1))] → cells ≤ C1 → slots ≤ S1 → W p l e (headSpec (ws_ yX8_highest cX8_highest 6 (Option.some Jvm.ClassFile.FieldType.int)) rm_X8_highest).room s m args below meth c H locs cells slots (MQ below (va_Qi post (fun w t => Rp κ w y X [] t.heap) (Af κ)) args s 0 0 (Af κ)) (F0 m 38 ls [])) :
    ∀ (f : Nat) (w : Wd) (v1 : Int32) (v4 : Int32) (H : Heap) (locs : List Loc) (ls : Array Slot) (cells slots : Nat)  , sp_X8_highest_13 κ y post ex i2 v3 f w v1 v4 → Rp κ w y X [] H → va_S (Af κ) s.heap H locs → lv_has ls 6 [(1, .int (v1)), (2, .ref (y.2 28 i2)), (3, .int (v3)), (4, .int (v4))] → cells + f * 0 ≤ C1 → slots + f * 0 ≤ S1 → W p l e (headSpec (ws_ yX8_highest cX8_highest 6 (Option.some Jvm.ClassFile.FieldType.int)) rm_X8_highest).room s m args below meth c H locs cells slots (MQ below (va_Qi post (fun w t => Rp κ w y X [] t.heap) (Af κ)) args s 0 0 (Af κ)) (F0 m 13 ls []) := by
  intro f
  induction f with
  | zero =>
    intro w v1 v4 H locs ls cells slots  h
    exact False.elim h
  | succ f ih =>
    intro w v1 v4 H locs ls cells slots  h hR hS hl hc hs
    have h : st_X8_highest_13 κ y post ex (sp_X8_highest_13 κ y post ex i2 v3 f) i2 v3 w v1 v4 := h
    unfold st_X8_highest_13 at h
    refine lv_iload hx hb dX8_highest_13 (lv_at hl 3 rfl) ?_
    refine lv_iload_n hx hb dX8_highest_15 rfl (lv_at hl 2 rfl) ?_
    refine lv_icmp_ge (tgt := 38) hx hb dX8_highest_16 (by decide) (fun c_16 => ?_) (fun c_16 => ?_)
    · have h := h.1 c_16
      exact kx w v1 _ _ _ _ _ h hR hS (lv_sub hl [0] rfl) (by omega) (by omega)
    · have h := h.2 c_16
      refine lv_aload_n hx hb dX8_highest_19 rfl (lv_at hl 1 rfl) ?_
      refine lv_iload hx hb dX8_highest_20 (lv_at hl 3 rfl) ?_
      have o_22 := h.1
      have h := h.2
      refine a28 hx hb hK hR l2 o_22 dX8_highest_22 ?_
      refine lv_topi (fun x_23 ex_23 => ?_)
      have h := h x_23 ex_23
      refine lv_istore (lv' := [(5, .int (x_23)), (1, .int (v1)), (2, .ref (y.2 28 i2)), (3, .int (v3)), (4, .int (v4))]) hx hb dX8_highest_23 hl (by decide) rfl (fun ls hl => ?_)
      refine lv_iload_n hx hb dX8_highest_25 rfl (lv_at hl 1 rfl) ?_
      refine lv_iload hx hb dX8_highest_26 (lv_at hl 0 rfl) ?_
      refine va_mmax hx hb (hml.trans hl.1.symm) hown (hts _ q2323) (hts _ q642) (hts _ q95) (hts _ q643) (Nat.le_of_ble_eq_true rfl) (Nat.le_of_ble_eq_true rfl) (Nat.le_trans (show cells + 0 ≤ C1 from by omega) hC) (Nat.le_trans (show slots + 0 ≤ S1 from by omega) hSl) dX8_highest_28 ?_
      refine lv_topi (fun x_31 ex_31 => ?_)
      have h := h x_31 ex_31
      refine lv_istore_n (lv' := [(1, .int (x_31)), (5, .int (x_23)), (2, .ref (y.2 28 i2)), (3, .int (v3)), (4, .int (v4))]) hx hb dX8_highest_31 rfl hl (by decide) rfl (fun ls hl => ?_)
      obtain ⟨x_32, ex_32⟩ : ∃ z : Int32, z = v4 + (1 : Int32) := ⟨_, rfl⟩
      have h := h x_32 ex_32
      refine lv_iinc (v := x_32) (lv' := [(4, .int (x_32)), (1, .int (x_31)), (5, .int (x_23)), (2, .ref (y.2 28 i2)), (3, .int (v3))]) hx hb dX8_highest_32 hl (k := 4) rfl (by rw [ex_32]; rfl) (by decide) rfl (fun ls hl => ?_)
      refine lv_goto (tgt := 13) hx hb dX8_highest_35 (by decide) ?_
      exact ih w x_31 x_32 _ _ _ _ _  h hR hS (lv_sub hl [1, 3, 4, 0] rfl) (by omega) (by omega)
def sp_X8_highest (κ : Kx) (y : Ly) (post : Int32 → Wd → Prop) (w : Wd) (a0 : Nat) : Prop := ∀ x_9 : Int32, x_9 = nI 4 → sp_X8_highest_13 κ y post (fun w_13 y1_13 => post (y1_13) w_13) a0 x_9 5 w (0 : Int32) (0 : Int32)
theorem hds_X8_highest : yX8_highest.cls ≠ "java/lang/invoke/MethodHandle" ∧ yX8_highest.cls ≠ "java/lang/invoke/VarHandle" ∧ (parseMethodDescriptor yX8_highest.desc).map (fun d => d.parameters.length) = some 1 := by decide +kernel
set_option maxHeartbeats 4000000 in
theorem m_X8_highest {l : Launch} {κ : Kx} {y : Ly} {X : XR} {post : Int32 → Wd → Prop} {w : Wd} {a0 : Nat}  (hM : WFm κ y) (l0 : live y 27 a0) (h : sp_X8_highest κ y post w a0) : Met l yX8_highest (ws_ yX8_highest cX8_highest 6 (Option.some Jvm.ClassFile.FieldType.int)) rm_X8_highest (va_Pc [.ref (y.2 27 a0)] (RC κ w y X)) (va_Qi post (fun w t => Rp κ w y X [] t.heap) (Af κ)) 0 0 (Af κ) := by
  unfold sp_X8_highest at h
  refine Met.ofW (cc := cX8_highest) (maxL := 6) (ret := (Option.some Jvm.ClassFile.FieldType.int)) (by decide) rfl ?_
  intro p e s m args below meth c s₁ B hml hv
  obtain ⟨rfl, hR, hK⟩ := hv
  have hx := B.exec
  have hb := B.bytes
  have hr := B.returns
  have hts := atoms_spec (ws := ws_ yX8_highest cX8_highest 6 (Option.some Jvm.ClassFile.FieldType.int)) B.pre
  have hts : ∀ w ∈ lw_all, w.before _ s = true := fun w h => hts w (List.mem_cons_of_mem _ h)
  have hown : s.vm.findClass RX8 = some m.cls := findClass_of_methodNamed B.named
  have hlocks := B.notSynchronized
  have hS : va_S (Af κ) s.heap s.heap [] := va_S.rf
  have hl := lv_entry ([.ref (y.2 27 a0)]) (n := 6) (Nat.le_of_ble_eq_true rfl)
  rw [lg_entry_eq]
  generalize (lg_sl ([.ref (y.2 27 a0)]) ++ List.replicate (6 - (lg_sl ([.ref (y.2 27 a0)])).length) Slot.unset).toArray = ls at hl ⊢
  have hl : lv_has ls 6 [(0, .ref (y.2 27 a0))] := hl
  refine lv_iconst (v := (0 : Int32)) hx hb dX8_highest_0 (by decide) ?_
  refine lv_istore_n (lv' := [(1, .int ((0 : Int32))), (0, .ref (y.2 27 a0))]) hx hb dX8_highest_1 rfl hl (by decide) rfl (fun ls hl => ?_)
  refine lv_aload_n hx hb dX8_highest_2 rfl (lv_at hl 1 rfl) ?_
  refine g27_11 hx hb hts hown hK hR l0 q2274 dX8_highest_3 ?_
  refine lv_astore_n (lv' := [(2, .ref (y.2 28 a0)), (1, .int ((0 : Int32))), (0, .ref (y.2 27 a0))]) hx hb dX8_highest_6 rfl hl (by decide) rfl (fun ls hl => ?_)
  refine lv_aload_n hx hb dX8_highest_7 rfl (lv_at hl 0 rfl) ?_
  refine n28 hx hb hK hR (hM.bid l0) dX8_highest_8 ?_
  refine lv_topi (fun x_9 ex_9 => ?_)
  have h := h x_9 ex_9
  refine lv_istore_n (lv' := [(3, .int (x_9)), (2, .ref (y.2 28 a0)), (1, .int ((0 : Int32))), (0, .ref (y.2 27 a0))]) hx hb dX8_highest_9 rfl hl (by decide) rfl (fun ls hl => ?_)
  refine lv_iconst (v := (0 : Int32)) hx hb dX8_highest_10 (by decide) ?_
  refine lv_istore (lv' := [(4, .int ((0 : Int32))), (3, .int (x_9)), (2, .ref (y.2 28 a0)), (1, .int ((0 : Int32))), (0, .ref (y.2 27 a0))]) hx hb dX8_highest_11 hl (by decide) rfl (fun ls hl => ?_)
  refine lp_X8_highest_13 (C1 := 0) (S1 := 0) hx hb hr hml hown hts hlocks hK hM (hM.bid l0) (Nat.le_of_ble_eq_true rfl) (Nat.le_of_ble_eq_true rfl) (fun w_13 y1_13 H locs ls cells9 slots9 h hR hS hl hc9 hs9 => ?_) 5 w (0 : Int32) (0 : Int32) _ _ _ _ _  h hR hS (lv_sub hl [3, 2, 1, 0] rfl) (by omega) (by omega)
  refine W.widen (k := 0) (n := 0) hc9 hs9 ?_
  refine lv_iload_n hx hb dX8_highest_38 rfl (lv_at hl 0 rfl) ?_
  refine W.widen (k := 0) (n := 0) (Nat.le_of_ble_eq_true rfl) (Nat.le_of_ble_eq_true rfl) ?_
  exact W.iret (v := y1_13) hx hb hr (fun t ht hW9 => ⟨⟨y1_13, w_13, rfl, h, rpt ht hR⟩, hS.F ht⟩) hS.2.2 dX8_highest_39
abbrev rm_X8_fallDue : Room := { frames := 3, cells := 1, slots := 4, locals := 93 }
def st_X8_fallDue_220 (κ : Kx) (y : Ly) (post : Wd → Prop) (ex : Wd → Prop) (rec : Wd → Nat → Int32 → Prop) (i1 : Nat) (w : Wd) (c7 : Nat) (z7 : Int32) : Prop := ((¬ (¬ c7 = mL y)) → (ex w )) ∧ (((¬ c7 = mL y)) → (((¬ gv w 27 c7 4 = (1 : Int32)) → (rec w (c7 + 1) (nI c7))) ∧ ((gv w 27 c7 4 = (1 : Int32)) → (((¬ gv w 27 c7 5 = gv w 27 i1 5) → (rec w (c7 + 1) (nI c7))) ∧ ((gv w 27 c7 5 = gv w 27 i1 5) → (∀ w_266 : Wd, w_266 = sv w 27 c7 4 ((2 : Int32)) → rec w_266 (c7 + 1) (nI c7)))))))
def sp_X8_fallDue_220 (κ : Kx) (y : Ly) (post : Wd → Prop) (ex : Wd → Prop) (i1 : Nat) : Nat → Wd → Nat → Int32 → Prop
  | 0 => fun _ _ _ => False
  | n + 1 => fun w c7 z7 => st_X8_fallDue_220 κ y post ex (sp_X8_fallDue_220 κ y post ex i1 n) i1 w c7 z7
set_option maxHeartbeats 4000000 in
theorem lp_X8_fallDue_220 {p : Program} {l : Launch} {e : Env} {s : State} {m : MethodId} {args : Array Value} {below : List Frame} {meth : Method} {c : Code} {κ : Kx} {y : Ly} {X : XR} {post : Wd → Prop} {q7 : Nat} {i1 : Nat} (hx : p.tables.exec = Jvm.exec) (hb : c.code = cX8_fallDue) (hr : meth.sig.returnType = (Option.none : Option Jvm.ClassFile.FieldType)) (hml : c.maxLocals = 9) (hown : s.vm.findClass RX8 = some m.cls) (hts : ∀ w ∈ lw_all, w.before args s = true) (hlocks : meth.locks = false) (hK : KK κ s) (hM : WFm κ y) (l1 : live y 27 i1) {C1 S1 : Nat} (hC : C1 ≤ 1) (hSl : S1 ≤ 4) {ex : Wd → Prop}
    (kx : ∀ (w : Wd)  (H : Heap) (locs : List Loc) (ls : Array Slot) (cells slots : Nat) , ex w  → Rp κ w y X [] H → va_S (Af κ) s.heap H locs → lv_has ls 9 [] → cells ≤ C1 → slots ≤ S1 → W p l e (headSpec (ws_ yX8_fallDue cX8_fallDue 9 (Option.none : Option Jvm.ClassFile.FieldType)) rm_X8_fallDue).room s m args below meth c H locs cells slots (MQ below (va_Qv post (fun w t => Rp κ w y X [] t.heap) (Af κ)) args s 1 4 (Af κ)) (F0 m 272 ls [])) :
    ∀ (f : Nat) (w : Wd) (c7 : Nat) (z7 : Int32) (H : Heap) (locs : List Loc) (ls : Array Slot) (cells slots : Nat)  (hc7 : c7 ≤ mL y), sp_X8_fallDue_220 κ y post ex i1 f w c7 z7 → Rp κ w y X [(q7, itC y 54 0 c7 z7)] H → va_S (Af κ) s.heap H locs → lv_has ls 9 [(1, .ref (y.2 27 i1)), (7, .ref (q7))] → cells + f * 0 ≤ C1 → slots + f * 0 ≤ S1 → W p l e (headSpec (ws_ yX8_fallDue cX8_fallDue 9 (Option.none : Option Jvm.ClassFile.FieldType)) rm_X8_fallDue).room s m args below meth c H locs cells slots (MQ below (va_Qv post (fun w t => Rp κ w y X [] t.heap) (Af κ)) args s 1 4 (Af κ)) (F0 m 220 ls []) := by
  intro f
  induction f with
  | zero =>
    intro w c7 z7 H locs ls cells slots hc7 h
    exact False.elim h
  | succ f ih =>
    intro w c7 z7 H locs ls cells slots hc7 h hR hS hl hc hs
    have h : st_X8_fallDue_220 κ y post ex (sp_X8_fallDue_220 κ y post ex i1 f) i1 w c7 z7 := h
    unfold st_X8_fallDue_220 at h
    refine lv_aload hx hb dX8_fallDue_220 (lv_at hl 1 rfl) ?_
    refine jr_hasNext (t := 0) ⟨hx, hb, hml, hown, hts⟩ hK hR rfl ⟨fun _ _ _ _ _ => rfl, fun _ _ _ _ _ => rfl⟩ hM.lsL (by omega) (Nat.le_trans hM.mL8 (by decide)) q2250 ⟨Nat.le_of_ble_eq_true rfl, Nat.le_of_ble_eq_true rfl⟩ hl.1 (Nat.le_of_ble_eq_true rfl) dX8_fallDue_222 ⟨(Nat.le_trans (show cells + 0 ≤ C1 from by omega) hC), (Nat.le_trans (show slots + 0 ≤ S1 from by omega) hSl)⟩ ?_
    refine lv_if_eq (tgt := 272) hx hb dX8_fallDue_227 (by decide) (fun c_227 => ?_) (fun c_227 => ?_)
    · replace c_227 : ¬ (¬ c7 = mL y) := bi_0.mp c_227
      have h := h.1 c_227
      have hR := hR.sub (L' := []) [] rfl rfl
      exact kx w  _ _ _ _ _ h hR hS (lv_sub hl [] rfl) (by omega) (by omega)
    · replace c_227 : (¬ c7 = mL y) := bi_n0.mp c_227
      have h := h.2 c_227
      refine lv_aload hx hb dX8_fallDue_230 (lv_at hl 1 rfl) ?_
      have hn_232 : c7 < mL y := by omega
      refine jr_next (t := 0) (a := y.2 27 c7) ⟨hx, hb, hml, hown, hts⟩ hK hR hS rfl ⟨fun _ _ _ _ _ => rfl, fun _ _ _ _ _ => rfl⟩ hM.lsL ⟨hM.arL (Nat.lt_of_le_of_lt (Nat.zero_le _) hn_232), (Nat.le_trans hM.mL8 (by decide))⟩ hn_232 (hM.elL hn_232) q2252 ⟨Nat.le_of_ble_eq_true rfl, Nat.le_of_ble_eq_true rfl⟩ hl.1 (Nat.le_of_ble_eq_true rfl) dX8_fallDue_232 ⟨(Nat.le_trans (show cells + 0 ≤ C1 from by omega) hC), (Nat.le_trans (show slots + 0 ≤ S1 from by omega) hSl)⟩ (fun H locs hR hS => ?_)
      have hR : Rp κ w y X [(q7, itC y 54 0 (c7 + 1) (nI c7))] H := hR
      refine jr_castS (ci := 14) hx hb hown hK hts (hR.role (hM.lot hn_232)) rfl q2253 dX8_fallDue_237 ?_
      refine lv_astore (lv' := [(8, .ref (y.2 27 c7)), (1, .ref (y.2 27 i1)), (7, .ref (q7))]) hx hb dX8_fallDue_240 hl (by decide) rfl (fun ls hl => ?_)
      refine lv_aload hx hb dX8_fallDue_242 (lv_at hl 0 rfl) ?_
      refine g27_4 hx hb hts hown hK hR (hM.lot hn_232) q2264 dX8_fallDue_244 ?_
      refine lv_iconst (v := (1 : Int32)) hx hb dX8_fallDue_247 (by decide) ?_
      refine lv_icmp_ne (tgt := 269) hx hb dX8_fallDue_248 (by decide) (fun c_248 => ?_) (fun c_248 => ?_)
      · have h := h.1 c_248
        refine lv_goto (tgt := 220) hx hb dX8_fallDue_269 (by decide) ?_
        exact ih w (c7 + 1) (nI c7) _ _ _ _ _ (by omega) h hR hS (lv_sub hl [1, 2] rfl) (by omega) (by omega)
      · have h := h.2 c_248
        refine lv_aload hx hb dX8_fallDue_251 (lv_at hl 0 rfl) ?_
        refine g27_5 hx hb hts hown hK hR (hM.lot hn_232) q2266 dX8_fallDue_253 ?_
        refine lv_aload_n hx hb dX8_fallDue_256 rfl (lv_at hl 1 rfl) ?_
        refine g27_5 hx hb hts hown hK hR l1 q2266 dX8_fallDue_257 ?_
        refine lv_icmp_ne (tgt := 269) hx hb dX8_fallDue_260 (by decide) (fun c_260 => ?_) (fun c_260 => ?_)
        · have h := h.1 c_260
          refine lv_goto (tgt := 220) hx hb dX8_fallDue_269 (by decide) ?_
          exact ih w (c7 + 1) (nI c7) _ _ _ _ _ (by omega) h hR hS (lv_sub hl [1, 2] rfl) (by omega) (by omega)
        · have h := h.2 c_260
          refine lv_aload hx hb dX8_fallDue_263 (lv_at hl 0 rfl) ?_
          refine lv_iconst (v := (2 : Int32)) hx hb dX8_fallDue_265 (by decide) ?_
          refine p27_4 hx hb hts hown hK hR hS (hM.lot hn_232) q2264 dX8_fallDue_266 (fun H locs w_266 ew_266 hR hS => ?_)
          have h := h w_266 ew_266
          refine lv_goto (tgt := 220) hx hb dX8_fallDue_269 (by decide) ?_
          exact ih w_266 (c7 + 1) (nI c7) _ _ _ _ _ (by omega) h hR hS (lv_sub hl [1, 2] rfl) (by omega) (by omega)
def st_X8_fallDue_220x1 (κ : Kx) (y : Ly) (post : Wd → Prop) (ex : Wd → Prop) (rec : Wd → Nat → Int32 → Prop) (i1 : Nat) (w : Wd) (c7 : Nat) (z7 : Int32) : Prop := ((¬ (¬ c7 = mL y)) → (ex w )) ∧ (((¬ c7 = mL y)) → (((¬ gv w 27 c7 4 = (1 : Int32)) → (rec w (c7 + 1) (nI c7))) ∧ ((gv w 27 c7 4 = (1 : Int32)) → (((¬ gv w 27 c7 5 = gv w 27 i1 5) → (rec w (c7 + 1) (nI c7))) ∧ ((gv w 27 c7 5 = gv w 27 i1 5) → (∀ w_266_a : Wd, w_266_a = sv w 27 c7 4 ((2 : Int32)) → rec w_266_a (c7 + 1) (nI c7)))))))
def sp_X8_fallDue_220x1 (κ : Kx) (y : Ly) (post : Wd → Prop) (ex : Wd → Prop) (i1 : Nat) : Nat → Wd → Nat → Int32 → Prop
  | 0 => fun _ _ _ => False
  | n + 1 => fun w c7 z7 => st_X8_fallDue_220x1 κ y post ex (sp_X8_fallDue_220x1 κ y post ex i1 n) i1 w c7 z7
set_option maxHeartbeats 4000000 in
theorem lp_X8_fallDue_220x1 {p : Program} {l : Launch} {e : Env} {s : State} {m : MethodId} {args : Array Value} {below : List Frame} {meth : Method} {c : Code} {κ : Kx} {y : Ly} {X : XR} {post : Wd → Prop} {q7 : Nat} {i1 : Nat} (hx : p.tables.exec = Jvm.exec) (hb : c.code = cX8_fallDue) (hr : meth.sig.returnType = (Option.none : Option Jvm.ClassFile.FieldType)) (hml : c.maxLocals = 9) (hown : s.vm.findClass RX8 = some m.cls) (hts : ∀ w ∈ lw_all, w.before args s = true) (hlocks : meth.locks = false) (hK : KK κ s) (hM : WFm κ y) (l1 : live y 27 i1) {C1 S1 : Nat} (hC : C1 ≤ 1) (hSl : S1 ≤ 4) {ex : Wd → Prop}
    (kx : ∀ (w : Wd)  (H : Heap) (locs : List Loc) (ls : Array Slot) (cells slots : Nat) , ex w  → Rp κ w y X [] H → va_S (Af κ) s.heap H locs → lv_has ls 9 [] → cells ≤ C1 → slots ≤ S1 → W p l e (headSpec (ws_ yX8_fallDue cX8_fallDue 9 (Option.none : Option Jvm.ClassFile.FieldType)) rm_X8_fallDue).room s m args below meth c H locs cells slots (MQ below (va_Qv post (fun w t => Rp κ w y X [] t.heap) (Af κ)) args s 1 4 (Af κ)) (F0 m 272 ls [])) :
    ∀ (f : Nat) (w : Wd) (c7 : Nat) (z7 : Int32) (H : Heap) (locs : List Loc) (ls : Array Slot) (cells slots : Nat)  (hc7 : c7 ≤ mL y), sp_X8_fallDue_220x1 κ y post ex i1 f w c7 z7 → Rp κ w y X [(q7, itC y 54 0 c7 z7)] H → va_S (Af κ) s.heap H locs → lv_has ls 9 [(1, .ref (y.2 27 i1)), (7, .ref (q7))] → cells + f * 0 ≤ C1 → slots + f * 0 ≤ S1 → W p l e (headSpec (ws_ yX8_fallDue cX8_fallDue 9 (Option.none : Option Jvm.ClassFile.FieldType)) rm_X8_fallDue).room s m args below meth c H locs cells slots (MQ below (va_Qv post (fun w t => Rp κ w y X [] t.heap) (Af κ)) args s 1 4 (Af κ)) (F0 m 220 ls []) := by
  intro f
  induction f with
  | zero =>
    intro w c7 z7 H locs ls cells slots hc7 h
    exact False.elim h
  | succ f ih =>
    intro w c7 z7 H locs ls cells slots hc7 h hR hS hl hc hs
    have h : st_X8_fallDue_220x1 κ y post ex (sp_X8_fallDue_220x1 κ y post ex i1 f) i1 w c7 z7 := h
    unfold st_X8_fallDue_220x1 at h
    refine lv_aload hx hb dX8_fallDue_220 (lv_at hl 1 rfl) ?_
    refine jr_hasNext (t := 0) ⟨hx, hb, hml, hown, hts⟩ hK hR rfl ⟨fun _ _ _ _ _ => rfl, fun _ _ _ _ _ => rfl⟩ hM.lsL (by omega) (Nat.le_trans hM.mL8 (by decide)) q2250 ⟨Nat.le_of_ble_eq_true rfl, Nat.le_of_ble_eq_true rfl⟩ hl.1 (Nat.le_of_ble_eq_true rfl) dX8_fallDue_222 ⟨(Nat.le_trans (show cells + 0 ≤ C1 from by omega) hC), (Nat.le_trans (show slots + 0 ≤ S1 from by omega) hSl)⟩ ?_
    refine lv_if_eq (tgt := 272) hx hb dX8_fallDue_227 (by decide) (fun c_227_a => ?_) (fun c_227_a => ?_)
    · replace c_227_a : ¬ (¬ c7 = mL y) := bi_0.mp c_227_a
      have h := h.1 c_227_a
      have hR := hR.sub (L' := []) [] rfl rfl
      exact kx w  _ _ _ _ _ h hR hS (lv_sub hl [] rfl) (by omega) (by omega)
    · replace c_227_a : (¬ c7 = mL y) := bi_n0.mp c_227_a
      have h := h.2 c_227_a
      refine lv_aload hx hb dX8_fallDue_230 (lv_at hl 1 rfl) ?_
      have hn_232_a : c7 < mL y := by omega
      refine jr_next (t := 0) (a := y.2 27 c7) ⟨hx, hb, hml, hown, hts⟩ hK hR hS rfl ⟨fun _ _ _ _ _ => rfl, fun _ _ _ _ _ => rfl⟩ hM.lsL ⟨hM.arL (Nat.lt_of_le_of_lt (Nat.zero_le _) hn_232_a), (Nat.le_trans hM.mL8 (by decide))⟩ hn_232_a (hM.elL hn_232_a) q2252 ⟨Nat.le_of_ble_eq_true rfl, Nat.le_of_ble_eq_true rfl⟩ hl.1 (Nat.le_of_ble_eq_true rfl) dX8_fallDue_232 ⟨(Nat.le_trans (show cells + 0 ≤ C1 from by omega) hC), (Nat.le_trans (show slots + 0 ≤ S1 from by omega) hSl)⟩ (fun H locs hR hS => ?_)
      have hR : Rp κ w y X [(q7, itC y 54 0 (c7 + 1) (nI c7))] H := hR
      refine jr_castS (ci := 14) hx hb hown hK hts (hR.role (hM.lot hn_232_a)) rfl q2253 dX8_fallDue_237 ?_
      refine lv_astore (lv' := [(8, .ref (y.2 27 c7)), (1, .ref (y.2 27 i1)), (7, .ref (q7))]) hx hb dX8_fallDue_240 hl (by decide) rfl (fun ls hl => ?_)
      refine lv_aload hx hb dX8_fallDue_242 (lv_at hl 0 rfl) ?_
      refine g27_4 hx hb hts hown hK hR (hM.lot hn_232_a) q2264 dX8_fallDue_244 ?_
      refine lv_iconst (v := (1 : Int32)) hx hb dX8_fallDue_247 (by decide) ?_
      refine lv_icmp_ne (tgt := 269) hx hb dX8_fallDue_248 (by decide) (fun c_248_a => ?_) (fun c_248_a => ?_)
      · have h := h.1 c_248_a
        refine lv_goto (tgt := 220) hx hb dX8_fallDue_269 (by decide) ?_
        exact ih w (c7 + 1) (nI c7) _ _ _ _ _ (by omega) h hR hS (lv_sub hl [1, 2] rfl) (by omega) (by omega)
      · have h := h.2 c_248_a
        refine lv_aload hx hb dX8_fallDue_251 (lv_at hl 0 rfl) ?_
        refine g27_5 hx hb hts hown hK hR (hM.lot hn_232_a) q2266 dX8_fallDue_253 ?_
        refine lv_aload_n hx hb dX8_fallDue_256 rfl (lv_at hl 1 rfl) ?_
        refine g27_5 hx hb hts hown hK hR l1 q2266 dX8_fallDue_257 ?_
        refine lv_icmp_ne (tgt := 269) hx hb dX8_fallDue_260 (by decide) (fun c_260_a => ?_) (fun c_260_a => ?_)
        · have h := h.1 c_260_a
          refine lv_goto (tgt := 220) hx hb dX8_fallDue_269 (by decide) ?_
          exact ih w (c7 + 1) (nI c7) _ _ _ _ _ (by omega) h hR hS (lv_sub hl [1, 2] rfl) (by omega) (by omega)
        · have h := h.2 c_260_a
          refine lv_aload hx hb dX8_fallDue_263 (lv_at hl 0 rfl) ?_
          refine lv_iconst (v := (2 : Int32)) hx hb dX8_fallDue_265 (by decide) ?_
          refine p27_4 hx hb hts hown hK hR hS (hM.lot hn_232_a) q2264 dX8_fallDue_266 (fun H locs w_266_a ew_266_a hR hS => ?_)
          have h := h w_266_a ew_266_a
          refine lv_goto (tgt := 220) hx hb dX8_fallDue_269 (by decide) ?_
          exact ih w_266_a (c7 + 1) (nI c7) _ _ _ _ _ (by omega) h hR hS (lv_sub hl [1, 2] rfl) (by omega) (by omega)
def sp_X8_fallDue (κ : Kx) (y : Ly) (post : Wd → Prop) (w : Wd) (a1 : Nat) : Prop := (vp_in (gv w 27 a1 5) (mC y)) ∧ ((¬ gv w 27 a1 2 = 0) ∧ (((¬ gv w 27 a1 8 = 0) → (∀ x_45 : Int32, x_45 = ((gv w 27 a1 6) / (gv w 27 a1 2)) + (0 : Int32) → ∀ w_53 : Wd, w_53 = sv w 27 a1 8 ((gv w 27 a1 8) + (1 : Int32)) → ∀ x_64 : Int32, x_64 = jmin x_45 (gv w_53 27 a1 9) → ∀ w_74 : Wd, w_74 = sv w_53 27 a1 9 ((gv w_53 27 a1 9) - x_64) → ∀ x_81 : Int32, x_81 = x_45 - x_64 → ∀ x_90 : Int32, x_90 = jmin x_81 (gv w_74 26 (((gv w 27 a1 5).toNatClampNeg)) 5) → ∀ w_100 : Wd, w_100 = sv w_74 26 (((gv w 27 a1 5).toNatClampNeg)) 5 ((gv w_74 26 (((gv w 27 a1 5).toNatClampNeg)) 5) - x_90) → ∀ x_107 : Int32, x_107 = x_81 - x_90 → ∀ x_116 : Int32, x_116 = jmin x_107 (gv w_100 26 (((gv w 27 a1 5).toNatClampNeg)) 1) → ∀ w_126 : Wd, w_126 = sv w_100 26 (((gv w 27 a1 5).toNatClampNeg)) 1 ((gv w_100 26 (((gv w 27 a1 5).toNatClampNeg)) 1) - x_116) → ∀ w_137 : Wd, w_137 = sv w_126 26 (((gv w 27 a1 5).toNatClampNeg)) 8 ((gv w_126 26 (((gv w 27 a1 5).toNatClampNeg)) 8) + x_116) → ∀ w_148 : Wd, w_148 = sv w_137 20 0 13 ((gv w_137 20 0 13) + x_116) → ((¬ x_116 = x_107) → (∀ x_171 : Int32, x_171 = jmin (x_107 - x_116) ((gv w_148 27 a1 6) / (4 : Int32)) → ∀ w_181 : Wd, w_181 = sv w_148 26 (((gv w 27 a1 5).toNatClampNeg)) 0 ((gv w_148 26 (((gv w 27 a1 5).toNatClampNeg)) 0) - x_171) → ∀ w_192 : Wd, w_192 = sv w_181 20 0 13 ((gv w_181 20 0 13) + x_171) → ∀ w_203 : Wd, w_203 = sv w_192 20 0 15 ((gv w_192 20 0 15) - x_171) → ∀ w_208 : Wd, w_208 = sv w_203 26 (((gv w 27 a1 5).toNatClampNeg)) 4 ((1 : Int32)) → sp_X8_fallDue_220 κ y post (fun w_220  => post w_220) a1 9 w_208 0 (-1))) ∧ ((x_116 = x_107) → (post w_148)))) ∧ ((gv w 27 a1 8 = 0) → ((¬ gv w 27 a1 2 = 0) ∧ (∀ x_45_a : Int32, x_45_a = ((gv w 27 a1 6) / (gv w 27 a1 2)) + ((gv w 27 a1 6) - (gv w 27 a1 6) / (gv w 27 a1 2) * (gv w 27 a1 2)) → ∀ w_53_a : Wd, w_53_a = sv w 27 a1 8 ((gv w 27 a1 8) + (1 : Int32)) → ∀ x_64_a : Int32, x_64_a = jmin x_45_a (gv w_53_a 27 a1 9) → ∀ w_74_a : Wd, w_74_a = sv w_53_a 27 a1 9 ((gv w_53_a 27 a1 9) - x_64_a) → ∀ x_81_a : Int32, x_81_a = x_45_a - x_64_a → ∀ x_90_a : Int32, x_90_a = jmin x_81_a (gv w_74_a 26 (((gv w 27 a1 5).toNatClampNeg)) 5) → ∀ w_100_a : Wd, w_100_a = sv w_74_a 26 (((gv w 27 a1 5).toNatClampNeg)) 5 ((gv w_74_a 26 (((gv w 27 a1 5).toNatClampNeg)) 5) - x_90_a) → ∀ x_107_a : Int32, x_107_a = x_81_a - x_90_a → ∀ x_116_a : Int32, x_116_a = jmin x_107_a (gv w_100_a 26 (((gv w 27 a1 5).toNatClampNeg)) 1) → ∀ w_126_a : Wd, w_126_a = sv w_100_a 26 (((gv w 27 a1 5).toNatClampNeg)) 1 ((gv w_100_a 26 (((gv w 27 a1 5).toNatClampNeg)) 1) - x_116_a) → ∀ w_137_a : Wd, w_137_a = sv w_126_a 26 (((gv w 27 a1 5).toNatClampNeg)) 8 ((gv w_126_a 26 (((gv w 27 a1 5).toNatClampNeg)) 8) + x_116_a) → ∀ w_148_a : Wd, w_148_a = sv w_137_a 20 0 13 ((gv w_137_a 20 0 13) + x_116_a) → ((¬ x_116_a = x_107_a) → (∀ x_171_a : Int32, x_171_a = jmin (x_107_a - x_116_a) ((gv w_148_a 27 a1 6) / (4 : Int32)) → ∀ w_181_a : Wd, w_181_a = sv w_148_a 26 (((gv w 27 a1 5).toNatClampNeg)) 0 ((gv w_148_a 26 (((gv w 27 a1 5).toNatClampNeg)) 0) - x_171_a) → ∀ w_192_a : Wd, w_192_a = sv w_181_a 20 0 13 ((gv w_181_a 20 0 13) + x_171_a) → ∀ w_203_a : Wd, w_203_a = sv w_192_a 20 0 15 ((gv w_192_a 20 0 15) - x_171_a) → ∀ w_208_a : Wd, w_208_a = sv w_203_a 26 (((gv w 27 a1 5).toNatClampNeg)) 4 ((1 : Int32)) → sp_X8_fallDue_220x1 κ y post (fun w_220_a  => post w_220_a) a1 9 w_208_a 0 (-1))) ∧ ((x_116_a = x_107_a) → (post w_148_a)))))))
theorem hd_X8_fallDue : yX8_fallDue.cls = RX8 ∧ yX8_fallDue.cls ≠ "java/lang/invoke/MethodHandle" ∧ yX8_fallDue.cls ≠ "java/lang/invoke/VarHandle" ∧ (parseMethodDescriptor yX8_fallDue.desc).map (fun d => d.parameters.length) = some 1 := by decide +kernel
set_option maxHeartbeats 4000000 in
theorem m_X8_fallDue {l : Launch} {κ : Kx} {y : Ly} {X : XR} {post : Wd → Prop} {w : Wd} {a1 : Nat}  (hM : WFm κ y) (l0 : live y 20 0) (l1 : live y 27 a1) (h : sp_X8_fallDue κ y post w a1) : Met l yX8_fallDue (ws_ yX8_fallDue cX8_fallDue 9 (Option.none : Option Jvm.ClassFile.FieldType)) rm_X8_fallDue (va_Pc [.ref (y.2 20 0), .ref (y.2 27 a1)] (RC κ w y X)) (va_Qv post (fun w t => Rp κ w y X [] t.heap) (Af κ)) 1 4 (Af κ) := by
  unfold sp_X8_fallDue at h
  refine Met.ofW (cc := cX8_fallDue) (maxL := 9) (ret := (Option.none : Option Jvm.ClassFile.FieldType)) (by decide) rfl ?_
  intro p e s m args below meth c s₁ B hml hv
  obtain ⟨rfl, hR, hK⟩ := hv
  have hx := B.exec
  have hb := B.bytes
  have hr := B.returns
  have hts := atoms_spec (ws := ws_ yX8_fallDue cX8_fallDue 9 (Option.none : Option Jvm.ClassFile.FieldType)) B.pre
  have hts : ∀ w ∈ lw_all, w.before _ s = true := fun w h => hts w (List.mem_cons_of_mem _ h)
  have hown : s.vm.findClass RX8 = some m.cls := findClass_of_methodNamed B.named
  have hlocks := B.notSynchronized
  have hS : va_S (Af κ) s.heap s.heap [] := va_S.rf
  have hl := lv_entry ([.ref (y.2 20 0), .ref (y.2 27 a1)]) (n := 9) (Nat.le_of_ble_eq_true rfl)
  rw [lg_entry_eq]
  generalize (lg_sl ([.ref (y.2 20 0), .ref (y.2 27 a1)]) ++ List.replicate (9 - (lg_sl ([.ref (y.2 20 0), .ref (y.2 27 a1)])).length) Slot.unset).toArray = ls at hl ⊢
  have hl : lv_has ls 9 [(0, .ref (y.2 20 0)), (1, .ref (y.2 27 a1))] := hl
  refine lv_aload_n hx hb dX8_fallDue_0 rfl (lv_at hl 0 rfl) ?_
  refine g20_4 hx hb hts hown hK hR l0 q1949 dX8_fallDue_1 ?_
  refine lv_aload_n hx hb dX8_fallDue_4 rfl (lv_at hl 1 rfl) ?_
  refine g27_5 hx hb hts hown hK hR l1 q2266 dX8_fallDue_5 ?_
  have o_8 := h.1
  have h := h.2
  refine jr_get (a := y.2 26 ((gv w 27 a1 5).toNatClampNeg)) ⟨hx, hb, hml, hown, hts⟩ hK hR ⟨fun _ _ _ _ _ => rfl, fun _ _ _ _ _ => rfl⟩ hM.lsC ⟨hM.arC (Nat.lt_of_le_of_lt (Nat.zero_le _) (vp_lt o_8)), (Nat.le_trans hM.mC4 (by decide))⟩ o_8 (hM.elC (vp_lt o_8)) q2101 ⟨Nat.le_of_ble_eq_true rfl, Nat.le_of_ble_eq_true rfl⟩ hl.1 (Nat.le_of_ble_eq_true rfl) dX8_fallDue_8 ⟨(Nat.le_of_ble_eq_true rfl), (Nat.le_of_ble_eq_true rfl)⟩ ?_
  refine jr_castS (ci := 13) hx hb hown hK hts (hR.role (hM.com (vp_lt o_8))) rfl q2141 dX8_fallDue_11 ?_
  refine lv_astore_n (lv' := [(2, .ref (y.2 26 ((gv w 27 a1 5).toNatClampNeg))), (0, .ref (y.2 20 0)), (1, .ref (y.2 27 a1))]) hx hb dX8_fallDue_14 rfl hl (by decide) rfl (fun ls hl => ?_)
  refine lv_aload_n hx hb dX8_fallDue_15 rfl (lv_at hl 2 rfl) ?_
  refine g27_6 hx hb hts hown hK hR l1 q2267 dX8_fallDue_16 ?_
  refine lv_aload_n hx hb dX8_fallDue_19 rfl (lv_at hl 2 rfl) ?_
  refine g27_2 hx hb hts hown hK hR l1 q2261 dX8_fallDue_20 ?_
  have o_23 := h.1
  have h := h.2
  refine lv_idiv hx hb dX8_fallDue_23 o_23 ?_
  refine lv_aload_n hx hb dX8_fallDue_24 rfl (lv_at hl 2 rfl) ?_
  refine g27_8 hx hb hts hown hK hR l1 q2269 dX8_fallDue_25 ?_
  refine lv_if_ne (tgt := 43) hx hb dX8_fallDue_28 (by decide) (fun c_28 => ?_) (fun c_28 => ?_)
  · have h := h.1 c_28
    refine lv_iconst (v := (0 : Int32)) hx hb dX8_fallDue_43 (by decide) ?_
    refine lv_iadd hx hb dX8_fallDue_44 ?_
    refine lv_topi (fun x_45 ex_45 => ?_)
    have h := h x_45 ex_45
    refine lv_istore_n (lv' := [(3, .int (x_45)), (2, .ref (y.2 26 ((gv w 27 a1 5).toNatClampNeg))), (0, .ref (y.2 20 0)), (1, .ref (y.2 27 a1))]) hx hb dX8_fallDue_45 rfl hl (by decide) rfl (fun ls hl => ?_)
    refine lv_aload_n hx hb dX8_fallDue_46 rfl (lv_at hl 3 rfl) ?_
    refine lv_dup hx hb dX8_fallDue_47 rfl ?_
    refine g27_8 hx hb hts hown hK hR l1 q2269 dX8_fallDue_48 ?_
    refine lv_iconst (v := (1 : Int32)) hx hb dX8_fallDue_51 (by decide) ?_
    refine lv_iadd hx hb dX8_fallDue_52 ?_
    refine p27_8 hx hb hts hown hK hR hS l1 q2269 dX8_fallDue_53 (fun H locs w_53 ew_53 hR hS => ?_)
    have h := h w_53 ew_53
    refine lv_iload_n hx hb dX8_fallDue_56 rfl (lv_at hl 0 rfl) ?_
    refine lv_aload_n hx hb dX8_fallDue_57 rfl (lv_at hl 3 rfl) ?_
    refine g27_9 hx hb hts hown hK hR l1 q2270 dX8_fallDue_58 ?_
    refine va_mmin hx hb (hml.trans hl.1.symm) hown (hts _ q2113) (hts _ q322) (hts _ q95) (hts _ q323) (Nat.le_of_ble_eq_true rfl) (Nat.le_of_ble_eq_true rfl) (Nat.le_of_ble_eq_true rfl) (Nat.le_of_ble_eq_true rfl) dX8_fallDue_61 ?_
    refine lv_topi (fun x_64 ex_64 => ?_)
    have h := h x_64 ex_64
    refine lv_istore (lv' := [(4, .int (x_64)), (3, .int (x_45)), (2, .ref (y.2 26 ((gv w 27 a1 5).toNatClampNeg))), (0, .ref (y.2 20 0)), (1, .ref (y.2 27 a1))]) hx hb dX8_fallDue_64 hl (by decide) rfl (fun ls hl => ?_)
    refine lv_aload_n hx hb dX8_fallDue_66 rfl (lv_at hl 4 rfl) ?_
    refine lv_dup hx hb dX8_fallDue_67 rfl ?_
    refine g27_9 hx hb hts hown hK hR l1 q2270 dX8_fallDue_68 ?_
    refine lv_iload hx hb dX8_fallDue_71 (lv_at hl 0 rfl) ?_
    refine lv_isub hx hb dX8_fallDue_73 ?_
    refine p27_9 hx hb hts hown hK hR hS l1 q2270 dX8_fallDue_74 (fun H locs w_74 ew_74 hR hS => ?_)
    have h := h w_74 ew_74
    refine lv_iload_n hx hb dX8_fallDue_77 rfl (lv_at hl 1 rfl) ?_
    refine lv_iload hx hb dX8_fallDue_78 (lv_at hl 0 rfl) ?_
    refine lv_isub hx hb dX8_fallDue_80 ?_
    refine lv_topi (fun x_81 ex_81 => ?_)
    have h := h x_81 ex_81
    refine lv_istore_n (lv' := [(3, .int (x_81)), (4, .int (x_64)), (2, .ref (y.2 26 ((gv w 27 a1 5).toNatClampNeg))), (0, .ref (y.2 20 0)), (1, .ref (y.2 27 a1))]) hx hb dX8_fallDue_81 rfl hl (by decide) rfl (fun ls hl => ?_)
    refine lv_iload_n hx hb dX8_fallDue_82 rfl (lv_at hl 0 rfl) ?_
    refine lv_aload_n hx hb dX8_fallDue_83 rfl (lv_at hl 2 rfl) ?_
    refine g26_5 hx hb hts hown hK hR (hM.com (vp_lt o_8)) q2154 dX8_fallDue_84 ?_
    refine va_mmin hx hb (hml.trans hl.1.symm) hown (hts _ q2113) (hts _ q322) (hts _ q95) (hts _ q323) (Nat.le_of_ble_eq_true rfl) (Nat.le_of_ble_eq_true rfl) (Nat.le_of_ble_eq_true rfl) (Nat.le_of_ble_eq_true rfl) dX8_fallDue_87 ?_
    refine lv_topi (fun x_90 ex_90 => ?_)
    have h := h x_90 ex_90
    refine lv_istore (lv' := [(4, .int (x_90)), (3, .int (x_81)), (2, .ref (y.2 26 ((gv w 27 a1 5).toNatClampNeg))), (0, .ref (y.2 20 0)), (1, .ref (y.2 27 a1))]) hx hb dX8_fallDue_90 hl (by decide) rfl (fun ls hl => ?_)
    refine lv_aload_n hx hb dX8_fallDue_92 rfl (lv_at hl 2 rfl) ?_
    refine lv_dup hx hb dX8_fallDue_93 rfl ?_
    refine g26_5 hx hb hts hown hK hR (hM.com (vp_lt o_8)) q2154 dX8_fallDue_94 ?_
    refine lv_iload hx hb dX8_fallDue_97 (lv_at hl 0 rfl) ?_
    refine lv_isub hx hb dX8_fallDue_99 ?_
    refine p26_5 hx hb hts hown hK hR hS (hM.com (vp_lt o_8)) q2154 dX8_fallDue_100 (fun H locs w_100 ew_100 hR hS => ?_)
    have h := h w_100 ew_100
    refine lv_iload_n hx hb dX8_fallDue_103 rfl (lv_at hl 1 rfl) ?_
    refine lv_iload hx hb dX8_fallDue_104 (lv_at hl 0 rfl) ?_
    refine lv_isub hx hb dX8_fallDue_106 ?_
    refine lv_topi (fun x_107 ex_107 => ?_)
    have h := h x_107 ex_107
    refine lv_istore_n (lv' := [(3, .int (x_107)), (4, .int (x_90)), (2, .ref (y.2 26 ((gv w 27 a1 5).toNatClampNeg))), (0, .ref (y.2 20 0)), (1, .ref (y.2 27 a1))]) hx hb dX8_fallDue_107 rfl hl (by decide) rfl (fun ls hl => ?_)
    refine lv_iload_n hx hb dX8_fallDue_108 rfl (lv_at hl 0 rfl) ?_
    refine lv_aload_n hx hb dX8_fallDue_109 rfl (lv_at hl 2 rfl) ?_
    refine g26_1 hx hb hts hown hK hR (hM.com (vp_lt o_8)) q2150 dX8_fallDue_110 ?_
    refine va_mmin hx hb (hml.trans hl.1.symm) hown (hts _ q2113) (hts _ q322) (hts _ q95) (hts _ q323) (Nat.le_of_ble_eq_true rfl) (Nat.le_of_ble_eq_true rfl) (Nat.le_of_ble_eq_true rfl) (Nat.le_of_ble_eq_true rfl) dX8_fallDue_113 ?_
    refine lv_topi (fun x_116 ex_116 => ?_)
    have h := h x_116 ex_116
    refine lv_istore (lv' := [(5, .int (x_116)), (3, .int (x_107)), (4, .int (x_90)), (2, .ref (y.2 26 ((gv w 27 a1 5).toNatClampNeg))), (0, .ref (y.2 20 0)), (1, .ref (y.2 27 a1))]) hx hb dX8_fallDue_116 hl (by decide) rfl (fun ls hl => ?_)
    refine lv_aload_n hx hb dX8_fallDue_118 rfl (lv_at hl 3 rfl) ?_
    refine lv_dup hx hb dX8_fallDue_119 rfl ?_
    refine g26_1 hx hb hts hown hK hR (hM.com (vp_lt o_8)) q2150 dX8_fallDue_120 ?_
    refine lv_iload hx hb dX8_fallDue_123 (lv_at hl 0 rfl) ?_
    refine lv_isub hx hb dX8_fallDue_125 ?_
    refine p26_1 hx hb hts hown hK hR hS (hM.com (vp_lt o_8)) q2150 dX8_fallDue_126 (fun H locs w_126 ew_126 hR hS => ?_)
    have h := h w_126 ew_126
    refine lv_aload_n hx hb dX8_fallDue_129 rfl (lv_at hl 3 rfl) ?_
    refine lv_dup hx hb dX8_fallDue_130 rfl ?_
    refine g26_8 hx hb hts hown hK hR (hM.com (vp_lt o_8)) q2157 dX8_fallDue_131 ?_
    refine lv_iload hx hb dX8_fallDue_134 (lv_at hl 0 rfl) ?_
    refine lv_iadd hx hb dX8_fallDue_136 ?_
    refine p26_8 hx hb hts hown hK hR hS (hM.com (vp_lt o_8)) q2157 dX8_fallDue_137 (fun H locs w_137 ew_137 hR hS => ?_)
    have h := h w_137 ew_137
    refine lv_aload_n hx hb dX8_fallDue_140 rfl (lv_at hl 4 rfl) ?_
    refine lv_dup hx hb dX8_fallDue_141 rfl ?_
    refine g20_13 hx hb hts hown hK hR l0 q1958 dX8_fallDue_142 ?_
    refine lv_iload hx hb dX8_fallDue_145 (lv_at hl 0 rfl) ?_
    refine lv_iadd hx hb dX8_fallDue_147 ?_
    refine p20_13 hx hb hts hown hK hR hS l0 q1958 dX8_fallDue_148 (fun H locs w_148 ew_148 hR hS => ?_)
    have h := h w_148 ew_148
    refine lv_iload hx hb dX8_fallDue_151 (lv_at hl 0 rfl) ?_
    refine lv_iload_n hx hb dX8_fallDue_153 rfl (lv_at hl 1 rfl) ?_
    refine lv_icmp_ne (tgt := 158) hx hb dX8_fallDue_154 (by decide) (fun c_154 => ?_) (fun c_154 => ?_)
    · have h := h.1 c_154
      refine lv_iload_n hx hb dX8_fallDue_158 rfl (lv_at hl 1 rfl) ?_
      refine lv_iload hx hb dX8_fallDue_159 (lv_at hl 0 rfl) ?_
      refine lv_isub hx hb dX8_fallDue_161 ?_
      refine lv_aload_n hx hb dX8_fallDue_162 rfl (lv_at hl 5 rfl) ?_
      refine g27_6 hx hb hts hown hK hR l1 q2267 dX8_fallDue_163 ?_
      refine lv_iconst (v := (4 : Int32)) hx hb dX8_fallDue_166 (by decide) ?_
      refine lv_idiv hx hb dX8_fallDue_167 (by decide) ?_
      refine va_mmin hx hb (hml.trans hl.1.symm) hown (hts _ q2113) (hts _ q322) (hts _ q95) (hts _ q323) (Nat.le_of_ble_eq_true rfl) (Nat.le_of_ble_eq_true rfl) (Nat.le_of_ble_eq_true rfl) (Nat.le_of_ble_eq_true rfl) dX8_fallDue_168 ?_
      refine lv_topi (fun x_171 ex_171 => ?_)
      have h := h x_171 ex_171
      refine lv_istore (lv' := [(6, .int (x_171)), (5, .int (x_116)), (3, .int (x_107)), (4, .int (x_90)), (2, .ref (y.2 26 ((gv w 27 a1 5).toNatClampNeg))), (0, .ref (y.2 20 0)), (1, .ref (y.2 27 a1))]) hx hb dX8_fallDue_171 hl (by decide) rfl (fun ls hl => ?_)
      refine lv_aload_n hx hb dX8_fallDue_173 rfl (lv_at hl 4 rfl) ?_
      refine lv_dup hx hb dX8_fallDue_174 rfl ?_
      refine g26_0 hx hb hts hown hK hR (hM.com (vp_lt o_8)) q2149 dX8_fallDue_175 ?_
      refine lv_iload hx hb dX8_fallDue_178 (lv_at hl 0 rfl) ?_
      refine lv_isub hx hb dX8_fallDue_180 ?_
      refine p26_0 hx hb hts hown hK hR hS (hM.com (vp_lt o_8)) q2149 dX8_fallDue_181 (fun H locs w_181 ew_181 hR hS => ?_)
      have h := h w_181 ew_181
      refine lv_aload_n hx hb dX8_fallDue_184 rfl (lv_at hl 5 rfl) ?_
      refine lv_dup hx hb dX8_fallDue_185 rfl ?_
      refine g20_13 hx hb hts hown hK hR l0 q1958 dX8_fallDue_186 ?_
      refine lv_iload hx hb dX8_fallDue_189 (lv_at hl 0 rfl) ?_
      refine lv_iadd hx hb dX8_fallDue_191 ?_
      refine p20_13 hx hb hts hown hK hR hS l0 q1958 dX8_fallDue_192 (fun H locs w_192 ew_192 hR hS => ?_)
      have h := h w_192 ew_192
      refine lv_aload_n hx hb dX8_fallDue_195 rfl (lv_at hl 5 rfl) ?_
      refine lv_dup hx hb dX8_fallDue_196 rfl ?_
      refine g20_15 hx hb hts hown hK hR l0 q1960 dX8_fallDue_197 ?_
      refine lv_iload hx hb dX8_fallDue_200 (lv_at hl 0 rfl) ?_
      refine lv_isub hx hb dX8_fallDue_202 ?_
      refine p20_15 hx hb hts hown hK hR hS l0 q1960 dX8_fallDue_203 (fun H locs w_203 ew_203 hR hS => ?_)
      have h := h w_203 ew_203
      refine lv_aload_n hx hb dX8_fallDue_206 rfl (lv_at hl 4 rfl) ?_
      refine lv_iconst (v := (1 : Int32)) hx hb dX8_fallDue_207 (by decide) ?_
      refine p26_4 hx hb hts hown hK hR hS (hM.com (vp_lt o_8)) nbo_1 q2153 dX8_fallDue_208 (fun H locs w_208 ew_208 hR hS => ?_)
      have h := h w_208 ew_208
      refine lv_aload_n hx hb dX8_fallDue_211 rfl (lv_at hl 5 rfl) ?_
      refine g20_5 hx hb hts hown hK hR l0 q1950 dX8_fallDue_212 ?_
      refine jr_iter ⟨hx, hb, hml, hown, hts⟩ hK hR hS ⟨fun _ _ _ _ _ => rfl, fun _ _ _ _ _ => rfl⟩ hM.lsL q2248 ⟨Nat.le_of_ble_eq_true rfl, Nat.le_of_ble_eq_true rfl⟩ hl.1 (Nat.le_of_ble_eq_true rfl) dX8_fallDue_215 ⟨(Nat.le_of_ble_eq_true rfl), (Nat.le_of_ble_eq_true rfl)⟩ (fun q_215 H locs hR hS => ?_)
      have hR : Rp κ w_208 y X [(q_215, itC y 54 0 0 (-1))] H := hR
      refine lv_astore (lv' := [(7, .ref (q_215)), (6, .int (x_171)), (5, .int (x_116)), (3, .int (x_107)), (4, .int (x_90)), (2, .ref (y.2 26 ((gv w 27 a1 5).toNatClampNeg))), (0, .ref (y.2 20 0)), (1, .ref (y.2 27 a1))]) hx hb dX8_fallDue_218 hl (by decide) rfl (fun ls hl => ?_)
      refine lp_X8_fallDue_220 (C1 := 1) (S1 := 4) hx hb hr hml hown hts hlocks hK hM l1 (Nat.le_of_ble_eq_true rfl) (Nat.le_of_ble_eq_true rfl) (fun w_220  H locs ls cells9 slots9 h hR hS hl hc9 hs9 => ?_) 9 w_208 0 (-1) _ _ _ _ _ (by omega) h hR hS (lv_sub hl [7, 0] rfl) (by omega) (by omega)
      refine W.widen (k := 1) (n := 4) hc9 hs9 ?_
      refine W.widen (k := 1) (n := 4) (Nat.le_of_ble_eq_true rfl) (Nat.le_of_ble_eq_true rfl) ?_
      exact W.vret hx hb hr (fun t ht hW9 => ⟨⟨w_220, rfl, h, rpt ht hR⟩, hS.F ht⟩) hS.2.2 dX8_fallDue_272
    · have h := h.2 c_154
      refine W.widen (k := 1) (n := 4) (Nat.le_of_ble_eq_true rfl) (Nat.le_of_ble_eq_true rfl) ?_
      exact W.vret hx hb hr (fun t ht hW9 => ⟨⟨w_148, rfl, h, rpt ht hR⟩, hS.F ht⟩) hS.2.2 dX8_fallDue_157
  · have h := h.2 c_28
    refine lv_aload_n hx hb dX8_fallDue_31 rfl (lv_at hl 2 rfl) ?_
    refine g27_6 hx hb hts hown hK hR l1 q2267 dX8_fallDue_32 ?_
    refine lv_aload_n hx hb dX8_fallDue_35 rfl (lv_at hl 2 rfl) ?_
    refine g27_2 hx hb hts hown hK hR l1 q2261 dX8_fallDue_36 ?_
    have o_39 := h.1
    have h := h.2
    refine lv_irem hx hb dX8_fallDue_39 o_39 ?_
    refine lv_goto (tgt := 44) hx hb dX8_fallDue_40 (by decide) ?_
    refine lv_iadd hx hb dX8_fallDue_44 ?_
    refine lv_topi (fun x_45_a ex_45_a => ?_)
    have h := h x_45_a ex_45_a
    refine lv_istore_n (lv' := [(3, .int (x_45_a)), (2, .ref (y.2 26 ((gv w 27 a1 5).toNatClampNeg))), (0, .ref (y.2 20 0)), (1, .ref (y.2 27 a1))]) hx hb dX8_fallDue_45 rfl hl (by decide) rfl (fun ls hl => ?_)
    refine lv_aload_n hx hb dX8_fallDue_46 rfl (lv_at hl 3 rfl) ?_
    refine lv_dup hx hb dX8_fallDue_47 rfl ?_
    refine g27_8 hx hb hts hown hK hR l1 q2269 dX8_fallDue_48 ?_
    refine lv_iconst (v := (1 : Int32)) hx hb dX8_fallDue_51 (by decide) ?_
    refine lv_iadd hx hb dX8_fallDue_52 ?_
    refine p27_8 hx hb hts hown hK hR hS l1 q2269 dX8_fallDue_53 (fun H locs w_53_a ew_53_a hR hS => ?_)
    have h := h w_53_a ew_53_a
    refine lv_iload_n hx hb dX8_fallDue_56 rfl (lv_at hl 0 rfl) ?_
    refine lv_aload_n hx hb dX8_fallDue_57 rfl (lv_at hl 3 rfl) ?_
    refine g27_9 hx hb hts hown hK hR l1 q2270 dX8_fallDue_58 ?_
    refine va_mmin hx hb (hml.trans hl.1.symm) hown (hts _ q2113) (hts _ q322) (hts _ q95) (hts _ q323) (Nat.le_of_ble_eq_true rfl) (Nat.le_of_ble_eq_true rfl) (Nat.le_of_ble_eq_true rfl) (Nat.le_of_ble_eq_true rfl) dX8_fallDue_61 ?_
    refine lv_topi (fun x_64_a ex_64_a => ?_)
    have h := h x_64_a ex_64_a
    refine lv_istore (lv' := [(4, .int (x_64_a)), (3, .int (x_45_a)), (2, .ref (y.2 26 ((gv w 27 a1 5).toNatClampNeg))), (0, .ref (y.2 20 0)), (1, .ref (y.2 27 a1))]) hx hb dX8_fallDue_64 hl (by decide) rfl (fun ls hl => ?_)
    refine lv_aload_n hx hb dX8_fallDue_66 rfl (lv_at hl 4 rfl) ?_
    refine lv_dup hx hb dX8_fallDue_67 rfl ?_
    refine g27_9 hx hb hts hown hK hR l1 q2270 dX8_fallDue_68 ?_
    refine lv_iload hx hb dX8_fallDue_71 (lv_at hl 0 rfl) ?_
    refine lv_isub hx hb dX8_fallDue_73 ?_
    refine p27_9 hx hb hts hown hK hR hS l1 q2270 dX8_fallDue_74 (fun H locs w_74_a ew_74_a hR hS => ?_)
    have h := h w_74_a ew_74_a
    refine lv_iload_n hx hb dX8_fallDue_77 rfl (lv_at hl 1 rfl) ?_
    refine lv_iload hx hb dX8_fallDue_78 (lv_at hl 0 rfl) ?_
    refine lv_isub hx hb dX8_fallDue_80 ?_
    refine lv_topi (fun x_81_a ex_81_a => ?_)
    have h := h x_81_a ex_81_a
    refine lv_istore_n (lv' := [(3, .int (x_81_a)), (4, .int (x_64_a)), (2, .ref (y.2 26 ((gv w 27 a1 5).toNatClampNeg))), (0, .ref (y.2 20 0)), (1, .ref (y.2 27 a1))]) hx hb dX8_fallDue_81 rfl hl (by decide) rfl (fun ls hl => ?_)
    refine lv_iload_n hx hb dX8_fallDue_82 rfl (lv_at hl 0 rfl) ?_
    refine lv_aload_n hx hb dX8_fallDue_83 rfl (lv_at hl 2 rfl) ?_
    refine g26_5 hx hb hts hown hK hR (hM.com (vp_lt o_8)) q2154 dX8_fallDue_84 ?_
    refine va_mmin hx hb (hml.trans hl.1.symm) hown (hts _ q2113) (hts _ q322) (hts _ q95) (hts _ q323) (Nat.le_of_ble_eq_true rfl) (Nat.le_of_ble_eq_true rfl) (Nat.le_of_ble_eq_true rfl) (Nat.le_of_ble_eq_true rfl) dX8_fallDue_87 ?_
    refine lv_topi (fun x_90_a ex_90_a => ?_)
    have h := h x_90_a ex_90_a
    refine lv_istore (lv' := [(4, .int (x_90_a)), (3, .int (x_81_a)), (2, .ref (y.2 26 ((gv w 27 a1 5).toNatClampNeg))), (0, .ref (y.2 20 0)), (1, .ref (y.2 27 a1))]) hx hb dX8_fallDue_90 hl (by decide) rfl (fun ls hl => ?_)
    refine lv_aload_n hx hb dX8_fallDue_92 rfl (lv_at hl 2 rfl) ?_
    refine lv_dup hx hb dX8_fallDue_93 rfl ?_
    refine g26_5 hx hb hts hown hK hR (hM.com (vp_lt o_8)) q2154 dX8_fallDue_94 ?_
    refine lv_iload hx hb dX8_fallDue_97 (lv_at hl 0 rfl) ?_
    refine lv_isub hx hb dX8_fallDue_99 ?_
    refine p26_5 hx hb hts hown hK hR hS (hM.com (vp_lt o_8)) q2154 dX8_fallDue_100 (fun H locs w_100_a ew_100_a hR hS => ?_)
    have h := h w_100_a ew_100_a
    refine lv_iload_n hx hb dX8_fallDue_103 rfl (lv_at hl 1 rfl) ?_
    refine lv_iload hx hb dX8_fallDue_104 (lv_at hl 0 rfl) ?_
    refine lv_isub hx hb dX8_fallDue_106 ?_
    refine lv_topi (fun x_107_a ex_107_a => ?_)
    have h := h x_107_a ex_107_a
    refine lv_istore_n (lv' := [(3, .int (x_107_a)), (4, .int (x_90_a)), (2, .ref (y.2 26 ((gv w 27 a1 5).toNatClampNeg))), (0, .ref (y.2 20 0)), (1, .ref (y.2 27 a1))]) hx hb dX8_fallDue_107 rfl hl (by decide) rfl (fun ls hl => ?_)
    refine lv_iload_n hx hb dX8_fallDue_108 rfl (lv_at hl 0 rfl) ?_
    refine lv_aload_n hx hb dX8_fallDue_109 rfl (lv_at hl 2 rfl) ?_
    refine g26_1 hx hb hts hown hK hR (hM.com (vp_lt o_8)) q2150 dX8_fallDue_110 ?_
    refine va_mmin hx hb (hml.trans hl.1.symm) hown (hts _ q2113) (hts _ q322) (hts _ q95) (hts _ q323) (Nat.le_of_ble_eq_true rfl) (Nat.le_of_ble_eq_true rfl) (Nat.le_of_ble_eq_true rfl) (Nat.le_of_ble_eq_true rfl) dX8_fallDue_113 ?_
    refine lv_topi (fun x_116_a ex_116_a => ?_)
    have h := h x_116_a ex_116_a
    refine lv_istore (lv' := [(5, .int (x_116_a)), (3, .int (x_107_a)), (4, .int (x_90_a)), (2, .ref (y.2 26 ((gv w 27 a1 5).toNatClampNeg))), (0, .ref (y.2 20 0)), (1, .ref (y.2 27 a1))]) hx hb dX8_fallDue_116 hl (by decide) rfl (fun ls hl => ?_)
    refine lv_aload_n hx hb dX8_fallDue_118 rfl (lv_at hl 3 rfl) ?_
    refine lv_dup hx hb dX8_fallDue_119 rfl ?_
    refine g26_1 hx hb hts hown hK hR (hM.com (vp_lt o_8)) q2150 dX8_fallDue_120 ?_
    refine lv_iload hx hb dX8_fallDue_123 (lv_at hl 0 rfl) ?_
    refine lv_isub hx hb dX8_fallDue_125 ?_
    refine p26_1 hx hb hts hown hK hR hS (hM.com (vp_lt o_8)) q2150 dX8_fallDue_126 (fun H locs w_126_a ew_126_a hR hS => ?_)
    have h := h w_126_a ew_126_a
    refine lv_aload_n hx hb dX8_fallDue_129 rfl (lv_at hl 3 rfl) ?_
    refine lv_dup hx hb dX8_fallDue_130 rfl ?_
    refine g26_8 hx hb hts hown hK hR (hM.com (vp_lt o_8)) q2157 dX8_fallDue_131 ?_
    refine lv_iload hx hb dX8_fallDue_134 (lv_at hl 0 rfl) ?_
    refine lv_iadd hx hb dX8_fallDue_136 ?_
    refine p26_8 hx hb hts hown hK hR hS (hM.com (vp_lt o_8)) q2157 dX8_fallDue_137 (fun H locs w_137_a ew_137_a hR hS => ?_)
    have h := h w_137_a ew_137_a
    refine lv_aload_n hx hb dX8_fallDue_140 rfl (lv_at hl 4 rfl) ?_
    refine lv_dup hx hb dX8_fallDue_141 rfl ?_
    refine g20_13 hx hb hts hown hK hR l0 q1958 dX8_fallDue_142 ?_
    refine lv_iload hx hb dX8_fallDue_145 (lv_at hl 0 rfl) ?_
    refine lv_iadd hx hb dX8_fallDue_147 ?_
    refine p20_13 hx hb hts hown hK hR hS l0 q1958 dX8_fallDue_148 (fun H locs w_148_a ew_148_a hR hS => ?_)
    have h := h w_148_a ew_148_a
    refine lv_iload hx hb dX8_fallDue_151 (lv_at hl 0 rfl) ?_
    refine lv_iload_n hx hb dX8_fallDue_153 rfl (lv_at hl 1 rfl) ?_
    refine lv_icmp_ne (tgt := 158) hx hb dX8_fallDue_154 (by decide) (fun c_154_a => ?_) (fun c_154_a => ?_)
    · have h := h.1 c_154_a
      refine lv_iload_n hx hb dX8_fallDue_158 rfl (lv_at hl 1 rfl) ?_
      refine lv_iload hx hb dX8_fallDue_159 (lv_at hl 0 rfl) ?_
      refine lv_isub hx hb dX8_fallDue_161 ?_
      refine lv_aload_n hx hb dX8_fallDue_162 rfl (lv_at hl 5 rfl) ?_
      refine g27_6 hx hb hts hown hK hR l1 q2267 dX8_fallDue_163 ?_
      refine lv_iconst (v := (4 : Int32)) hx hb dX8_fallDue_166 (by decide) ?_
      refine lv_idiv hx hb dX8_fallDue_167 (by decide) ?_
      refine va_mmin hx hb (hml.trans hl.1.symm) hown (hts _ q2113) (hts _ q322) (hts _ q95) (hts _ q323) (Nat.le_of_ble_eq_true rfl) (Nat.le_of_ble_eq_true rfl) (Nat.le_of_ble_eq_true rfl) (Nat.le_of_ble_eq_true rfl) dX8_fallDue_168 ?_
      refine lv_topi (fun x_171_a ex_171_a => ?_)
      have h := h x_171_a ex_171_a
      refine lv_istore (lv' := [(6, .int (x_171_a)), (5, .int (x_116_a)), (3, .int (x_107_a)), (4, .int (x_90_a)), (2, .ref (y.2 26 ((gv w 27 a1 5).toNatClampNeg))), (0, .ref (y.2 20 0)), (1, .ref (y.2 27 a1))]) hx hb dX8_fallDue_171 hl (by decide) rfl (fun ls hl => ?_)
      refine lv_aload_n hx hb dX8_fallDue_173 rfl (lv_at hl 4 rfl) ?_
      refine lv_dup hx hb dX8_fallDue_174 rfl ?_
      refine g26_0 hx hb hts hown hK hR (hM.com (vp_lt o_8)) q2149 dX8_fallDue_175 ?_
      refine lv_iload hx hb dX8_fallDue_178 (lv_at hl 0 rfl) ?_
      refine lv_isub hx hb dX8_fallDue_180 ?_
      refine p26_0 hx hb hts hown hK hR hS (hM.com (vp_lt o_8)) q2149 dX8_fallDue_181 (fun H locs w_181_a ew_181_a hR hS => ?_)
      have h := h w_181_a ew_181_a
      refine lv_aload_n hx hb dX8_fallDue_184 rfl (lv_at hl 5 rfl) ?_
      refine lv_dup hx hb dX8_fallDue_185 rfl ?_
      refine g20_13 hx hb hts hown hK hR l0 q1958 dX8_fallDue_186 ?_
      refine lv_iload hx hb dX8_fallDue_189 (lv_at hl 0 rfl) ?_
      refine lv_iadd hx hb dX8_fallDue_191 ?_
      refine p20_13 hx hb hts hown hK hR hS l0 q1958 dX8_fallDue_192 (fun H locs w_192_a ew_192_a hR hS => ?_)
      have h := h w_192_a ew_192_a
      refine lv_aload_n hx hb dX8_fallDue_195 rfl (lv_at hl 5 rfl) ?_
      refine lv_dup hx hb dX8_fallDue_196 rfl ?_
      refine g20_15 hx hb hts hown hK hR l0 q1960 dX8_fallDue_197 ?_
      refine lv_iload hx hb dX8_fallDue_200 (lv_at hl 0 rfl) ?_
      refine lv_isub hx hb dX8_fallDue_202 ?_
      refine p20_15 hx hb hts hown hK hR hS l0 q1960 dX8_fallDue_203 (fun H locs w_203_a ew_203_a hR hS => ?_)
      have h := h w_203_a ew_203_a
      refine lv_aload_n hx hb dX8_fallDue_206 rfl (lv_at hl 4 rfl) ?_
      refine lv_iconst (v := (1 : Int32)) hx hb dX8_fallDue_207 (by decide) ?_
      refine p26_4 hx hb hts hown hK hR hS (hM.com (vp_lt o_8)) nbo_1 q2153 dX8_fallDue_208 (fun H locs w_208_a ew_208_a hR hS => ?_)
      have h := h w_208_a ew_208_a
      refine lv_aload_n hx hb dX8_fallDue_211 rfl (lv_at hl 5 rfl) ?_
      refine g20_5 hx hb hts hown hK hR l0 q1950 dX8_fallDue_212 ?_
      refine jr_iter ⟨hx, hb, hml, hown, hts⟩ hK hR hS ⟨fun _ _ _ _ _ => rfl, fun _ _ _ _ _ => rfl⟩ hM.lsL q2248 ⟨Nat.le_of_ble_eq_true rfl, Nat.le_of_ble_eq_true rfl⟩ hl.1 (Nat.le_of_ble_eq_true rfl) dX8_fallDue_215 ⟨(Nat.le_of_ble_eq_true rfl), (Nat.le_of_ble_eq_true rfl)⟩ (fun q_215_a H locs hR hS => ?_)
      have hR : Rp κ w_208_a y X [(q_215_a, itC y 54 0 0 (-1))] H := hR
      refine lv_astore (lv' := [(7, .ref (q_215_a)), (6, .int (x_171_a)), (5, .int (x_116_a)), (3, .int (x_107_a)), (4, .int (x_90_a)), (2, .ref (y.2 26 ((gv w 27 a1 5).toNatClampNeg))), (0, .ref (y.2 20 0)), (1, .ref (y.2 27 a1))]) hx hb dX8_fallDue_218 hl (by decide) rfl (fun ls hl => ?_)
      refine lp_X8_fallDue_220x1 (C1 := 1) (S1 := 4) hx hb hr hml hown hts hlocks hK hM l1 (Nat.le_of_ble_eq_true rfl) (Nat.le_of_ble_eq_true rfl) (fun w_220_a  H locs ls cells9 slots9 h hR hS hl hc9 hs9 => ?_) 9 w_208_a 0 (-1) _ _ _ _ _ (by omega) h hR hS (lv_sub hl [7, 0] rfl) (by omega) (by omega)
      refine W.widen (k := 1) (n := 4) hc9 hs9 ?_
      refine W.widen (k := 1) (n := 4) (Nat.le_of_ble_eq_true rfl) (Nat.le_of_ble_eq_true rfl) ?_
      exact W.vret hx hb hr (fun t ht hW9 => ⟨⟨w_220_a, rfl, h, rpt ht hR⟩, hS.F ht⟩) hS.2.2 dX8_fallDue_272
    · have h := h.2 c_154_a
      refine W.widen (k := 1) (n := 4) (Nat.le_of_ble_eq_true rfl) (Nat.le_of_ble_eq_true rfl) ?_
      exact W.vret hx hb hr (fun t ht hW9 => ⟨⟨w_148_a, rfl, h, rpt ht hR⟩, hS.F ht⟩) hS.2.2 dX8_fallDue_157
abbrev rm_X8_letOnOf : Room := { frames := 0, cells := 0, slots := 0, locals := 0 }
def st_X8_letOnOf_13 (κ : Kx) (y : Ly) (post : Int32 → Wd → Prop) (ex : Wd → (Int32) → Prop) (rec : Wd → Int32 → Int32 → Prop) (i2 : Nat) (v3 : Int32) (w : Wd) (v1 : Int32) (v4 : Int32) : Prop := ((v3 ≤ v4) → (ex w v1)) ∧ ((¬ (v3 ≤ v4)) → ((vp_in (v4) 8) ∧ (∀ x_23 : Int32, x_23 = gv w 29 i2 (v4).toNatClampNeg → ((x_23 ≤ 0) → (∀ x_37 : Int32, x_37 = v1 + (0 : Int32) → ∀ x_38 : Int32, x_38 = v4 + (1 : Int32) → rec w x_37 x_38)) ∧ ((¬ (x_23 ≤ 0)) → (∀ x_37_a : Int32, x_37_a = v1 + (1 : Int32) → ∀ x_38_a : Int32, x_38_a = v4 + (1 : Int32) → rec w x_37_a x_38_a)))))
def sp_X8_letOnOf_13 (κ : Kx) (y : Ly) (post : Int32 → Wd → Prop) (ex : Wd → (Int32) → Prop) (i2 : Nat) (v3 : Int32) : Nat → Wd → Int32 → Int32 → Prop
  | 0 => fun _ _ _ => False
  | n + 1 => fun w v1 v4 => st_X8_letOnOf_13 κ y post ex (sp_X8_letOnOf_13 κ y post ex i2 v3 n) i2 v3 w v1 v4
set_option maxHeartbeats 4000000 in
theorem lp_X8_letOnOf_13 {p : Program} {l : Launch} {e : Env} {s : State} {m : MethodId} {args : Array Value} {below : List Frame} {meth : Method} {c : Code} {κ : Kx} {y : Ly} {X : XR} {post : Int32 → Wd → Prop} {i2 : Nat} {v3 : Int32} (hx : p.tables.exec = Jvm.exec) (hb : c.code = cX8_letOnOf) (hr : meth.sig.returnType = (Option.some Jvm.ClassFile.FieldType.int)) (hml : c.maxLocals = 6) (hown : s.vm.findClass RX8 = some m.cls) (hts : ∀ w ∈ lw_all, w.before args s = true) (hlocks : meth.locks = false) (hK : KK κ s) (hM : WFm κ y) (l2 : live y 29 i2) {C1 S1 : Nat} (hC : C1 ≤ 0) (hSl : S1 ≤ 0) {ex : Wd → (Int32) → Prop}
    (kx : ∀ (w : Wd) (v1 : Int32) (H : Heap) (locs : List Loc) (ls : Array Slot) (cells slots : Nat) , ex w v1 → Rp κ w y X [] H → va_S (Af κ) s.heap H locs → lv_has ls 6 [(1, .int (v1))] → cells ≤ C1 → slots ≤ S1 → W p l e (headSpec (ws_ yX8_letOnOf cX8_letOnOf 6 (Option.some Jvm.ClassFile.FieldType.int)) rm_X8_letOnOf).room s m args below meth c H locs cells slots (MQ below (va_Qi post (fun w t => Rp κ w y X [] t.heap) (Af κ)) args s 0 0 (Af κ)) (F0 m 44 ls [])) :
    ∀ (f : Nat) (w : Wd) (v1 : Int32) (v4 : Int32) (H : Heap) (locs : List Loc) (ls : Array Slot) (cells slots : Nat)  , sp_X8_letOnOf_13 κ y post ex i2 v3 f w v1 v4 → Rp κ w y X [] H → va_S (Af κ) s.heap H locs → lv_has ls 6 [(1, .int (v1)), (2, .ref (y.2 29 i2)), (3, .int (v3)), (4, .int (v4))] → cells + f * 0 ≤ C1 → slots + f * 0 ≤ S1 → W p l e (headSpec (ws_ yX8_letOnOf cX8_letOnOf 6 (Option.some Jvm.ClassFile.FieldType.int)) rm_X8_letOnOf).room s m args below meth c H locs cells slots (MQ below (va_Qi post (fun w t => Rp κ w y X [] t.heap) (Af κ)) args s 0 0 (Af κ)) (F0 m 13 ls []) := by
  intro f
  induction f with
  | zero =>
    intro w v1 v4 H locs ls cells slots  h
    exact False.elim h
  | succ f ih =>
    intro w v1 v4 H locs ls cells slots  h hR hS hl hc hs
    have h : st_X8_letOnOf_13 κ y post ex (sp_X8_letOnOf_13 κ y post ex i2 v3 f) i2 v3 w v1 v4 := h
    unfold st_X8_letOnOf_13 at h
    refine lv_iload hx hb dX8_letOnOf_13 (lv_at hl 3 rfl) ?_
    refine lv_iload_n hx hb dX8_letOnOf_15 rfl (lv_at hl 2 rfl) ?_
    refine lv_icmp_ge (tgt := 44) hx hb dX8_letOnOf_16 (by decide) (fun c_16 => ?_) (fun c_16 => ?_)
    · have h := h.1 c_16
      exact kx w v1 _ _ _ _ _ h hR hS (lv_sub hl [0] rfl) (by omega) (by omega)
    · have h := h.2 c_16
      refine lv_aload_n hx hb dX8_letOnOf_19 rfl (lv_at hl 1 rfl) ?_
      refine lv_iload hx hb dX8_letOnOf_20 (lv_at hl 3 rfl) ?_
      have o_22 := h.1
      have h := h.2
      refine a29 hx hb hK hR l2 o_22 dX8_letOnOf_22 ?_
      refine lv_topi (fun x_23 ex_23 => ?_)
      have h := h x_23 ex_23
      refine lv_istore (lv' := [(5, .int (x_23)), (1, .int (v1)), (2, .ref (y.2 29 i2)), (3, .int (v3)), (4, .int (v4))]) hx hb dX8_letOnOf_23 hl (by decide) rfl (fun ls hl => ?_)
      refine lv_iload_n hx hb dX8_letOnOf_25 rfl (lv_at hl 1 rfl) ?_
      refine lv_iload hx hb dX8_letOnOf_26 (lv_at hl 0 rfl) ?_
      refine lv_if_le (tgt := 35) hx hb dX8_letOnOf_28 (by decide) (fun c_28 => ?_) (fun c_28 => ?_)
      · have h := h.1 c_28
        refine lv_iconst (v := (0 : Int32)) hx hb dX8_letOnOf_35 (by decide) ?_
        refine lv_iadd hx hb dX8_letOnOf_36 ?_
        refine lv_topi (fun x_37 ex_37 => ?_)
        have h := h x_37 ex_37
        refine lv_istore_n (lv' := [(1, .int (x_37)), (5, .int (x_23)), (2, .ref (y.2 29 i2)), (3, .int (v3)), (4, .int (v4))]) hx hb dX8_letOnOf_37 rfl hl (by decide) rfl (fun ls hl => ?_)
        obtain ⟨x_38, ex_38⟩ : ∃ z : Int32, z = v4 + (1 : Int32) := ⟨_, rfl⟩
        have h := h x_38 ex_38
        refine lv_iinc (v := x_38) (lv' := [(4, .int (x_38)), (1, .int (x_37)), (5, .int (x_23)), (2, .ref (y.2 29 i2)), (3, .int (v3))]) hx hb dX8_letOnOf_38 hl (k := 4) rfl (by rw [ex_38]; rfl) (by decide) rfl (fun ls hl => ?_)
        refine lv_goto (tgt := 13) hx hb dX8_letOnOf_41 (by decide) ?_
        exact ih w x_37 x_38 _ _ _ _ _  h hR hS (lv_sub hl [1, 3, 4, 0] rfl) (by omega) (by omega)
      · have h := h.2 c_28
        refine lv_iconst (v := (1 : Int32)) hx hb dX8_letOnOf_31 (by decide) ?_
        refine lv_goto (tgt := 36) hx hb dX8_letOnOf_32 (by decide) ?_
        refine lv_iadd hx hb dX8_letOnOf_36 ?_
        refine lv_topi (fun x_37_a ex_37_a => ?_)
        have h := h x_37_a ex_37_a
        refine lv_istore_n (lv' := [(1, .int (x_37_a)), (5, .int (x_23)), (2, .ref (y.2 29 i2)), (3, .int (v3)), (4, .int (v4))]) hx hb dX8_letOnOf_37 rfl hl (by decide) rfl (fun ls hl => ?_)
        obtain ⟨x_38_a, ex_38_a⟩ : ∃ z : Int32, z = v4 + (1 : Int32) := ⟨_, rfl⟩
        have h := h x_38_a ex_38_a
        refine lv_iinc (v := x_38_a) (lv' := [(4, .int (x_38_a)), (1, .int (x_37_a)), (5, .int (x_23)), (2, .ref (y.2 29 i2)), (3, .int (v3))]) hx hb dX8_letOnOf_38 hl (k := 4) rfl (by rw [ex_38_a]; rfl) (by decide) rfl (fun ls hl => ?_)
        refine lv_goto (tgt := 13) hx hb dX8_letOnOf_41 (by decide) ?_
        exact ih w x_37_a x_38_a _ _ _ _ _  h hR hS (lv_sub hl [1, 3, 4, 0] rfl) (by omega) (by omega)
def sp_X8_letOnOf (κ : Kx) (y : Ly) (post : Int32 → Wd → Prop) (w : Wd) (a0 : Nat) : Prop := ∀ x_9 : Int32, x_9 = nI 8 → sp_X8_letOnOf_13 κ y post (fun w_13 y1_13 => post (y1_13) w_13) a0 x_9 9 w (0 : Int32) (0 : Int32)
theorem hds_X8_letOnOf : yX8_letOnOf.cls ≠ "java/lang/invoke/MethodHandle" ∧ yX8_letOnOf.cls ≠ "java/lang/invoke/VarHandle" ∧ (parseMethodDescriptor yX8_letOnOf.desc).map (fun d => d.parameters.length) = some 1 := by decide +kernel
set_option maxHeartbeats 4000000 in
theorem m_X8_letOnOf {l : Launch} {κ : Kx} {y : Ly} {X : XR} {post : Int32 → Wd → Prop} {w : Wd} {a0 : Nat}  (hM : WFm κ y) (l0 : live y 27 a0) (h : sp_X8_letOnOf κ y post w a0) : Met l yX8_letOnOf (ws_ yX8_letOnOf cX8_letOnOf 6 (Option.some Jvm.ClassFile.FieldType.int)) rm_X8_letOnOf (va_Pc [.ref (y.2 27 a0)] (RC κ w y X)) (va_Qi post (fun w t => Rp κ w y X [] t.heap) (Af κ)) 0 0 (Af κ) := by
  unfold sp_X8_letOnOf at h
  refine Met.ofW (cc := cX8_letOnOf) (maxL := 6) (ret := (Option.some Jvm.ClassFile.FieldType.int)) (by decide) rfl ?_
  intro p e s m args below meth c s₁ B hml hv
  obtain ⟨rfl, hR, hK⟩ := hv
  have hx := B.exec
  have hb := B.bytes
  have hr := B.returns
  have hts := atoms_spec (ws := ws_ yX8_letOnOf cX8_letOnOf 6 (Option.some Jvm.ClassFile.FieldType.int)) B.pre
  have hts : ∀ w ∈ lw_all, w.before _ s = true := fun w h => hts w (List.mem_cons_of_mem _ h)
  have hown : s.vm.findClass RX8 = some m.cls := findClass_of_methodNamed B.named
  have hlocks := B.notSynchronized
  have hS : va_S (Af κ) s.heap s.heap [] := va_S.rf
  have hl := lv_entry ([.ref (y.2 27 a0)]) (n := 6) (Nat.le_of_ble_eq_true rfl)
  rw [lg_entry_eq]
  generalize (lg_sl ([.ref (y.2 27 a0)]) ++ List.replicate (6 - (lg_sl ([.ref (y.2 27 a0)])).length) Slot.unset).toArray = ls at hl ⊢
  have hl : lv_has ls 6 [(0, .ref (y.2 27 a0))] := hl
  refine lv_iconst (v := (0 : Int32)) hx hb dX8_letOnOf_0 (by decide) ?_
  refine lv_istore_n (lv' := [(1, .int ((0 : Int32))), (0, .ref (y.2 27 a0))]) hx hb dX8_letOnOf_1 rfl hl (by decide) rfl (fun ls hl => ?_)
  refine lv_aload_n hx hb dX8_letOnOf_2 rfl (lv_at hl 1 rfl) ?_
  refine g27_12 hx hb hts hown hK hR l0 q2276 dX8_letOnOf_3 ?_
  refine lv_astore_n (lv' := [(2, .ref (y.2 29 a0)), (1, .int ((0 : Int32))), (0, .ref (y.2 27 a0))]) hx hb dX8_letOnOf_6 rfl hl (by decide) rfl (fun ls hl => ?_)
  refine lv_aload_n hx hb dX8_letOnOf_7 rfl (lv_at hl 0 rfl) ?_
  refine n29 hx hb hK hR (hM.age l0) dX8_letOnOf_8 ?_
  refine lv_topi (fun x_9 ex_9 => ?_)
  have h := h x_9 ex_9
  refine lv_istore_n (lv' := [(3, .int (x_9)), (2, .ref (y.2 29 a0)), (1, .int ((0 : Int32))), (0, .ref (y.2 27 a0))]) hx hb dX8_letOnOf_9 rfl hl (by decide) rfl (fun ls hl => ?_)
  refine lv_iconst (v := (0 : Int32)) hx hb dX8_letOnOf_10 (by decide) ?_
  refine lv_istore (lv' := [(4, .int ((0 : Int32))), (3, .int (x_9)), (2, .ref (y.2 29 a0)), (1, .int ((0 : Int32))), (0, .ref (y.2 27 a0))]) hx hb dX8_letOnOf_11 hl (by decide) rfl (fun ls hl => ?_)
  refine lp_X8_letOnOf_13 (C1 := 0) (S1 := 0) hx hb hr hml hown hts hlocks hK hM (hM.age l0) (Nat.le_of_ble_eq_true rfl) (Nat.le_of_ble_eq_true rfl) (fun w_13 y1_13 H locs ls cells9 slots9 h hR hS hl hc9 hs9 => ?_) 9 w (0 : Int32) (0 : Int32) _ _ _ _ _  h hR hS (lv_sub hl [3, 2, 1, 0] rfl) (by omega) (by omega)
  refine W.widen (k := 0) (n := 0) hc9 hs9 ?_
  refine lv_iload_n hx hb dX8_letOnOf_44 rfl (lv_at hl 0 rfl) ?_
  refine W.widen (k := 0) (n := 0) (Nat.le_of_ble_eq_true rfl) (Nat.le_of_ble_eq_true rfl) ?_
  exact W.iret (v := y1_13) hx hb hr (fun t ht hW9 => ⟨⟨y1_13, w_13, rfl, h, rpt ht hR⟩, hS.F ht⟩) hS.2.2 dX8_letOnOf_45
abbrev rm_X8_year : Room := { frames := 0, cells := 0, slots := 0, locals := 0 }
def sp_X8_year (κ : Kx) (y : Ly) (post : Int32 → Wd → Prop) (w : Wd)  : Prop := post ((gv w 20 0 1) / (4 : Int32)) w
theorem hd_X8_year : yX8_year.cls = RX8 ∧ yX8_year.cls ≠ "java/lang/invoke/MethodHandle" ∧ yX8_year.cls ≠ "java/lang/invoke/VarHandle" ∧ (parseMethodDescriptor yX8_year.desc).map (fun d => d.parameters.length) = some 0 := by decide +kernel
set_option maxHeartbeats 4000000 in
theorem m_X8_year {l : Launch} {κ : Kx} {y : Ly} {X : XR} {post : Int32 → Wd → Prop} {w : Wd}   (hM : WFm κ y) (l0 : live y 20 0) (h : sp_X8_year κ y post w ) : Met l yX8_year (ws_ yX8_year cX8_year 1 (Option.some Jvm.ClassFile.FieldType.int)) rm_X8_year (va_Pc [.ref (y.2 20 0)] (RC κ w y X)) (va_Qi post (fun w t => Rp κ w y X [] t.heap) (Af κ)) 0 0 (Af κ) := by
  unfold sp_X8_year at h
  refine Met.ofW (cc := cX8_year) (maxL := 1) (ret := (Option.some Jvm.ClassFile.FieldType.int)) (by decide) rfl ?_
  intro p e s m args below meth c s₁ B hml hv
  obtain ⟨rfl, hR, hK⟩ := hv
  have hx := B.exec
  have hb := B.bytes
  have hr := B.returns
  have hts := atoms_spec (ws := ws_ yX8_year cX8_year 1 (Option.some Jvm.ClassFile.FieldType.int)) B.pre
  have hts : ∀ w ∈ lw_all, w.before _ s = true := fun w h => hts w (List.mem_cons_of_mem _ h)
  have hown : s.vm.findClass RX8 = some m.cls := findClass_of_methodNamed B.named
  have hlocks := B.notSynchronized
  have hS : va_S (Af κ) s.heap s.heap [] := va_S.rf
  have hl := lv_entry ([.ref (y.2 20 0)]) (n := 1) (Nat.le_of_ble_eq_true rfl)
  rw [lg_entry_eq]
  generalize (lg_sl ([.ref (y.2 20 0)]) ++ List.replicate (1 - (lg_sl ([.ref (y.2 20 0)])).length) Slot.unset).toArray = ls at hl ⊢
  have hl : lv_has ls 1 [(0, .ref (y.2 20 0))] := hl
  refine lv_aload_n hx hb dX8_year_0 rfl (lv_at hl 0 rfl) ?_
  refine g20_1 hx hb hts hown hK hR l0 q1946 dX8_year_1 ?_
  refine lv_iconst (v := (4 : Int32)) hx hb dX8_year_4 (by decide) ?_
  refine lv_idiv hx hb dX8_year_5 (by decide) ?_
  refine W.widen (k := 0) (n := 0) (Nat.le_of_ble_eq_true rfl) (Nat.le_of_ble_eq_true rfl) ?_
  exact W.iret (v := (gv w 20 0 1) / (4 : Int32)) hx hb hr (fun t ht hW9 => ⟨⟨(gv w 20 0 1) / (4 : Int32), w, rfl, h, rpt ht hR⟩, hS.F ht⟩) hS.2.2 dX8_year_6
abbrev rm_X8_votesNow : Room := { frames := 0, cells := 0, slots := 0, locals := 0 }
def sp_X8_votesNow (κ : Kx) (y : Ly) (post : Int32 → Wd → Prop) (w : Wd) (p1 : Int32) (p2 : Int32) (p3 : Int32) : Prop := ((p1 ≤ 0) → ((((2 : Int32) * p1 ≤ p2) → (post ((0 : Int32) + (0 : Int32)) w)) ∧ ((¬ ((2 : Int32) * p1 ≤ p2)) → (post ((0 : Int32) + p3) w)))) ∧ ((¬ (p1 ≤ 0)) → ((((2 : Int32) * p1 ≤ p2) → (post (((7 : Int32) - p3) + (0 : Int32)) w)) ∧ ((¬ ((2 : Int32) * p1 ≤ p2)) → (post (((7 : Int32) - p3) + p3) w))))
theorem hd_X8_votesNow : yX8_votesNow.cls = RX8 ∧ yX8_votesNow.cls ≠ "java/lang/invoke/MethodHandle" ∧ yX8_votesNow.cls ≠ "java/lang/invoke/VarHandle" ∧ (parseMethodDescriptor yX8_votesNow.desc).map (fun d => d.parameters.length) = some 3 := by decide +kernel
set_option maxHeartbeats 4000000 in
theorem m_X8_votesNow {l : Launch} {κ : Kx} {y : Ly} {X : XR} {post : Int32 → Wd → Prop} {w : Wd} {p1 : Int32} {p2 : Int32} {p3 : Int32}  (hM : WFm κ y) (l0 : live y 20 0) (h : sp_X8_votesNow κ y post w p1 p2 p3) : Met l yX8_votesNow (ws_ yX8_votesNow cX8_votesNow 4 (Option.some Jvm.ClassFile.FieldType.int)) rm_X8_votesNow (va_Pc [.ref (y.2 20 0), .int (p1), .int (p2), .int (p3)] (RC κ w y X)) (va_Qi post (fun w t => Rp κ w y X [] t.heap) (Af κ)) 0 0 (Af κ) := by
  unfold sp_X8_votesNow at h
  refine Met.ofW (cc := cX8_votesNow) (maxL := 4) (ret := (Option.some Jvm.ClassFile.FieldType.int)) (by decide) rfl ?_
  intro p e s m args below meth c s₁ B hml hv
  obtain ⟨rfl, hR, hK⟩ := hv
  have hx := B.exec
  have hb := B.bytes
  have hr := B.returns
  have hts := atoms_spec (ws := ws_ yX8_votesNow cX8_votesNow 4 (Option.some Jvm.ClassFile.FieldType.int)) B.pre
  have hts : ∀ w ∈ lw_all, w.before _ s = true := fun w h => hts w (List.mem_cons_of_mem _ h)
  have hown : s.vm.findClass RX8 = some m.cls := findClass_of_methodNamed B.named
  have hlocks := B.notSynchronized
  have hS : va_S (Af κ) s.heap s.heap [] := va_S.rf
  have hl := lv_entry ([.ref (y.2 20 0), .int (p1), .int (p2), .int (p3)]) (n := 4) (Nat.le_of_ble_eq_true rfl)
  rw [lg_entry_eq]
  generalize (lg_sl ([.ref (y.2 20 0), .int (p1), .int (p2), .int (p3)]) ++ List.replicate (4 - (lg_sl ([.ref (y.2 20 0), .int (p1), .int (p2), .int (p3)])).length) Slot.unset).toArray = ls at hl ⊢
  have hl : lv_has ls 4 [(0, .ref (y.2 20 0)), (1, .int (p1)), (2, .int (p2)), (3, .int (p3))] := hl
  refine lv_iload_n hx hb dX8_votesNow_0 rfl (lv_at hl 1 rfl) ?_
  refine lv_if_le (tgt := 11) hx hb dX8_votesNow_1 (by decide) (fun c_1 => ?_) (fun c_1 => ?_)
  · have h := h.1 c_1
    refine lv_iconst (v := (0 : Int32)) hx hb dX8_votesNow_11 (by decide) ?_
    refine lv_iconst (v := (2 : Int32)) hx hb dX8_votesNow_12 (by decide) ?_
    refine lv_iload_n hx hb dX8_votesNow_13 rfl (lv_at hl 1 rfl) ?_
    refine lv_imul hx hb dX8_votesNow_14 ?_
    refine lv_iload_n hx hb dX8_votesNow_15 rfl (lv_at hl 2 rfl) ?_
    refine lv_icmp_le (tgt := 23) hx hb dX8_votesNow_16 (by decide) (fun c_16 => ?_) (fun c_16 => ?_)
    · have h := h.1 c_16
      refine lv_iconst (v := (0 : Int32)) hx hb dX8_votesNow_23 (by decide) ?_
      refine lv_iadd hx hb dX8_votesNow_24 ?_
      refine W.widen (k := 0) (n := 0) (Nat.le_of_ble_eq_true rfl) (Nat.le_of_ble_eq_true rfl) ?_
      exact W.iret (v := (0 : Int32) + (0 : Int32)) hx hb hr (fun t ht hW9 => ⟨⟨(0 : Int32) + (0 : Int32), w, rfl, h, rpt ht hR⟩, hS.F ht⟩) hS.2.2 dX8_votesNow_25
    · have h := h.2 c_16
      refine lv_iload_n hx hb dX8_votesNow_19 rfl (lv_at hl 3 rfl) ?_
      refine lv_goto (tgt := 24) hx hb dX8_votesNow_20 (by decide) ?_
      refine lv_iadd hx hb dX8_votesNow_24 ?_
      refine W.widen (k := 0) (n := 0) (Nat.le_of_ble_eq_true rfl) (Nat.le_of_ble_eq_true rfl) ?_
      exact W.iret (v := (0 : Int32) + p3) hx hb hr (fun t ht hW9 => ⟨⟨(0 : Int32) + p3, w, rfl, h, rpt ht hR⟩, hS.F ht⟩) hS.2.2 dX8_votesNow_25
  · have h := h.2 c_1
    refine lv_bipush (v := (7 : Int32)) hx hb dX8_votesNow_4 (by decide) ?_
    refine lv_iload_n hx hb dX8_votesNow_6 rfl (lv_at hl 3 rfl) ?_
    refine lv_isub hx hb dX8_votesNow_7 ?_
    refine lv_goto (tgt := 12) hx hb dX8_votesNow_8 (by decide) ?_
    refine lv_iconst (v := (2 : Int32)) hx hb dX8_votesNow_12 (by decide) ?_
    refine lv_iload_n hx hb dX8_votesNow_13 rfl (lv_at hl 1 rfl) ?_
    refine lv_imul hx hb dX8_votesNow_14 ?_
    refine lv_iload_n hx hb dX8_votesNow_15 rfl (lv_at hl 2 rfl) ?_
    refine lv_icmp_le (tgt := 23) hx hb dX8_votesNow_16 (by decide) (fun c_16_a => ?_) (fun c_16_a => ?_)
    · have h := h.1 c_16_a
      refine lv_iconst (v := (0 : Int32)) hx hb dX8_votesNow_23 (by decide) ?_
      refine lv_iadd hx hb dX8_votesNow_24 ?_
      refine W.widen (k := 0) (n := 0) (Nat.le_of_ble_eq_true rfl) (Nat.le_of_ble_eq_true rfl) ?_
      exact W.iret (v := ((7 : Int32) - p3) + (0 : Int32)) hx hb hr (fun t ht hW9 => ⟨⟨((7 : Int32) - p3) + (0 : Int32), w, rfl, h, rpt ht hR⟩, hS.F ht⟩) hS.2.2 dX8_votesNow_25
    · have h := h.2 c_16_a
      refine lv_iload_n hx hb dX8_votesNow_19 rfl (lv_at hl 3 rfl) ?_
      refine lv_goto (tgt := 24) hx hb dX8_votesNow_20 (by decide) ?_
      refine lv_iadd hx hb dX8_votesNow_24 ?_
      refine W.widen (k := 0) (n := 0) (Nat.le_of_ble_eq_true rfl) (Nat.le_of_ble_eq_true rfl) ?_
      exact W.iret (v := ((7 : Int32) - p3) + p3) hx hb hr (fun t ht hW9 => ⟨⟨((7 : Int32) - p3) + p3, w, rfl, h, rpt ht hR⟩, hS.F ht⟩) hS.2.2 dX8_votesNow_25
abbrev rm_X8_recall : Room := { frames := 3, cells := 1, slots := 4, locals := 68 }
def st_X8_recall_65 (κ : Kx) (y : Ly) (post : Int32 → Wd → Prop) (ex : Wd → Prop) (rec : Wd → Nat → Int32 → Prop)  (w : Wd) (c2 : Nat) (z2 : Int32) : Prop := ((¬ (¬ c2 = mC y)) → (ex w )) ∧ (((¬ c2 = mC y)) → (∀ w_86 : Wd, w_86 = sv w 26 c2 6 ((0 : Int32)) → rec w_86 (c2 + 1) (nI c2)))
def sp_X8_recall_65 (κ : Kx) (y : Ly) (post : Int32 → Wd → Prop) (ex : Wd → Prop)  : Nat → Wd → Nat → Int32 → Prop
  | 0 => fun _ _ _ => False
  | n + 1 => fun w c2 z2 => st_X8_recall_65 κ y post ex (sp_X8_recall_65 κ y post ex  n)  w c2 z2
set_option maxHeartbeats 4000000 in
theorem lp_X8_recall_65 {p : Program} {l : Launch} {e : Env} {s : State} {m : MethodId} {args : Array Value} {below : List Frame} {meth : Method} {c : Code} {κ : Kx} {y : Ly} {X : XR} {post : Int32 → Wd → Prop} {q2 : Nat} (hx : p.tables.exec = Jvm.exec) (hb : c.code = cX8_recall) (hr : meth.sig.returnType = (Option.some Jvm.ClassFile.FieldType.int)) (hml : c.maxLocals = 4) (hown : s.vm.findClass RX8 = some m.cls) (hts : ∀ w ∈ lw_all, w.before args s = true) (hlocks : meth.locks = false) (hK : KK κ s) (hM : WFm κ y)  {C1 S1 : Nat} (hC : C1 ≤ 1) (hSl : S1 ≤ 4) {ex : Wd → Prop}
    (kx : ∀ (w : Wd)  (H : Heap) (locs : List Loc) (ls : Array Slot) (cells slots : Nat) , ex w  → Rp κ w y X [] H → va_S (Af κ) s.heap H locs → lv_has ls 4 [(1, .int ((0 : Int32)))] → cells ≤ C1 → slots ≤ S1 → W p l e (headSpec (ws_ yX8_recall cX8_recall 4 (Option.some Jvm.ClassFile.FieldType.int)) rm_X8_recall).room s m args below meth c H locs cells slots (MQ below (va_Qi post (fun w t => Rp κ w y X [] t.heap) (Af κ)) args s 1 4 (Af κ)) (F0 m 92 ls [])) :
    ∀ (f : Nat) (w : Wd) (c2 : Nat) (z2 : Int32) (H : Heap) (locs : List Loc) (ls : Array Slot) (cells slots : Nat)  (hc2 : c2 ≤ mC y), sp_X8_recall_65 κ y post ex  f w c2 z2 → Rp κ w y X [(q2, itC y 52 0 c2 z2)] H → va_S (Af κ) s.heap H locs → lv_has ls 4 [(1, .int ((0 : Int32))), (2, .ref (q2))] → cells + f * 0 ≤ C1 → slots + f * 0 ≤ S1 → W p l e (headSpec (ws_ yX8_recall cX8_recall 4 (Option.some Jvm.ClassFile.FieldType.int)) rm_X8_recall).room s m args below meth c H locs cells slots (MQ below (va_Qi post (fun w t => Rp κ w y X [] t.heap) (Af κ)) args s 1 4 (Af κ)) (F0 m 65 ls []) := by
  intro f
  induction f with
  | zero =>
    intro w c2 z2 H locs ls cells slots hc2 h
    exact False.elim h
  | succ f ih =>
    intro w c2 z2 H locs ls cells slots hc2 h hR hS hl hc hs
    have h : st_X8_recall_65 κ y post ex (sp_X8_recall_65 κ y post ex  f)  w c2 z2 := h
    unfold st_X8_recall_65 at h
    refine lv_aload_n hx hb dX8_recall_65 rfl (lv_at hl 1 rfl) ?_
    refine jr_hasNext (t := 0) ⟨hx, hb, hml, hown, hts⟩ hK hR rfl ⟨fun _ _ _ _ _ => rfl, fun _ _ _ _ _ => rfl⟩ hM.lsC (by omega) (Nat.le_trans hM.mC4 (by decide)) q2250 ⟨Nat.le_of_ble_eq_true rfl, Nat.le_of_ble_eq_true rfl⟩ hl.1 (Nat.le_of_ble_eq_true rfl) dX8_recall_66 ⟨(Nat.le_trans (show cells + 0 ≤ C1 from by omega) hC), (Nat.le_trans (show slots + 0 ≤ S1 from by omega) hSl)⟩ ?_
    refine lv_if_eq (tgt := 92) hx hb dX8_recall_71 (by decide) (fun c_71 => ?_) (fun c_71 => ?_)
    · replace c_71 : ¬ (¬ c2 = mC y) := bi_0.mp c_71
      have h := h.1 c_71
      have hR := hR.sub (L' := []) [] rfl rfl
      exact kx w  _ _ _ _ _ h hR hS (lv_sub hl [0] rfl) (by omega) (by omega)
    · replace c_71 : (¬ c2 = mC y) := bi_n0.mp c_71
      have h := h.2 c_71
      refine lv_aload_n hx hb dX8_recall_74 rfl (lv_at hl 1 rfl) ?_
      have hn_75 : c2 < mC y := by omega
      refine jr_next (t := 0) (a := y.2 26 c2) ⟨hx, hb, hml, hown, hts⟩ hK hR hS rfl ⟨fun _ _ _ _ _ => rfl, fun _ _ _ _ _ => rfl⟩ hM.lsC ⟨hM.arC (Nat.lt_of_le_of_lt (Nat.zero_le _) hn_75), (Nat.le_trans hM.mC4 (by decide))⟩ hn_75 (hM.elC hn_75) q2252 ⟨Nat.le_of_ble_eq_true rfl, Nat.le_of_ble_eq_true rfl⟩ hl.1 (Nat.le_of_ble_eq_true rfl) dX8_recall_75 ⟨(Nat.le_trans (show cells + 0 ≤ C1 from by omega) hC), (Nat.le_trans (show slots + 0 ≤ S1 from by omega) hSl)⟩ (fun H locs hR hS => ?_)
      have hR : Rp κ w y X [(q2, itC y 52 0 (c2 + 1) (nI c2))] H := hR
      refine jr_castS (ci := 13) hx hb hown hK hts (hR.role (hM.com hn_75)) rfl q2141 dX8_recall_80 ?_
      refine lv_astore_n (lv' := [(3, .ref (y.2 26 c2)), (1, .int ((0 : Int32))), (2, .ref (q2))]) hx hb dX8_recall_83 rfl hl (by decide) rfl (fun ls hl => ?_)
      refine lv_aload_n hx hb dX8_recall_84 rfl (lv_at hl 0 rfl) ?_
      refine lv_iconst (v := (0 : Int32)) hx hb dX8_recall_85 (by decide) ?_
      refine p26_6 hx hb hts hown hK hR hS (hM.com hn_75) q2155 dX8_recall_86 (fun H locs w_86 ew_86 hR hS => ?_)
      have h := h w_86 ew_86
      refine lv_goto (tgt := 65) hx hb dX8_recall_89 (by decide) ?_
      exact ih w_86 (c2 + 1) (nI c2) _ _ _ _ _ (by omega) h hR hS (lv_sub hl [1, 2] rfl) (by omega) (by omega)
def st_X8_recall_65x1 (κ : Kx) (y : Ly) (post : Int32 → Wd → Prop) (ex : Wd → Prop) (rec : Wd → Nat → Int32 → Prop) (v1 : Int32) (w : Wd) (c2 : Nat) (z2 : Int32) : Prop := ((¬ (¬ c2 = mC y)) → (ex w )) ∧ (((¬ c2 = mC y)) → (∀ w_86_a : Wd, w_86_a = sv w 26 c2 6 ((0 : Int32)) → rec w_86_a (c2 + 1) (nI c2)))
def sp_X8_recall_65x1 (κ : Kx) (y : Ly) (post : Int32 → Wd → Prop) (ex : Wd → Prop) (v1 : Int32) : Nat → Wd → Nat → Int32 → Prop
  | 0 => fun _ _ _ => False
  | n + 1 => fun w c2 z2 => st_X8_recall_65x1 κ y post ex (sp_X8_recall_65x1 κ y post ex v1 n) v1 w c2 z2
set_option maxHeartbeats 4000000 in
theorem lp_X8_recall_65x1 {p : Program} {l : Launch} {e : Env} {s : State} {m : MethodId} {args : Array Value} {below : List Frame} {meth : Method} {c : Code} {κ : Kx} {y : Ly} {X : XR} {post : Int32 → Wd → Prop} {q2 : Nat} {v1 : Int32} (hx : p.tables.exec = Jvm.exec) (hb : c.code = cX8_recall) (hr : meth.sig.returnType = (Option.some Jvm.ClassFile.FieldType.int)) (hml : c.maxLocals = 4) (hown : s.vm.findClass RX8 = some m.cls) (hts : ∀ w ∈ lw_all, w.before args s = true) (hlocks : meth.locks = false) (hK : KK κ s) (hM : WFm κ y)  {C1 S1 : Nat} (hC : C1 ≤ 1) (hSl : S1 ≤ 4) {ex : Wd → Prop}
    (kx : ∀ (w : Wd)  (H : Heap) (locs : List Loc) (ls : Array Slot) (cells slots : Nat) , ex w  → Rp κ w y X [] H → va_S (Af κ) s.heap H locs → lv_has ls 4 [(1, .int (v1))] → cells ≤ C1 → slots ≤ S1 → W p l e (headSpec (ws_ yX8_recall cX8_recall 4 (Option.some Jvm.ClassFile.FieldType.int)) rm_X8_recall).room s m args below meth c H locs cells slots (MQ below (va_Qi post (fun w t => Rp κ w y X [] t.heap) (Af κ)) args s 1 4 (Af κ)) (F0 m 92 ls [])) :
    ∀ (f : Nat) (w : Wd) (c2 : Nat) (z2 : Int32) (H : Heap) (locs : List Loc) (ls : Array Slot) (cells slots : Nat)  (hc2 : c2 ≤ mC y), sp_X8_recall_65x1 κ y post ex v1 f w c2 z2 → Rp κ w y X [(q2, itC y 52 0 c2 z2)] H → va_S (Af κ) s.heap H locs → lv_has ls 4 [(1, .int (v1)), (2, .ref (q2))] → cells + f * 0 ≤ C1 → slots + f * 0 ≤ S1 → W p l e (headSpec (ws_ yX8_recall cX8_recall 4 (Option.some Jvm.ClassFile.FieldType.int)) rm_X8_recall).room s m args below meth c H locs cells slots (MQ below (va_Qi post (fun w t => Rp κ w y X [] t.heap) (Af κ)) args s 1 4 (Af κ)) (F0 m 65 ls []) := by
  intro f
  induction f with
  | zero =>
    intro w c2 z2 H locs ls cells slots hc2 h
    exact False.elim h
  | succ f ih =>
    intro w c2 z2 H locs ls cells slots hc2 h hR hS hl hc hs
    have h : st_X8_recall_65x1 κ y post ex (sp_X8_recall_65x1 κ y post ex v1 f) v1 w c2 z2 := h
    unfold st_X8_recall_65x1 at h
    refine lv_aload_n hx hb dX8_recall_65 rfl (lv_at hl 1 rfl) ?_
    refine jr_hasNext (t := 0) ⟨hx, hb, hml, hown, hts⟩ hK hR rfl ⟨fun _ _ _ _ _ => rfl, fun _ _ _ _ _ => rfl⟩ hM.lsC (by omega) (Nat.le_trans hM.mC4 (by decide)) q2250 ⟨Nat.le_of_ble_eq_true rfl, Nat.le_of_ble_eq_true rfl⟩ hl.1 (Nat.le_of_ble_eq_true rfl) dX8_recall_66 ⟨(Nat.le_trans (show cells + 0 ≤ C1 from by omega) hC), (Nat.le_trans (show slots + 0 ≤ S1 from by omega) hSl)⟩ ?_
    refine lv_if_eq (tgt := 92) hx hb dX8_recall_71 (by decide) (fun c_71_a => ?_) (fun c_71_a => ?_)
    · replace c_71_a : ¬ (¬ c2 = mC y) := bi_0.mp c_71_a
      have h := h.1 c_71_a
      have hR := hR.sub (L' := []) [] rfl rfl
      exact kx w  _ _ _ _ _ h hR hS (lv_sub hl [0] rfl) (by omega) (by omega)
    · replace c_71_a : (¬ c2 = mC y) := bi_n0.mp c_71_a
      have h := h.2 c_71_a
      refine lv_aload_n hx hb dX8_recall_74 rfl (lv_at hl 1 rfl) ?_
      have hn_75_a : c2 < mC y := by omega
      refine jr_next (t := 0) (a := y.2 26 c2) ⟨hx, hb, hml, hown, hts⟩ hK hR hS rfl ⟨fun _ _ _ _ _ => rfl, fun _ _ _ _ _ => rfl⟩ hM.lsC ⟨hM.arC (Nat.lt_of_le_of_lt (Nat.zero_le _) hn_75_a), (Nat.le_trans hM.mC4 (by decide))⟩ hn_75_a (hM.elC hn_75_a) q2252 ⟨Nat.le_of_ble_eq_true rfl, Nat.le_of_ble_eq_true rfl⟩ hl.1 (Nat.le_of_ble_eq_true rfl) dX8_recall_75 ⟨(Nat.le_trans (show cells + 0 ≤ C1 from by omega) hC), (Nat.le_trans (show slots + 0 ≤ S1 from by omega) hSl)⟩ (fun H locs hR hS => ?_)
      have hR : Rp κ w y X [(q2, itC y 52 0 (c2 + 1) (nI c2))] H := hR
      refine jr_castS (ci := 13) hx hb hown hK hts (hR.role (hM.com hn_75_a)) rfl q2141 dX8_recall_80 ?_
      refine lv_astore_n (lv' := [(3, .ref (y.2 26 c2)), (1, .int (v1)), (2, .ref (q2))]) hx hb dX8_recall_83 rfl hl (by decide) rfl (fun ls hl => ?_)
      refine lv_aload_n hx hb dX8_recall_84 rfl (lv_at hl 0 rfl) ?_
      refine lv_iconst (v := (0 : Int32)) hx hb dX8_recall_85 (by decide) ?_
      refine p26_6 hx hb hts hown hK hR hS (hM.com hn_75_a) q2155 dX8_recall_86 (fun H locs w_86_a ew_86_a hR hS => ?_)
      have h := h w_86_a ew_86_a
      refine lv_goto (tgt := 65) hx hb dX8_recall_89 (by decide) ?_
      exact ih w_86_a (c2 + 1) (nI c2) _ _ _ _ _ (by omega) h hR hS (lv_sub hl [1, 2] rfl) (by omega) (by omega)
def sp_X8_recall (κ : Kx) (y : Ly) (post : Int32 → Wd → Prop) (w : Wd)  : Prop := ∀ w_2 : Wd, w_2 = sv w 20 0 0 ((0 : Int32)) → ((gv w_2 20 0 16 < (2 : Int32)) → (∀ w_29 : Wd, w_29 = sv w_2 20 0 13 ((gv w_2 20 0 13) + (0 : Int32)) → ∀ w_44 : Wd, w_44 = sv w_29 20 0 15 ((gv w_29 20 0 15) + ((gv w_29 20 0 14) - (0 : Int32))) → ∀ w_49 : Wd, w_49 = sv w_44 20 0 14 ((0 : Int32)) → ∀ w_54 : Wd, w_54 = sv w_49 20 0 16 ((0 : Int32)) → sp_X8_recall_65 κ y post (fun w_65  => post ((0 : Int32)) w_65)  5 w_54 0 (-1))) ∧ ((¬ (gv w_2 20 0 16 < (2 : Int32))) → (∀ x_21 : Int32, x_21 = gv w_2 20 0 14 → ∀ w_29_a : Wd, w_29_a = sv w_2 20 0 13 ((gv w_2 20 0 13) + x_21) → ∀ w_44_a : Wd, w_44_a = sv w_29_a 20 0 15 ((gv w_29_a 20 0 15) + ((gv w_29_a 20 0 14) - x_21)) → ∀ w_49_a : Wd, w_49_a = sv w_44_a 20 0 14 ((0 : Int32)) → ∀ w_54_a : Wd, w_54_a = sv w_49_a 20 0 16 ((0 : Int32)) → sp_X8_recall_65x1 κ y post (fun w_65_a  => post (x_21) w_65_a) x_21 5 w_54_a 0 (-1)))
theorem hd_X8_recall : yX8_recall.cls = RX8 ∧ yX8_recall.cls ≠ "java/lang/invoke/MethodHandle" ∧ yX8_recall.cls ≠ "java/lang/invoke/VarHandle" ∧ (parseMethodDescriptor yX8_recall.desc).map (fun d => d.parameters.length) = some 0 := by decide +kernel
set_option maxHeartbeats 4000000 in
theorem m_X8_recall {l : Launch} {κ : Kx} {y : Ly} {X : XR} {post : Int32 → Wd → Prop} {w : Wd}   (hM : WFm κ y) (l0 : live y 20 0) (h : sp_X8_recall κ y post w ) : Met l yX8_recall (ws_ yX8_recall cX8_recall 4 (Option.some Jvm.ClassFile.FieldType.int)) rm_X8_recall (va_Pc [.ref (y.2 20 0)] (RC κ w y X)) (va_Qi post (fun w t => Rp κ w y X [] t.heap) (Af κ)) 1 4 (Af κ) := by
  unfold sp_X8_recall at h
  refine Met.ofW (cc := cX8_recall) (maxL := 4) (ret := (Option.some Jvm.ClassFile.FieldType.int)) (by decide) rfl ?_
  intro p e s m args below meth c s₁ B hml hv
  obtain ⟨rfl, hR, hK⟩ := hv
  have hx := B.exec
  have hb := B.bytes
  have hr := B.returns
  have hts := atoms_spec (ws := ws_ yX8_recall cX8_recall 4 (Option.some Jvm.ClassFile.FieldType.int)) B.pre
  have hts : ∀ w ∈ lw_all, w.before _ s = true := fun w h => hts w (List.mem_cons_of_mem _ h)
  have hown : s.vm.findClass RX8 = some m.cls := findClass_of_methodNamed B.named
  have hlocks := B.notSynchronized
  have hS : va_S (Af κ) s.heap s.heap [] := va_S.rf
  have hl := lv_entry ([.ref (y.2 20 0)]) (n := 4) (Nat.le_of_ble_eq_true rfl)
  rw [lg_entry_eq]
  generalize (lg_sl ([.ref (y.2 20 0)]) ++ List.replicate (4 - (lg_sl ([.ref (y.2 20 0)])).length) Slot.unset).toArray = ls at hl ⊢
  have hl : lv_has ls 4 [(0, .ref (y.2 20 0))] := hl
  refine lv_aload_n hx hb dX8_recall_0 rfl (lv_at hl 0 rfl) ?_
  refine lv_iconst (v := (0 : Int32)) hx hb dX8_recall_1 (by decide) ?_
  refine p20_0 hx hb hts hown hK hR hS l0 q1945 dX8_recall_2 (fun H locs w_2 ew_2 hR hS => ?_)
  have h := h w_2 ew_2
  refine lv_aload_n hx hb dX8_recall_5 rfl (lv_at hl 0 rfl) ?_
  refine g20_16 hx hb hts hown hK hR l0 q1961 dX8_recall_6 ?_
  refine lv_iconst (v := (2 : Int32)) hx hb dX8_recall_9 (by decide) ?_
  refine lv_icmp_lt (tgt := 20) hx hb dX8_recall_10 (by decide) (fun c_10 => ?_) (fun c_10 => ?_)
  · have h := h.1 c_10
    refine lv_iconst (v := (0 : Int32)) hx hb dX8_recall_20 (by decide) ?_
    refine lv_istore_n (lv' := [(1, .int ((0 : Int32))), (0, .ref (y.2 20 0))]) hx hb dX8_recall_21 rfl hl (by decide) rfl (fun ls hl => ?_)
    refine lv_aload_n hx hb dX8_recall_22 rfl (lv_at hl 1 rfl) ?_
    refine lv_dup hx hb dX8_recall_23 rfl ?_
    refine g20_13 hx hb hts hown hK hR l0 q1958 dX8_recall_24 ?_
    refine lv_iload_n hx hb dX8_recall_27 rfl (lv_at hl 0 rfl) ?_
    refine lv_iadd hx hb dX8_recall_28 ?_
    refine p20_13 hx hb hts hown hK hR hS l0 q1958 dX8_recall_29 (fun H locs w_29 ew_29 hR hS => ?_)
    have h := h w_29 ew_29
    refine lv_aload_n hx hb dX8_recall_32 rfl (lv_at hl 1 rfl) ?_
    refine lv_dup hx hb dX8_recall_33 rfl ?_
    refine g20_15 hx hb hts hown hK hR l0 q1960 dX8_recall_34 ?_
    refine lv_aload_n hx hb dX8_recall_37 rfl (lv_at hl 1 rfl) ?_
    refine g20_14 hx hb hts hown hK hR l0 q1959 dX8_recall_38 ?_
    refine lv_iload_n hx hb dX8_recall_41 rfl (lv_at hl 0 rfl) ?_
    refine lv_isub hx hb dX8_recall_42 ?_
    refine lv_iadd hx hb dX8_recall_43 ?_
    refine p20_15 hx hb hts hown hK hR hS l0 q1960 dX8_recall_44 (fun H locs w_44 ew_44 hR hS => ?_)
    have h := h w_44 ew_44
    refine lv_aload_n hx hb dX8_recall_47 rfl (lv_at hl 1 rfl) ?_
    refine lv_iconst (v := (0 : Int32)) hx hb dX8_recall_48 (by decide) ?_
    refine p20_14 hx hb hts hown hK hR hS l0 q1959 dX8_recall_49 (fun H locs w_49 ew_49 hR hS => ?_)
    have h := h w_49 ew_49
    refine lv_aload_n hx hb dX8_recall_52 rfl (lv_at hl 1 rfl) ?_
    refine lv_iconst (v := (0 : Int32)) hx hb dX8_recall_53 (by decide) ?_
    refine p20_16 hx hb hts hown hK hR hS l0 q1961 dX8_recall_54 (fun H locs w_54 ew_54 hR hS => ?_)
    have h := h w_54 ew_54
    refine lv_aload_n hx hb dX8_recall_57 rfl (lv_at hl 1 rfl) ?_
    refine g20_4 hx hb hts hown hK hR l0 q1949 dX8_recall_58 ?_
    refine jr_iter ⟨hx, hb, hml, hown, hts⟩ hK hR hS ⟨fun _ _ _ _ _ => rfl, fun _ _ _ _ _ => rfl⟩ hM.lsC q2248 ⟨Nat.le_of_ble_eq_true rfl, Nat.le_of_ble_eq_true rfl⟩ hl.1 (Nat.le_of_ble_eq_true rfl) dX8_recall_61 ⟨(Nat.le_of_ble_eq_true rfl), (Nat.le_of_ble_eq_true rfl)⟩ (fun q_61 H locs hR hS => ?_)
    have hR : Rp κ w_54 y X [(q_61, itC y 52 0 0 (-1))] H := hR
    refine lv_astore_n (lv' := [(2, .ref (q_61)), (1, .int ((0 : Int32))), (0, .ref (y.2 20 0))]) hx hb dX8_recall_64 rfl hl (by decide) rfl (fun ls hl => ?_)
    refine lp_X8_recall_65 (C1 := 1) (S1 := 4) hx hb hr hml hown hts hlocks hK hM  (Nat.le_of_ble_eq_true rfl) (Nat.le_of_ble_eq_true rfl) (fun w_65  H locs ls cells9 slots9 h hR hS hl hc9 hs9 => ?_) 5 w_54 0 (-1) _ _ _ _ _ (by omega) h hR hS (lv_sub hl [1, 0] rfl) (by omega) (by omega)
    refine W.widen (k := 1) (n := 4) hc9 hs9 ?_
    refine lv_iload_n hx hb dX8_recall_92 rfl (lv_at hl 0 rfl) ?_
    refine W.widen (k := 1) (n := 4) (Nat.le_of_ble_eq_true rfl) (Nat.le_of_ble_eq_true rfl) ?_
    exact W.iret (v := (0 : Int32)) hx hb hr (fun t ht hW9 => ⟨⟨(0 : Int32), w_65, rfl, h, rpt ht hR⟩, hS.F ht⟩) hS.2.2 dX8_recall_93
  · have h := h.2 c_10
    refine lv_aload_n hx hb dX8_recall_13 rfl (lv_at hl 0 rfl) ?_
    refine g20_14 hx hb hts hown hK hR l0 q1959 dX8_recall_14 ?_
    refine lv_goto (tgt := 21) hx hb dX8_recall_17 (by decide) ?_
    refine lv_topi (fun x_21 ex_21 => ?_)
    have h := h x_21 ex_21
    refine lv_istore_n (lv' := [(1, .int (x_21)), (0, .ref (y.2 20 0))]) hx hb dX8_recall_21 rfl hl (by decide) rfl (fun ls hl => ?_)
    refine lv_aload_n hx hb dX8_recall_22 rfl (lv_at hl 1 rfl) ?_
    refine lv_dup hx hb dX8_recall_23 rfl ?_
    refine g20_13 hx hb hts hown hK hR l0 q1958 dX8_recall_24 ?_
    refine lv_iload_n hx hb dX8_recall_27 rfl (lv_at hl 0 rfl) ?_
    refine lv_iadd hx hb dX8_recall_28 ?_
    refine p20_13 hx hb hts hown hK hR hS l0 q1958 dX8_recall_29 (fun H locs w_29_a ew_29_a hR hS => ?_)
    have h := h w_29_a ew_29_a
    refine lv_aload_n hx hb dX8_recall_32 rfl (lv_at hl 1 rfl) ?_
    refine lv_dup hx hb dX8_recall_33 rfl ?_
    refine g20_15 hx hb hts hown hK hR l0 q1960 dX8_recall_34 ?_
    refine lv_aload_n hx hb dX8_recall_37 rfl (lv_at hl 1 rfl) ?_
    refine g20_14 hx hb hts hown hK hR l0 q1959 dX8_recall_38 ?_
    refine lv_iload_n hx hb dX8_recall_41 rfl (lv_at hl 0 rfl) ?_
    refine lv_isub hx hb dX8_recall_42 ?_
    refine lv_iadd hx hb dX8_recall_43 ?_
    refine p20_15 hx hb hts hown hK hR hS l0 q1960 dX8_recall_44 (fun H locs w_44_a ew_44_a hR hS => ?_)
    have h := h w_44_a ew_44_a
    refine lv_aload_n hx hb dX8_recall_47 rfl (lv_at hl 1 rfl) ?_
    refine lv_iconst (v := (0 : Int32)) hx hb dX8_recall_48 (by decide) ?_
    refine p20_14 hx hb hts hown hK hR hS l0 q1959 dX8_recall_49 (fun H locs w_49_a ew_49_a hR hS => ?_)
    have h := h w_49_a ew_49_a
    refine lv_aload_n hx hb dX8_recall_52 rfl (lv_at hl 1 rfl) ?_
    refine lv_iconst (v := (0 : Int32)) hx hb dX8_recall_53 (by decide) ?_
    refine p20_16 hx hb hts hown hK hR hS l0 q1961 dX8_recall_54 (fun H locs w_54_a ew_54_a hR hS => ?_)
    have h := h w_54_a ew_54_a
    refine lv_aload_n hx hb dX8_recall_57 rfl (lv_at hl 1 rfl) ?_
    refine g20_4 hx hb hts hown hK hR l0 q1949 dX8_recall_58 ?_
    refine jr_iter ⟨hx, hb, hml, hown, hts⟩ hK hR hS ⟨fun _ _ _ _ _ => rfl, fun _ _ _ _ _ => rfl⟩ hM.lsC q2248 ⟨Nat.le_of_ble_eq_true rfl, Nat.le_of_ble_eq_true rfl⟩ hl.1 (Nat.le_of_ble_eq_true rfl) dX8_recall_61 ⟨(Nat.le_of_ble_eq_true rfl), (Nat.le_of_ble_eq_true rfl)⟩ (fun q_61_a H locs hR hS => ?_)
    have hR : Rp κ w_54_a y X [(q_61_a, itC y 52 0 0 (-1))] H := hR
    refine lv_astore_n (lv' := [(2, .ref (q_61_a)), (1, .int (x_21)), (0, .ref (y.2 20 0))]) hx hb dX8_recall_64 rfl hl (by decide) rfl (fun ls hl => ?_)
    refine lp_X8_recall_65x1 (C1 := 1) (S1 := 4) hx hb hr hml hown hts hlocks hK hM  (Nat.le_of_ble_eq_true rfl) (Nat.le_of_ble_eq_true rfl) (fun w_65_a  H locs ls cells9 slots9 h hR hS hl hc9 hs9 => ?_) 5 w_54_a 0 (-1) _ _ _ _ _ (by omega) h hR hS (lv_sub hl [1, 0] rfl) (by omega) (by omega)
    refine W.widen (k := 1) (n := 4) hc9 hs9 ?_
    refine lv_iload_n hx hb dX8_recall_92 rfl (lv_at hl 0 rfl) ?_
    refine W.widen (k := 1) (n := 4) (Nat.le_of_ble_eq_true rfl) (Nat.le_of_ble_eq_true rfl) ?_
    exact W.iret (v := x_21) hx hb hr (fun t ht hW9 => ⟨⟨x_21, w_65_a, rfl, h, rpt ht hR⟩, hS.F ht⟩) hS.2.2 dX8_recall_93
