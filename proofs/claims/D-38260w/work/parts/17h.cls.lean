/-! printed by wip gen: X1_pass -/
set_option maxRecDepth 100000
abbrev rm_X1_pass : Room := { frames := 7, cells := 4517, slots := 16350, locals := 187 }
def st_X1_pass_38 (κ : Kx) (post : Int32 → Wd → Ly → Prop) (px : String → Wd → Prop) (ex : Wd → Ly → Prop) (rec : Wd → Ly → Int32 → Prop) (v1 : Int32) (w : Wd) (y : Ly) (v2 : Int32) : Prop := ((v1 ≤ v2) → (ex w y )) ∧ ((¬ (v1 ≤ v2)) → (sp_X1_begin κ y (fun  w_44 y_44 => ∀ x_47 : Int32, x_47 = v2 + (1 : Int32) → rec w_44 y_44 x_47) w ))
def sp_X1_pass_38 (κ : Kx) (post : Int32 → Wd → Ly → Prop) (px : String → Wd → Prop) (ex : Wd → Ly → Prop) (v1 : Int32) : Nat → Wd → Ly → Int32 → Prop
  | 0 => fun _ _ _ => False
  | n + 1 => fun w y v2 => st_X1_pass_38 κ post px ex (sp_X1_pass_38 κ post px ex v1 n) v1 w y v2
set_option maxHeartbeats 4000000 in
theorem lp_X1_pass_38 {p : Program} {l : Launch} {e : Env} {s : State} {m : MethodId} {args : Array Value} {below : List Frame} {meth : Method} {c : Code} {κ : Kx} {y0 : Ly} {X : XR} {post : Int32 → Wd → Ly → Prop} {px : String → Wd → Prop} {v1 : Int32} (hx : p.tables.exec = Jvm.exec) (hb : c.code = cX1_pass) (hr : meth.sig.returnType = (Option.some Jvm.ClassFile.FieldType.int)) (hml : c.maxLocals = 3) (hown : s.vm.findClass RX1 = some m.cls) (hts : ∀ w ∈ lw_all, w.before args s = true) (hlocks : meth.locks = false) (hK : KK κ s)  (hfl : l.stackTraces = false) (ht : ∀ x ∈ c.exceptionTable.toList, False) {w0 : Wd} (hR0 : Rp κ w0 y0 X [] s.heap)  {C1 S1 : Nat} (hC : C1 ≤ 4517) (hSl : S1 ≤ 16350) {ex : Wd → Ly → Prop}
    (kx : ∀ (w : Wd) (y : Ly)  (H : Heap) (locs : List Loc) (ls : Array Slot) (cells slots : Nat) (hW : WFc κ y) (hLe : LeS y0 y) , ex w y  → Rp κ w y X [] H → va_S (Af κ) s.heap H locs → lv_has ls 3 [(0, .ref (y.2 0 0))] → cells ≤ C1 → slots ≤ S1 → W p l e (headSpec (ws_ yX1_pass cX1_pass 3 (Option.some Jvm.ClassFile.FieldType.int)) rm_X1_pass).room s m args below meth c H locs cells slots (vx_MQ below (va_Qi (fun r (u : Wd × Ly) => post r u.1 u.2) (fun (u : Wd × Ly) t => Rp κ u.1 u.2 X [] t.heap ∧ WFc κ u.2 ∧ LeS y0 u.2) (Af κ)) (XCk κ y0 X px) args s 4517 16350 (Af κ)) (F0 m 53 ls [])) :
    ∀ (f : Nat) (w : Wd) (y : Ly) (v2 : Int32) (H : Heap) (locs : List Loc) (ls : Array Slot) (cells slots : Nat) (hW : WFc κ y) (hLe : LeS y0 y) (l0 : live y 0 0) , sp_X1_pass_38 κ post px ex v1 f w y v2 → Rp κ w y X [] H → va_S (Af κ) s.heap H locs → lv_has ls 3 [(0, .ref (y.2 0 0)), (1, .int (v1)), (2, .int (v2))] → cells + f * 215 ≤ C1 → slots + f * 778 ≤ S1 → W p l e (headSpec (ws_ yX1_pass cX1_pass 3 (Option.some Jvm.ClassFile.FieldType.int)) rm_X1_pass).room s m args below meth c H locs cells slots (vx_MQ below (va_Qi (fun r (u : Wd × Ly) => post r u.1 u.2) (fun (u : Wd × Ly) t => Rp κ u.1 u.2 X [] t.heap ∧ WFc κ u.2 ∧ LeS y0 u.2) (Af κ)) (XCk κ y0 X px) args s 4517 16350 (Af κ)) (F0 m 38 ls []) := by
  intro f
  induction f with
  | zero =>
    intro w y v2 H locs ls cells slots hW hLe l0 h
    exact False.elim h
  | succ f ih =>
    intro w y v2 H locs ls cells slots hW hLe l0 h hR hS hl hc hs
    have h : st_X1_pass_38 κ post px ex (sp_X1_pass_38 κ post px ex v1 f) v1 w y v2 := h
    unfold st_X1_pass_38 at h
    refine lv_iload_n hx hb dX1_pass_38 rfl (lv_at hl 2 rfl) ?_
    refine lv_iload_n hx hb dX1_pass_39 rfl (lv_at hl 1 rfl) ?_
    refine lv_icmp_ge (tgt := 53) hx hb dX1_pass_40 (by decide) (fun c_40 => ?_) (fun c_40 => ?_)
    · have h := h.1 c_40
      exact kx w y  _ _ _ _ _ hW hLe h hR hS (lv_sub hl [0] rfl) (by omega) (by omega)
    · have h := h.2 c_40
      refine lv_aload_n hx hb dX1_pass_43 rfl (lv_at hl 0 rfl) ?_
      have lv_44 := l0
      refine cey_qv (fw := fun u : Wd × Ly => u.1) (fy := fun u : Wd × Ly => u.2) (P := fun u : Wd × Ly => WFc κ u.2 ∧ LeS y u.2) (cr_V (n := 0) (As := []) (rest := []) ⟨hx, hb, hml, hown, hts⟩ hK hR (m_X1_begin hW l0 h) q1509 q1511 qs30 q74 q1512 rfl rfl hd_X1_begin ⟨Nat.le_of_ble_eq_true rfl, Nat.le_of_ble_eq_true rfl⟩ (rv hK hR l0 (ci := 0) rfl rfl) rfl rfl hl.1 rfl (lv_room (Nat.le_of_ble_eq_true rfl)) dX1_pass_44 ⟨(Nat.le_trans (show cells + 215 ≤ C1 from by omega) hC), (Nat.le_trans (show slots + 778 ≤ S1 from by omega) hSl)⟩) hR hS (fun  u9 H locs h p9 hR _ hS => ?_)
      obtain ⟨w_44, y_44⟩ := u9
      obtain ⟨hW_y_44, hL1_y_44⟩ := p9
      dsimp only at h hR hW_y_44 hL1_y_44
      have lw_44 := hL1_y_44.live (k := 0) rfl lv_44
      have hl : lv_has ls 3 [(0, .ref (y_44.2 0 0)), (1, .int (v1)), (2, .int (v2))] := by
        rw [hL1_y_44.2 0 rfl]
        exact hl
      have hLe_y_44 : LeS _ y_44 := (hLe.trans hL1_y_44)
      obtain ⟨x_47, ex_47⟩ : ∃ z : Int32, z = v2 + (1 : Int32) := ⟨_, rfl⟩
      have h := h x_47 ex_47
      refine lv_iinc (v := x_47) (lv' := [(2, .int (x_47)), (0, .ref (y_44.2 0 0)), (1, .int (v1))]) hx hb dX1_pass_47 hl (k := 2) rfl (by rw [ex_47]; rfl) (by decide) rfl (fun ls hl => ?_)
      refine lv_goto (tgt := 38) hx hb dX1_pass_50 (by decide) ?_
      exact ih w_44 y_44 x_47 _ _ _ _ _ hW_y_44 hLe_y_44 lw_44  h hR hS (lv_sub hl [1, 2, 0] rfl) (by omega) (by omega)
def st_X1_pass_38x1 (κ : Kx) (post : Int32 → Wd → Ly → Prop) (px : String → Wd → Prop) (ex : Wd → Ly → Prop) (rec : Wd → Ly → Int32 → Prop) (v1 : Int32) (w : Wd) (y : Ly) (v2 : Int32) : Prop := ((v1 ≤ v2) → (ex w y )) ∧ ((¬ (v1 ≤ v2)) → (sp_X1_begin κ y (fun  w_44_a y_44_a => ∀ x_47_a : Int32, x_47_a = v2 + (1 : Int32) → rec w_44_a y_44_a x_47_a) w ))
def sp_X1_pass_38x1 (κ : Kx) (post : Int32 → Wd → Ly → Prop) (px : String → Wd → Prop) (ex : Wd → Ly → Prop) (v1 : Int32) : Nat → Wd → Ly → Int32 → Prop
  | 0 => fun _ _ _ => False
  | n + 1 => fun w y v2 => st_X1_pass_38x1 κ post px ex (sp_X1_pass_38x1 κ post px ex v1 n) v1 w y v2
set_option maxHeartbeats 4000000 in
theorem lp_X1_pass_38x1 {p : Program} {l : Launch} {e : Env} {s : State} {m : MethodId} {args : Array Value} {below : List Frame} {meth : Method} {c : Code} {κ : Kx} {y0 : Ly} {X : XR} {post : Int32 → Wd → Ly → Prop} {px : String → Wd → Prop} {v1 : Int32} (hx : p.tables.exec = Jvm.exec) (hb : c.code = cX1_pass) (hr : meth.sig.returnType = (Option.some Jvm.ClassFile.FieldType.int)) (hml : c.maxLocals = 3) (hown : s.vm.findClass RX1 = some m.cls) (hts : ∀ w ∈ lw_all, w.before args s = true) (hlocks : meth.locks = false) (hK : KK κ s)  (hfl : l.stackTraces = false) (ht : ∀ x ∈ c.exceptionTable.toList, False) {w0 : Wd} (hR0 : Rp κ w0 y0 X [] s.heap)  {C1 S1 : Nat} (hC : C1 ≤ 4517) (hSl : S1 ≤ 16350) {ex : Wd → Ly → Prop}
    (kx : ∀ (w : Wd) (y : Ly)  (H : Heap) (locs : List Loc) (ls : Array Slot) (cells slots : Nat) (hW : WFc κ y) (hLe : LeS y0 y) , ex w y  → Rp κ w y X [] H → va_S (Af κ) s.heap H locs → lv_has ls 3 [(0, .ref (y.2 0 0))] → cells ≤ C1 → slots ≤ S1 → W p l e (headSpec (ws_ yX1_pass cX1_pass 3 (Option.some Jvm.ClassFile.FieldType.int)) rm_X1_pass).room s m args below meth c H locs cells slots (vx_MQ below (va_Qi (fun r (u : Wd × Ly) => post r u.1 u.2) (fun (u : Wd × Ly) t => Rp κ u.1 u.2 X [] t.heap ∧ WFc κ u.2 ∧ LeS y0 u.2) (Af κ)) (XCk κ y0 X px) args s 4517 16350 (Af κ)) (F0 m 53 ls [])) :
    ∀ (f : Nat) (w : Wd) (y : Ly) (v2 : Int32) (H : Heap) (locs : List Loc) (ls : Array Slot) (cells slots : Nat) (hW : WFc κ y) (hLe : LeS y0 y) (l0 : live y 0 0) , sp_X1_pass_38x1 κ post px ex v1 f w y v2 → Rp κ w y X [] H → va_S (Af κ) s.heap H locs → lv_has ls 3 [(0, .ref (y.2 0 0)), (1, .int (v1)), (2, .int (v2))] → cells + f * 215 ≤ C1 → slots + f * 778 ≤ S1 → W p l e (headSpec (ws_ yX1_pass cX1_pass 3 (Option.some Jvm.ClassFile.FieldType.int)) rm_X1_pass).room s m args below meth c H locs cells slots (vx_MQ below (va_Qi (fun r (u : Wd × Ly) => post r u.1 u.2) (fun (u : Wd × Ly) t => Rp κ u.1 u.2 X [] t.heap ∧ WFc κ u.2 ∧ LeS y0 u.2) (Af κ)) (XCk κ y0 X px) args s 4517 16350 (Af κ)) (F0 m 38 ls []) := by
  intro f
  induction f with
  | zero =>
    intro w y v2 H locs ls cells slots hW hLe l0 h
    exact False.elim h
  | succ f ih =>
    intro w y v2 H locs ls cells slots hW hLe l0 h hR hS hl hc hs
    have h : st_X1_pass_38x1 κ post px ex (sp_X1_pass_38x1 κ post px ex v1 f) v1 w y v2 := h
    unfold st_X1_pass_38x1 at h
    refine lv_iload_n hx hb dX1_pass_38 rfl (lv_at hl 2 rfl) ?_
    refine lv_iload_n hx hb dX1_pass_39 rfl (lv_at hl 1 rfl) ?_
    refine lv_icmp_ge (tgt := 53) hx hb dX1_pass_40 (by decide) (fun c_40_a => ?_) (fun c_40_a => ?_)
    · have h := h.1 c_40_a
      exact kx w y  _ _ _ _ _ hW hLe h hR hS (lv_sub hl [0] rfl) (by omega) (by omega)
    · have h := h.2 c_40_a
      refine lv_aload_n hx hb dX1_pass_43 rfl (lv_at hl 0 rfl) ?_
      have lv_44_a := l0
      refine cey_qv (fw := fun u : Wd × Ly => u.1) (fy := fun u : Wd × Ly => u.2) (P := fun u : Wd × Ly => WFc κ u.2 ∧ LeS y u.2) (cr_V (n := 0) (As := []) (rest := []) ⟨hx, hb, hml, hown, hts⟩ hK hR (m_X1_begin hW l0 h) q1509 q1511 qs30 q74 q1512 rfl rfl hd_X1_begin ⟨Nat.le_of_ble_eq_true rfl, Nat.le_of_ble_eq_true rfl⟩ (rv hK hR l0 (ci := 0) rfl rfl) rfl rfl hl.1 rfl (lv_room (Nat.le_of_ble_eq_true rfl)) dX1_pass_44 ⟨(Nat.le_trans (show cells + 215 ≤ C1 from by omega) hC), (Nat.le_trans (show slots + 778 ≤ S1 from by omega) hSl)⟩) hR hS (fun  u9 H locs h p9 hR _ hS => ?_)
      obtain ⟨w_44_a, y_44_a⟩ := u9
      obtain ⟨hW_y_44_a, hL1_y_44_a⟩ := p9
      dsimp only at h hR hW_y_44_a hL1_y_44_a
      have lw_44_a := hL1_y_44_a.live (k := 0) rfl lv_44_a
      have hl : lv_has ls 3 [(0, .ref (y_44_a.2 0 0)), (1, .int (v1)), (2, .int (v2))] := by
        rw [hL1_y_44_a.2 0 rfl]
        exact hl
      have hLe_y_44_a : LeS _ y_44_a := (hLe.trans hL1_y_44_a)
      obtain ⟨x_47_a, ex_47_a⟩ : ∃ z : Int32, z = v2 + (1 : Int32) := ⟨_, rfl⟩
      have h := h x_47_a ex_47_a
      refine lv_iinc (v := x_47_a) (lv' := [(2, .int (x_47_a)), (0, .ref (y_44_a.2 0 0)), (1, .int (v1))]) hx hb dX1_pass_47 hl (k := 2) rfl (by rw [ex_47_a]; rfl) (by decide) rfl (fun ls hl => ?_)
      refine lv_goto (tgt := 38) hx hb dX1_pass_50 (by decide) ?_
      exact ih w_44_a y_44_a x_47_a _ _ _ _ _ hW_y_44_a hLe_y_44_a lw_44_a  h hR hS (lv_sub hl [1, 2, 0] rfl) (by omega) (by omega)
def sp_X1_pass (κ : Kx) (y : Ly) (post : Int32 → Wd → Ly → Prop) (px : String → Wd → Prop) (w : Wd) (p1 : Int32) : Prop := sp_X1_isIn κ y (fun r_4 w_4 => sp_X1_check κ y (fun w_10 => (((160 : Int32) < (gv w_10 0 0 8) + p1) → (sp_X1_state κ y (fun w_33 => sp_X1_pass_38 κ post px (fun w_38 y_38  => post (gv w_38 0 0 8) w_38 y_38) p1 21 w_33 y (0 : Int32)) px w_10 (0 : Int32))) ∧ ((¬ ((160 : Int32) < (gv w_10 0 0 8) + p1)) → (sp_X1_state κ y (fun w_33_a => sp_X1_pass_38x1 κ post px (fun w_38_a y_38_a  => post (gv w_38_a 0 0 8) w_38_a y_38_a) p1 21 w_33_a y (0 : Int32)) px w_10 (1 : Int32)))) px w_4 r_4) w p1 (1 : Int32) (20 : Int32)
theorem hd_X1_pass : yX1_pass.cls = RX1 ∧ yX1_pass.cls ≠ "java/lang/invoke/MethodHandle" ∧ yX1_pass.cls ≠ "java/lang/invoke/VarHandle" ∧ (parseMethodDescriptor yX1_pass.desc).map (fun d => d.parameters.length) = some 1 := by decide +kernel
set_option maxHeartbeats 4000000 in
theorem m_X1_pass {l : Launch} {κ : Kx} {y : Ly} {X : XR} {post : Int32 → Wd → Ly → Prop} {px : String → Wd → Prop} {w : Wd} {p1 : Int32}  (hfl : l.stackTraces = false) (hW : WFc κ y) (l0 : live y 0 0) (h : sp_X1_pass κ y post px w p1) : vx_Met l yX1_pass (ws_ yX1_pass cX1_pass 3 (Option.some Jvm.ClassFile.FieldType.int)) rm_X1_pass (va_Pc [.ref (y.2 0 0), .int (p1)] (RC κ w y X)) (va_Qi (fun r (u : Wd × Ly) => post r u.1 u.2) (fun (u : Wd × Ly) t => Rp κ u.1 u.2 X [] t.heap ∧ WFc κ u.2 ∧ LeS y u.2) (Af κ)) (XCk κ y X px) 4517 16350 (Af κ) := by
  unfold sp_X1_pass at h
  refine vx_ofW (cc := cX1_pass) (maxL := 3) (ret := (Option.some Jvm.ClassFile.FieldType.int)) (by decide) rfl ?_
  intro p e s m args below meth c s₁ B hml ht hv
  obtain ⟨rfl, hR, hK⟩ := hv
  have hx := B.exec
  have hb := B.bytes
  have hr := B.returns
  have hts := atoms_spec (ws := ws_ yX1_pass cX1_pass 3 (Option.some Jvm.ClassFile.FieldType.int)) B.pre
  have hts : ∀ w ∈ lw_all, w.before _ s = true := fun w h => hts w (List.mem_cons_of_mem _ h)
  have hown : s.vm.findClass RX1 = some m.cls := findClass_of_methodNamed B.named
  have hlocks := B.notSynchronized
  have hR0 := hR
  have hLe : LeS y y := LeS.rf
  have hS : va_S (Af κ) s.heap s.heap [] := va_S.rf
  have hl := lv_entry ([.ref (y.2 0 0), .int (p1)]) (n := 3) (Nat.le_of_ble_eq_true rfl)
  rw [lg_entry_eq]
  generalize (lg_sl ([.ref (y.2 0 0), .int (p1)]) ++ List.replicate (3 - (lg_sl ([.ref (y.2 0 0), .int (p1)])).length) Slot.unset).toArray = ls at hl ⊢
  have hl : lv_has ls 3 [(0, .ref (y.2 0 0)), (1, .int (p1))] := hl
  refine lv_iload_n hx hb dX1_pass_0 rfl (lv_at hl 1 rfl) ?_
  refine lv_iconst (v := (1 : Int32)) hx hb dX1_pass_1 (by decide) ?_
  refine lv_bipush (v := (20 : Int32)) hx hb dX1_pass_2 (by decide) ?_
  refine ce_qi (fw := fun u => u) (fy := fun _ => y) (cr_S (n := 3) (As := [.int (p1), .int ((1 : Int32)), .int ((20 : Int32))]) (rest := []) ⟨hx, hb, hml, hown, hts⟩ hK hR (m_X1_isIn hW h) q790 q791 q74 q792 rfl rfl hds_X1_isIn ⟨Nat.le_of_ble_eq_true rfl, Nat.le_of_ble_eq_true rfl⟩ rfl rfl hl.1 rfl (lv_room (Nat.le_of_ble_eq_true rfl)) dX1_pass_4 ⟨(Nat.le_of_ble_eq_true rfl), (Nat.le_of_ble_eq_true rfl)⟩) hR hS (fun r_4 w_4 H locs h hR _ hS => ?_)
  refine jr_ldcwS (own := "Publicanry") (k := 558) (tx := "seasons") (n := 1558) hx hb hown hK (List.mem_of_getElem? (i := 20) rfl) dX1_pass_7 ?_
  refine cex_qv (fw := fun u => u) (fy := fun _ => y) (crx_S (n := 2) (As := [.int (r_4), .ref (kA κ 1558)]) (rest := []) ⟨hx, hb, hml, hown, hts⟩ hK hR (m_X1_check hfl hW h) q794 q795 q74 q796 rfl rfl hds_X1_check ⟨Nat.le_of_ble_eq_true rfl, Nat.le_of_ble_eq_true rfl⟩ rfl rfl hl.1 rfl (lv_room (Nat.le_of_ble_eq_true rfl)) dX1_pass_10 ⟨(Nat.le_of_ble_eq_true rfl), (Nat.le_of_ble_eq_true rfl)⟩) hR hS ht hlocks (Nat.le_of_ble_eq_true rfl) (Nat.le_of_ble_eq_true rfl) (fun w_10 H locs h hR _ hS => ?_)
  refine lv_aload_n hx hb dX1_pass_13 rfl (lv_at hl 0 rfl) ?_
  refine g0_8 hx hb hts hown hK hR l0 q255 dX1_pass_14 ?_
  refine lv_iload_n hx hb dX1_pass_17 rfl (lv_at hl 1 rfl) ?_
  refine lv_iadd hx hb dX1_pass_18 ?_
  refine lv_sipush (v := (160 : Int32)) hx hb dX1_pass_19 (by decide) ?_
  refine lv_icmp_gt (tgt := 29) hx hb dX1_pass_22 (by decide) (fun c_22 => ?_) (fun c_22 => ?_)
  · have h := h.1 c_22
    refine lv_iconst (v := (0 : Int32)) hx hb dX1_pass_29 (by decide) ?_
    refine jr_ldcwS (own := "Publicanry") (k := 560) (tx := "over") (n := 1560) hx hb hown hK (List.mem_of_getElem? (i := 21) rfl) dX1_pass_30 ?_
    refine cex_qv (fw := fun u => u) (fy := fun _ => y) (crx_S (n := 2) (As := [.int ((0 : Int32)), .ref (kA κ 1560)]) (rest := []) ⟨hx, hb, hml, hown, hts⟩ hK hR (m_X1_state hfl hW h) q813 q814 q74 q815 rfl rfl hds_X1_state ⟨Nat.le_of_ble_eq_true rfl, Nat.le_of_ble_eq_true rfl⟩ rfl rfl hl.1 rfl (lv_room (Nat.le_of_ble_eq_true rfl)) dX1_pass_33 ⟨(Nat.le_of_ble_eq_true rfl), (Nat.le_of_ble_eq_true rfl)⟩) hR hS ht hlocks (Nat.le_of_ble_eq_true rfl) (Nat.le_of_ble_eq_true rfl) (fun w_33 H locs h hR _ hS => ?_)
    refine lv_iconst (v := (0 : Int32)) hx hb dX1_pass_36 (by decide) ?_
    refine lv_istore_n (lv' := [(2, .int ((0 : Int32))), (0, .ref (y.2 0 0)), (1, .int (p1))]) hx hb dX1_pass_37 rfl hl (by decide) rfl (fun ls hl => ?_)
    have lv_38 := l0
    refine lp_X1_pass_38 (C1 := 4517) (S1 := 16350) hx hb hr hml hown hts hlocks hK  hfl ht hR0 (Nat.le_of_ble_eq_true rfl) (Nat.le_of_ble_eq_true rfl) (fun w_38 y_38  H locs ls cells9 slots9 hW_y_38 hLe_y_38 h hR hS hl hc9 hs9 => ?_) 21 w_33 y (0 : Int32) _ _ _ _ _ hW hLe l0  h hR hS (lv_sub hl [1, 2, 0] rfl) (by omega) (by omega)
    have hL1_y_38 := hLe.symm.trans hLe_y_38
    refine W.widen (k := 4517) (n := 16350) hc9 hs9 ?_
    have lw_38 := hL1_y_38.live (k := 0) rfl lv_38
    refine lv_aload_n hx hb dX1_pass_53 rfl (lv_at hl 0 rfl) ?_
    refine g0_8 hx hb hts hown hK hR lw_38 q255 dX1_pass_54 ?_
    refine W.widen (k := 4517) (n := 16350) (Nat.le_of_ble_eq_true rfl) (Nat.le_of_ble_eq_true rfl) ?_
    refine vx_ret ?_; exact W.iret (v := gv w_38 0 0 8) hx hb hr (fun t ht hW9 => ⟨⟨gv w_38 0 0 8, (w_38, y_38), rfl, h, ⟨rpt ht hR, hW_y_38, hLe_y_38⟩⟩, hS.F ht⟩) hS.2.2 dX1_pass_57
  · have h := h.2 c_22
    refine lv_iconst (v := (1 : Int32)) hx hb dX1_pass_25 (by decide) ?_
    refine lv_goto (tgt := 30) hx hb dX1_pass_26 (by decide) ?_
    refine jr_ldcwS (own := "Publicanry") (k := 560) (tx := "over") (n := 1560) hx hb hown hK (List.mem_of_getElem? (i := 21) rfl) dX1_pass_30 ?_
    refine cex_qv (fw := fun u => u) (fy := fun _ => y) (crx_S (n := 2) (As := [.int ((1 : Int32)), .ref (kA κ 1560)]) (rest := []) ⟨hx, hb, hml, hown, hts⟩ hK hR (m_X1_state hfl hW h) q813 q814 q74 q815 rfl rfl hds_X1_state ⟨Nat.le_of_ble_eq_true rfl, Nat.le_of_ble_eq_true rfl⟩ rfl rfl hl.1 rfl (lv_room (Nat.le_of_ble_eq_true rfl)) dX1_pass_33 ⟨(Nat.le_of_ble_eq_true rfl), (Nat.le_of_ble_eq_true rfl)⟩) hR hS ht hlocks (Nat.le_of_ble_eq_true rfl) (Nat.le_of_ble_eq_true rfl) (fun w_33_a H locs h hR _ hS => ?_)
    refine lv_iconst (v := (0 : Int32)) hx hb dX1_pass_36 (by decide) ?_
    refine lv_istore_n (lv' := [(2, .int ((0 : Int32))), (0, .ref (y.2 0 0)), (1, .int (p1))]) hx hb dX1_pass_37 rfl hl (by decide) rfl (fun ls hl => ?_)
    have lv_38_a := l0
    refine lp_X1_pass_38x1 (C1 := 4517) (S1 := 16350) hx hb hr hml hown hts hlocks hK  hfl ht hR0 (Nat.le_of_ble_eq_true rfl) (Nat.le_of_ble_eq_true rfl) (fun w_38_a y_38_a  H locs ls cells9 slots9 hW_y_38_a hLe_y_38_a h hR hS hl hc9 hs9 => ?_) 21 w_33_a y (0 : Int32) _ _ _ _ _ hW hLe l0  h hR hS (lv_sub hl [1, 2, 0] rfl) (by omega) (by omega)
    have hL1_y_38_a := hLe.symm.trans hLe_y_38_a
    refine W.widen (k := 4517) (n := 16350) hc9 hs9 ?_
    have lw_38_a := hL1_y_38_a.live (k := 0) rfl lv_38_a
    refine lv_aload_n hx hb dX1_pass_53 rfl (lv_at hl 0 rfl) ?_
    refine g0_8 hx hb hts hown hK hR lw_38_a q255 dX1_pass_54 ?_
    refine W.widen (k := 4517) (n := 16350) (Nat.le_of_ble_eq_true rfl) (Nat.le_of_ble_eq_true rfl) ?_
    refine vx_ret ?_; exact W.iret (v := gv w_38_a 0 0 8) hx hb hr (fun t ht hW9 => ⟨⟨gv w_38_a 0 0 8, (w_38_a, y_38_a), rfl, h, ⟨rpt ht hR, hW_y_38_a, hLe_y_38_a⟩⟩, hS.F ht⟩) hS.2.2 dX1_pass_57
