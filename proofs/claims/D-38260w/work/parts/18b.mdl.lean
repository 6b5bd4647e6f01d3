/-! printed by wip gen: X8_spring, X8_yieldOf, X8_due, X8_hidden, X8_isLeased, X8_live, X8_sell, X8_call, X8_ofVillageNow, X8_levyNow, X8_lawNow, X8_ofCompanyNow -/
set_option maxRecDepth 100000
abbrev rm_X8_spring : Room := { frames := 4, cells := 11, slots := 44, locals := 121 }
def st_X8_spring_20 (κ : Kx) (y : Ly) (post : Wd → Prop) (ex : Wd → (Int32) → Prop) (rec : Wd → Int32 → Int32 → Prop)  (w : Wd) (v1 : Int32) (v2 : Int32) : Prop := (((3 : Int32) ≤ v2) → (ex w v1)) ∧ ((¬ ((3 : Int32) ≤ v2)) → ((vp_in (v2) 3) ∧ (((¬ gv w 32 0 (v2).toNatClampNeg = (-1 : Int32)) → ((vp_in (v2) 3) ∧ ((vp_in (v2) 3) ∧ (∀ w_49 : Wd, w_49 = sv w 30 0 (v2).toNatClampNeg (gv w 32 0 (v2).toNatClampNeg) → (vp_in (v2) 3) ∧ ((vp_in (v2) 3) ∧ (∀ w_61 : Wd, w_61 = sv w_49 31 0 (v2).toNatClampNeg (gv w_49 33 0 (v2).toNatClampNeg) → (vp_in (v2) 3) ∧ (∀ w_68 : Wd, w_68 = sv w_61 32 0 (v2).toNatClampNeg ((-1 : Int32)) → ∀ x_71 : Int32, x_71 = v2 + (1 : Int32) → rec w_68 (1 : Int32) x_71))))))) ∧ ((gv w 32 0 (v2).toNatClampNeg = (-1 : Int32)) → (∀ x_71_a : Int32, x_71_a = v2 + (1 : Int32) → rec w v1 x_71_a)))))
def sp_X8_spring_20 (κ : Kx) (y : Ly) (post : Wd → Prop) (ex : Wd → (Int32) → Prop)  : Nat → Wd → Int32 → Int32 → Prop
  | 0 => fun _ _ _ => False
  | n + 1 => fun w v1 v2 => st_X8_spring_20 κ y post ex (sp_X8_spring_20 κ y post ex  n)  w v1 v2
set_option maxHeartbeats 4000000 in
theorem lp_X8_spring_20 {p : Program} {l : Launch} {e : Env} {s : State} {m : MethodId} {args : Array Value} {below : List Frame} {meth : Method} {c : Code} {κ : Kx} {y : Ly} {X : XR} {post : Wd → Prop}  (hx : p.tables.exec = Jvm.exec) (hb : c.code = cX8_spring) (hr : meth.sig.returnType = (Option.none : Option Jvm.ClassFile.FieldType)) (hml : c.maxLocals = 4) (hown : s.vm.findClass RX8 = some m.cls) (hts : ∀ w ∈ lw_all, w.before args s = true) (hlocks : meth.locks = false) (hK : KK κ s) (hM : WFm κ y) (l0 : live y 20 0) {C1 S1 : Nat} (hC : C1 ≤ 11) (hSl : S1 ≤ 44) {ex : Wd → (Int32) → Prop}
    (kx : ∀ (w : Wd) (v1 : Int32) (H : Heap) (locs : List Loc) (ls : Array Slot) (cells slots : Nat) , ex w v1 → Rp κ w y X [] H → va_S (Af κ) s.heap H locs → lv_has ls 4 [(0, .ref (y.2 20 0)), (1, .int (v1))] → cells ≤ C1 → slots ≤ S1 → W p l e (headSpec (ws_ yX8_spring cX8_spring 4 (Option.none : Option Jvm.ClassFile.FieldType)) rm_X8_spring).room s m args below meth c H locs cells slots (MQ below (va_Qv post (fun w t => Rp κ w y X [] t.heap) (Af κ)) args s 11 44 (Af κ)) (F0 m 77 ls [])) :
    ∀ (f : Nat) (w : Wd) (v1 : Int32) (v2 : Int32) (H : Heap) (locs : List Loc) (ls : Array Slot) (cells slots : Nat)  , sp_X8_spring_20 κ y post ex  f w v1 v2 → Rp κ w y X [] H → va_S (Af κ) s.heap H locs → lv_has ls 4 [(0, .ref (y.2 20 0)), (1, .int (v1)), (2, .int (v2))] → cells + f * 0 ≤ C1 → slots + f * 0 ≤ S1 → W p l e (headSpec (ws_ yX8_spring cX8_spring 4 (Option.none : Option Jvm.ClassFile.FieldType)) rm_X8_spring).room s m args below meth c H locs cells slots (MQ below (va_Qv post (fun w t => Rp κ w y X [] t.heap) (Af κ)) args s 11 44 (Af κ)) (F0 m 20 ls []) := by
  intro f
  induction f with
  | zero =>
    intro w v1 v2 H locs ls cells slots  h
    exact False.elim h
  | succ f ih =>
    intro w v1 v2 H locs ls cells slots  h hR hS hl hc hs
    have h : st_X8_spring_20 κ y post ex (sp_X8_spring_20 κ y post ex  f)  w v1 v2 := h
    unfold st_X8_spring_20 at h
    refine lv_iload_n hx hb dX8_spring_20 rfl (lv_at hl 2 rfl) ?_
    refine lv_iconst (v := (3 : Int32)) hx hb dX8_spring_21 (by decide) ?_
    refine lv_icmp_ge (tgt := 77) hx hb dX8_spring_22 (by decide) (fun c_22 => ?_) (fun c_22 => ?_)
    · have h := h.1 c_22
      exact kx w v1 _ _ _ _ _ h hR hS (lv_sub hl [0, 1] rfl) (by omega) (by omega)
    · have h := h.2 c_22
      refine lv_aload_n hx hb dX8_spring_25 rfl (lv_at hl 0 rfl) ?_
      refine g20_8 hx hb hts hown hK hR l0 q1953 dX8_spring_26 ?_
      refine lv_iload_n hx hb dX8_spring_29 rfl (lv_at hl 2 rfl) ?_
      have o_30 := h.1
      have h := h.2
      refine a32 hx hb hK hR hM.r32 o_30 dX8_spring_30 ?_
      refine lv_iconst (v := (-1 : Int32)) hx hb dX8_spring_31 (by decide) ?_
      refine lv_icmp_ne (tgt := 38) hx hb dX8_spring_32 (by decide) (fun c_32 => ?_) (fun c_32 => ?_)
      · have h := h.1 c_32
        refine lv_aload_n hx hb dX8_spring_38 rfl (lv_at hl 0 rfl) ?_
        refine g20_6 hx hb hts hown hK hR l0 q1951 dX8_spring_39 ?_
        refine lv_iload_n hx hb dX8_spring_42 rfl (lv_at hl 2 rfl) ?_
        refine lv_aload_n hx hb dX8_spring_43 rfl (lv_at hl 0 rfl) ?_
        refine g20_8 hx hb hts hown hK hR l0 q1953 dX8_spring_44 ?_
        refine lv_iload_n hx hb dX8_spring_47 rfl (lv_at hl 2 rfl) ?_
        have o_48 := h.1
        have h := h.2
        refine a32 hx hb hK hR hM.r32 o_48 dX8_spring_48 ?_
        have o_49 := h.1
        have h := h.2
        refine b30 hx hb hK hR hS hM.r30 o_49 dX8_spring_49 (fun H locs w_49 ew_49 hR hS => ?_)
        have h := h w_49 ew_49
        refine lv_aload_n hx hb dX8_spring_50 rfl (lv_at hl 0 rfl) ?_
        refine g20_7 hx hb hts hown hK hR l0 q1952 dX8_spring_51 ?_
        refine lv_iload_n hx hb dX8_spring_54 rfl (lv_at hl 2 rfl) ?_
        refine lv_aload_n hx hb dX8_spring_55 rfl (lv_at hl 0 rfl) ?_
        refine g20_9 hx hb hts hown hK hR l0 q1954 dX8_spring_56 ?_
        refine lv_iload_n hx hb dX8_spring_59 rfl (lv_at hl 2 rfl) ?_
        have o_60 := h.1
        have h := h.2
        refine a33 hx hb hK hR hM.r33 o_60 dX8_spring_60 ?_
        have o_61 := h.1
        have h := h.2
        refine b31 hx hb hK hR hS hM.r31 o_61 dX8_spring_61 (fun H locs w_61 ew_61 hR hS => ?_)
        have h := h w_61 ew_61
        refine lv_aload_n hx hb dX8_spring_62 rfl (lv_at hl 0 rfl) ?_
        refine g20_8 hx hb hts hown hK hR l0 q1953 dX8_spring_63 ?_
        refine lv_iload_n hx hb dX8_spring_66 rfl (lv_at hl 2 rfl) ?_
        refine lv_iconst (v := (-1 : Int32)) hx hb dX8_spring_67 (by decide) ?_
        have o_68 := h.1
        have h := h.2
        refine b32 hx hb hK hR hS hM.r32 o_68 dX8_spring_68 (fun H locs w_68 ew_68 hR hS => ?_)
        have h := h w_68 ew_68
        refine lv_iconst (v := (1 : Int32)) hx hb dX8_spring_69 (by decide) ?_
        refine lv_istore_n (lv' := [(1, .int ((1 : Int32))), (0, .ref (y.2 20 0)), (2, .int (v2))]) hx hb dX8_spring_70 rfl hl (by decide) rfl (fun ls hl => ?_)
        obtain ⟨x_71, ex_71⟩ : ∃ z : Int32, z = v2 + (1 : Int32) := ⟨_, rfl⟩
        have h := h x_71 ex_71
        refine lv_iinc (v := x_71) (lv' := [(2, .int (x_71)), (1, .int ((1 : Int32))), (0, .ref (y.2 20 0))]) hx hb dX8_spring_71 hl (k := 2) rfl (by rw [ex_71]; rfl) (by decide) rfl (fun ls hl => ?_)
        refine lv_goto (tgt := 20) hx hb dX8_spring_74 (by decide) ?_
        exact ih w_68 (1 : Int32) x_71 _ _ _ _ _  h hR hS (lv_sub hl [2, 1, 0] rfl) (by omega) (by omega)
      · have h := h.2 c_32
        refine lv_goto (tgt := 71) hx hb dX8_spring_35 (by decide) ?_
        obtain ⟨x_71_a, ex_71_a⟩ : ∃ z : Int32, z = v2 + (1 : Int32) := ⟨_, rfl⟩
        have h := h x_71_a ex_71_a
        refine lv_iinc (v := x_71_a) (lv' := [(2, .int (x_71_a)), (0, .ref (y.2 20 0)), (1, .int (v1))]) hx hb dX8_spring_71 hl (k := 2) rfl (by rw [ex_71_a]; rfl) (by decide) rfl (fun ls hl => ?_)
        refine lv_goto (tgt := 20) hx hb dX8_spring_74 (by decide) ?_
        exact ih w v1 x_71_a _ _ _ _ _  h hR hS (lv_sub hl [1, 2, 0] rfl) (by omega) (by omega)
def st_X8_spring_103 (κ : Kx) (y : Ly) (post : Wd → Prop) (ex : Wd → Prop) (rec : Wd → Nat → Int32 → Prop)  (w : Wd) (c2 : Nat) (z2 : Int32) : Prop := ((¬ (¬ c2 = mV y)) → (ex w )) ∧ (((¬ c2 = mV y)) → (∀ w_124 : Wd, w_124 = sv w 21 c2 11 ((0 : Int32)) → ∀ w_129 : Wd, w_129 = sv w_124 21 c2 9 ((0 : Int32)) → ∀ w_147 : Wd, w_147 = sv w_129 21 c2 6 ((gv w_129 21 c2 6) + (((gv w_129 21 c2 6) * (3 : Int32)) / (20 : Int32))) → rec w_147 (c2 + 1) (nI c2)))
def sp_X8_spring_103 (κ : Kx) (y : Ly) (post : Wd → Prop) (ex : Wd → Prop)  : Nat → Wd → Nat → Int32 → Prop
  | 0 => fun _ _ _ => False
  | n + 1 => fun w c2 z2 => st_X8_spring_103 κ y post ex (sp_X8_spring_103 κ y post ex  n)  w c2 z2
set_option maxHeartbeats 4000000 in
theorem lp_X8_spring_103 {p : Program} {l : Launch} {e : Env} {s : State} {m : MethodId} {args : Array Value} {below : List Frame} {meth : Method} {c : Code} {κ : Kx} {y : Ly} {X : XR} {post : Wd → Prop} {q2 : Nat} (hx : p.tables.exec = Jvm.exec) (hb : c.code = cX8_spring) (hr : meth.sig.returnType = (Option.none : Option Jvm.ClassFile.FieldType)) (hml : c.maxLocals = 4) (hown : s.vm.findClass RX8 = some m.cls) (hts : ∀ w ∈ lw_all, w.before args s = true) (hlocks : meth.locks = false) (hK : KK κ s) (hM : WFm κ y) (l0 : live y 20 0) {C1 S1 : Nat} (hC : C1 ≤ 11) (hSl : S1 ≤ 44) {ex : Wd → Prop}
    (kx : ∀ (w : Wd)  (H : Heap) (locs : List Loc) (ls : Array Slot) (cells slots : Nat) , ex w  → Rp κ w y X [] H → va_S (Af κ) s.heap H locs → lv_has ls 4 [(0, .ref (y.2 20 0))] → cells ≤ C1 → slots ≤ S1 → W p l e (headSpec (ws_ yX8_spring cX8_spring 4 (Option.none : Option Jvm.ClassFile.FieldType)) rm_X8_spring).room s m args below meth c H locs cells slots (MQ below (va_Qv post (fun w t => Rp κ w y X [] t.heap) (Af κ)) args s 11 44 (Af κ)) (F0 m 153 ls [])) :
    ∀ (f : Nat) (w : Wd) (c2 : Nat) (z2 : Int32) (H : Heap) (locs : List Loc) (ls : Array Slot) (cells slots : Nat)  (hc2 : c2 ≤ mV y), sp_X8_spring_103 κ y post ex  f w c2 z2 → Rp κ w y X [(q2, itC y 50 0 c2 z2)] H → va_S (Af κ) s.heap H locs → lv_has ls 4 [(0, .ref (y.2 20 0)), (2, .ref (q2))] → cells + f * 0 ≤ C1 → slots + f * 0 ≤ S1 → W p l e (headSpec (ws_ yX8_spring cX8_spring 4 (Option.none : Option Jvm.ClassFile.FieldType)) rm_X8_spring).room s m args below meth c H locs cells slots (MQ below (va_Qv post (fun w t => Rp κ w y X [] t.heap) (Af κ)) args s 11 44 (Af κ)) (F0 m 103 ls []) := by
  intro f
  induction f with
  | zero =>
    intro w c2 z2 H locs ls cells slots hc2 h
    exact False.elim h
  | succ f ih =>
    intro w c2 z2 H locs ls cells slots hc2 h hR hS hl hc hs
    have h : st_X8_spring_103 κ y post ex (sp_X8_spring_103 κ y post ex  f)  w c2 z2 := h
    unfold st_X8_spring_103 at h
    refine lv_aload_n hx hb dX8_spring_103 rfl (lv_at hl 1 rfl) ?_
    refine jr_hasNext (t := 0) ⟨hx, hb, hml, hown, hts⟩ hK hR rfl ⟨fun _ _ _ _ _ => rfl, fun _ _ _ _ _ => rfl⟩ hM.lsV (by omega) (Nat.le_trans hM.mV8 (by decide)) q2250 ⟨Nat.le_of_ble_eq_true rfl, Nat.le_of_ble_eq_true rfl⟩ hl.1 (Nat.le_of_ble_eq_true rfl) dX8_spring_104 ⟨(Nat.le_trans (show cells + 0 ≤ C1 from by omega) hC), (Nat.le_trans (show slots + 0 ≤ S1 from by omega) hSl)⟩ ?_
    refine lv_if_eq (tgt := 153) hx hb dX8_spring_109 (by decide) (fun c_109 => ?_) (fun c_109 => ?_)
    · replace c_109 : ¬ (¬ c2 = mV y) := bi_0.mp c_109
      have h := h.1 c_109
      have hR := hR.sub (L' := []) [] rfl rfl
      exact kx w  _ _ _ _ _ h hR hS (lv_sub hl [0] rfl) (by omega) (by omega)
    · replace c_109 : (¬ c2 = mV y) := bi_n0.mp c_109
      have h := h.2 c_109
      refine lv_aload_n hx hb dX8_spring_112 rfl (lv_at hl 1 rfl) ?_
      have hn_113 : c2 < mV y := by omega
      refine jr_next (t := 0) (a := y.2 21 c2) ⟨hx, hb, hml, hown, hts⟩ hK hR hS rfl ⟨fun _ _ _ _ _ => rfl, fun _ _ _ _ _ => rfl⟩ hM.lsV ⟨hM.arV (Nat.lt_of_le_of_lt (Nat.zero_le _) hn_113), (Nat.le_trans hM.mV8 (by decide))⟩ hn_113 (hM.elV hn_113) q2252 ⟨Nat.le_of_ble_eq_true rfl, Nat.le_of_ble_eq_true rfl⟩ hl.1 (Nat.le_of_ble_eq_true rfl) dX8_spring_113 ⟨(Nat.le_trans (show cells + 0 ≤ C1 from by omega) hC), (Nat.le_trans (show slots + 0 ≤ S1 from by omega) hSl)⟩ (fun H locs hR hS => ?_)
      have hR : Rp κ w y X [(q2, itC y 50 0 (c2 + 1) (nI c2))] H := hR
      refine jr_castS (ci := 12) hx hb hown hK hts (hR.role (hM.vil hn_113)) rfl q2032 dX8_spring_118 ?_
      refine lv_astore_n (lv' := [(3, .ref (y.2 21 c2)), (0, .ref (y.2 20 0)), (2, .ref (q2))]) hx hb dX8_spring_121 rfl hl (by decide) rfl (fun ls hl => ?_)
      refine lv_aload_n hx hb dX8_spring_122 rfl (lv_at hl 0 rfl) ?_
      refine lv_iconst (v := (0 : Int32)) hx hb dX8_spring_123 (by decide) ?_
      refine p21_11 hx hb hts hown hK hR hS (hM.vil hn_113) nbo_0 q2052 dX8_spring_124 (fun H locs w_124 ew_124 hR hS => ?_)
      have h := h w_124 ew_124
      refine lv_aload_n hx hb dX8_spring_127 rfl (lv_at hl 0 rfl) ?_
      refine lv_iconst (v := (0 : Int32)) hx hb dX8_spring_128 (by decide) ?_
      refine p21_9 hx hb hts hown hK hR hS (hM.vil hn_113) q2050 dX8_spring_129 (fun H locs w_129 ew_129 hR hS => ?_)
      have h := h w_129 ew_129
      refine lv_aload_n hx hb dX8_spring_132 rfl (lv_at hl 0 rfl) ?_
      refine lv_dup hx hb dX8_spring_133 rfl ?_
      refine g21_6 hx hb hts hown hK hR (hM.vil hn_113) q2046 dX8_spring_134 ?_
      refine lv_aload_n hx hb dX8_spring_137 rfl (lv_at hl 0 rfl) ?_
      refine g21_6 hx hb hts hown hK hR (hM.vil hn_113) q2046 dX8_spring_138 ?_
      refine lv_iconst (v := (3 : Int32)) hx hb dX8_spring_141 (by decide) ?_
      refine lv_imul hx hb dX8_spring_142 ?_
      refine lv_bipush (v := (20 : Int32)) hx hb dX8_spring_143 (by decide) ?_
      refine lv_idiv hx hb dX8_spring_145 (by decide) ?_
      refine lv_iadd hx hb dX8_spring_146 ?_
      refine p21_6 hx hb hts hown hK hR hS (hM.vil hn_113) q2046 dX8_spring_147 (fun H locs w_147 ew_147 hR hS => ?_)
      have h := h w_147 ew_147
      refine lv_goto (tgt := 103) hx hb dX8_spring_150 (by decide) ?_
      exact ih w_147 (c2 + 1) (nI c2) _ _ _ _ _ (by omega) h hR hS (lv_sub hl [1, 2] rfl) (by omega) (by omega)
def st_X8_spring_161 (κ : Kx) (y : Ly) (post : Wd → Prop) (ex : Wd → Prop) (rec : Wd → Nat → Int32 → Prop)  (w : Wd) (c2 : Nat) (z2 : Int32) : Prop := ((¬ (¬ c2 = mL y)) → (ex w )) ∧ (((¬ c2 = mL y)) → (((¬ gv w 27 c2 4 = (1 : Int32)) → (rec w (c2 + 1) (nI c2))) ∧ ((gv w 27 c2 4 = (1 : Int32)) → (((gv w 27 c2 2 ≤ gv w 27 c2 8) → (rec w (c2 + 1) (nI c2))) ∧ ((¬ (gv w 27 c2 2 ≤ gv w 27 c2 8)) → (sp_X8_fallDue κ y (fun w_201 => rec w_201 (c2 + 1) (nI c2)) w c2))))))
def sp_X8_spring_161 (κ : Kx) (y : Ly) (post : Wd → Prop) (ex : Wd → Prop)  : Nat → Wd → Nat → Int32 → Prop
  | 0 => fun _ _ _ => False
  | n + 1 => fun w c2 z2 => st_X8_spring_161 κ y post ex (sp_X8_spring_161 κ y post ex  n)  w c2 z2
set_option maxHeartbeats 4000000 in
theorem lp_X8_spring_161 {p : Program} {l : Launch} {e : Env} {s : State} {m : MethodId} {args : Array Value} {below : List Frame} {meth : Method} {c : Code} {κ : Kx} {y : Ly} {X : XR} {post : Wd → Prop} {q2 : Nat} (hx : p.tables.exec = Jvm.exec) (hb : c.code = cX8_spring) (hr : meth.sig.returnType = (Option.none : Option Jvm.ClassFile.FieldType)) (hml : c.maxLocals = 4) (hown : s.vm.findClass RX8 = some m.cls) (hts : ∀ w ∈ lw_all, w.before args s = true) (hlocks : meth.locks = false) (hK : KK κ s) (hM : WFm κ y) (l0 : live y 20 0) {C1 S1 : Nat} (hC : C1 ≤ 11) (hSl : S1 ≤ 44) {ex : Wd → Prop}
    (kx : ∀ (w : Wd)  (H : Heap) (locs : List Loc) (ls : Array Slot) (cells slots : Nat) , ex w  → Rp κ w y X [] H → va_S (Af κ) s.heap H locs → lv_has ls 4 [] → cells ≤ C1 → slots ≤ S1 → W p l e (headSpec (ws_ yX8_spring cX8_spring 4 (Option.none : Option Jvm.ClassFile.FieldType)) rm_X8_spring).room s m args below meth c H locs cells slots (MQ below (va_Qv post (fun w t => Rp κ w y X [] t.heap) (Af κ)) args s 11 44 (Af κ)) (F0 m 207 ls [])) :
    ∀ (f : Nat) (w : Wd) (c2 : Nat) (z2 : Int32) (H : Heap) (locs : List Loc) (ls : Array Slot) (cells slots : Nat)  (hc2 : c2 ≤ mL y), sp_X8_spring_161 κ y post ex  f w c2 z2 → Rp κ w y X [(q2, itC y 54 0 c2 z2)] H → va_S (Af κ) s.heap H locs → lv_has ls 4 [(0, .ref (y.2 20 0)), (2, .ref (q2))] → cells + f * 1 ≤ C1 → slots + f * 4 ≤ S1 → W p l e (headSpec (ws_ yX8_spring cX8_spring 4 (Option.none : Option Jvm.ClassFile.FieldType)) rm_X8_spring).room s m args below meth c H locs cells slots (MQ below (va_Qv post (fun w t => Rp κ w y X [] t.heap) (Af κ)) args s 11 44 (Af κ)) (F0 m 161 ls []) := by
  intro f
  induction f with
  | zero =>
    intro w c2 z2 H locs ls cells slots hc2 h
    exact False.elim h
  | succ f ih =>
    intro w c2 z2 H locs ls cells slots hc2 h hR hS hl hc hs
    have h : st_X8_spring_161 κ y post ex (sp_X8_spring_161 κ y post ex  f)  w c2 z2 := h
    unfold st_X8_spring_161 at h
    refine lv_aload_n hx hb dX8_spring_161 rfl (lv_at hl 1 rfl) ?_
    refine jr_hasNext (t := 0) ⟨hx, hb, hml, hown, hts⟩ hK hR rfl ⟨fun _ _ _ _ _ => rfl, fun _ _ _ _ _ => rfl⟩ hM.lsL (by omega) (Nat.le_trans hM.mL8 (by decide)) q2250 ⟨Nat.le_of_ble_eq_true rfl, Nat.le_of_ble_eq_true rfl⟩ hl.1 (Nat.le_of_ble_eq_true rfl) dX8_spring_162 ⟨(Nat.le_trans (show cells + 0 ≤ C1 from by omega) hC), (Nat.le_trans (show slots + 0 ≤ S1 from by omega) hSl)⟩ ?_
    refine lv_if_eq (tgt := 207) hx hb dX8_spring_167 (by decide) (fun c_167 => ?_) (fun c_167 => ?_)
    · replace c_167 : ¬ (¬ c2 = mL y) := bi_0.mp c_167
      have h := h.1 c_167
      have hR := hR.sub (L' := []) [] rfl rfl
      exact kx w  _ _ _ _ _ h hR hS (lv_sub hl [] rfl) (by omega) (by omega)
    · replace c_167 : (¬ c2 = mL y) := bi_n0.mp c_167
      have h := h.2 c_167
      refine lv_aload_n hx hb dX8_spring_170 rfl (lv_at hl 1 rfl) ?_
      have hn_171 : c2 < mL y := by omega
      refine jr_next (t := 0) (a := y.2 27 c2) ⟨hx, hb, hml, hown, hts⟩ hK hR hS rfl ⟨fun _ _ _ _ _ => rfl, fun _ _ _ _ _ => rfl⟩ hM.lsL ⟨hM.arL (Nat.lt_of_le_of_lt (Nat.zero_le _) hn_171), (Nat.le_trans hM.mL8 (by decide))⟩ hn_171 (hM.elL hn_171) q2252 ⟨Nat.le_of_ble_eq_true rfl, Nat.le_of_ble_eq_true rfl⟩ hl.1 (Nat.le_of_ble_eq_true rfl) dX8_spring_171 ⟨(Nat.le_trans (show cells + 0 ≤ C1 from by omega) hC), (Nat.le_trans (show slots + 0 ≤ S1 from by omega) hSl)⟩ (fun H locs hR hS => ?_)
      have hR : Rp κ w y X [(q2, itC y 54 0 (c2 + 1) (nI c2))] H := hR
      refine jr_castS (ci := 14) hx hb hown hK hts (hR.role (hM.lot hn_171)) rfl q2253 dX8_spring_176 ?_
      refine lv_astore_n (lv' := [(3, .ref (y.2 27 c2)), (0, .ref (y.2 20 0)), (2, .ref (q2))]) hx hb dX8_spring_179 rfl hl (by decide) rfl (fun ls hl => ?_)
      refine lv_aload_n hx hb dX8_spring_180 rfl (lv_at hl 0 rfl) ?_
      refine g27_4 hx hb hts hown hK hR (hM.lot hn_171) q2264 dX8_spring_181 ?_
      refine lv_iconst (v := (1 : Int32)) hx hb dX8_spring_184 (by decide) ?_
      refine lv_icmp_ne (tgt := 204) hx hb dX8_spring_185 (by decide) (fun c_185 => ?_) (fun c_185 => ?_)
      · have h := h.1 c_185
        refine lv_goto (tgt := 161) hx hb dX8_spring_204 (by decide) ?_
        exact ih w (c2 + 1) (nI c2) _ _ _ _ _ (by omega) h hR hS (lv_sub hl [1, 2] rfl) (by omega) (by omega)
      · have h := h.2 c_185
        refine lv_aload_n hx hb dX8_spring_188 rfl (lv_at hl 0 rfl) ?_
        refine g27_8 hx hb hts hown hK hR (hM.lot hn_171) q2269 dX8_spring_189 ?_
        refine lv_aload_n hx hb dX8_spring_192 rfl (lv_at hl 0 rfl) ?_
        refine g27_2 hx hb hts hown hK hR (hM.lot hn_171) q2261 dX8_spring_193 ?_
        refine lv_icmp_ge (tgt := 204) hx hb dX8_spring_196 (by decide) (fun c_196 => ?_) (fun c_196 => ?_)
        · have h := h.1 c_196
          refine lv_goto (tgt := 161) hx hb dX8_spring_204 (by decide) ?_
          exact ih w (c2 + 1) (nI c2) _ _ _ _ _ (by omega) h hR hS (lv_sub hl [1, 2] rfl) (by omega) (by omega)
        · have h := h.2 c_196
          refine lv_aload_n hx hb dX8_spring_199 rfl (lv_at hl 1 rfl) ?_
          refine lv_aload_n hx hb dX8_spring_200 rfl (lv_at hl 0 rfl) ?_
          refine ce_qv (fw := fun u => u) (fy := fun _ => y) (cr_V (n := 1) (As := [.ref (y.2 27 c2)]) (rest := []) ⟨hx, hb, hml, hown, hts⟩ hK hR (m_X8_fallDue hM l0 (hM.lot hn_171) h) q2336 q2338 qs49 q85 q2339 rfl rfl hd_X8_fallDue ⟨Nat.le_of_ble_eq_true rfl, Nat.le_of_ble_eq_true rfl⟩ (rv hK hR l0 (ci := 11) rfl rfl) rfl rfl hl.1 rfl (lv_room (Nat.le_of_ble_eq_true rfl)) dX8_spring_201 ⟨(Nat.le_trans (show cells + 1 ≤ C1 from by omega) hC), (Nat.le_trans (show slots + 4 ≤ S1 from by omega) hSl)⟩) hR hS (fun w_201 H locs h hR _ hS => ?_)
          refine lv_goto (tgt := 161) hx hb dX8_spring_204 (by decide) ?_
          exact ih w_201 (c2 + 1) (nI c2) _ _ _ _ _ (by omega) h hR hS (lv_sub hl [1, 2] rfl) (by omega) (by omega)
def st_X8_spring_103x1 (κ : Kx) (y : Ly) (post : Wd → Prop) (ex : Wd → Prop) (rec : Wd → Nat → Int32 → Prop)  (w : Wd) (c2 : Nat) (z2 : Int32) : Prop := ((¬ (¬ c2 = mV y)) → (ex w )) ∧ (((¬ c2 = mV y)) → (∀ w_124_a : Wd, w_124_a = sv w 21 c2 11 ((0 : Int32)) → ∀ w_129_a : Wd, w_129_a = sv w_124_a 21 c2 9 ((0 : Int32)) → ∀ w_147_a : Wd, w_147_a = sv w_129_a 21 c2 6 ((gv w_129_a 21 c2 6) + (((gv w_129_a 21 c2 6) * (3 : Int32)) / (20 : Int32))) → rec w_147_a (c2 + 1) (nI c2)))
def sp_X8_spring_103x1 (κ : Kx) (y : Ly) (post : Wd → Prop) (ex : Wd → Prop)  : Nat → Wd → Nat → Int32 → Prop
  | 0 => fun _ _ _ => False
  | n + 1 => fun w c2 z2 => st_X8_spring_103x1 κ y post ex (sp_X8_spring_103x1 κ y post ex  n)  w c2 z2
set_option maxHeartbeats 4000000 in
theorem lp_X8_spring_103x1 {p : Program} {l : Launch} {e : Env} {s : State} {m : MethodId} {args : Array Value} {below : List Frame} {meth : Method} {c : Code} {κ : Kx} {y : Ly} {X : XR} {post : Wd → Prop} {q2 : Nat} (hx : p.tables.exec = Jvm.exec) (hb : c.code = cX8_spring) (hr : meth.sig.returnType = (Option.none : Option Jvm.ClassFile.FieldType)) (hml : c.maxLocals = 4) (hown : s.vm.findClass RX8 = some m.cls) (hts : ∀ w ∈ lw_all, w.before args s = true) (hlocks : meth.locks = false) (hK : KK κ s) (hM : WFm κ y) (l0 : live y 20 0) {C1 S1 : Nat} (hC : C1 ≤ 11) (hSl : S1 ≤ 44) {ex : Wd → Prop}
    (kx : ∀ (w : Wd)  (H : Heap) (locs : List Loc) (ls : Array Slot) (cells slots : Nat) , ex w  → Rp κ w y X [] H → va_S (Af κ) s.heap H locs → lv_has ls 4 [(0, .ref (y.2 20 0))] → cells ≤ C1 → slots ≤ S1 → W p l e (headSpec (ws_ yX8_spring cX8_spring 4 (Option.none : Option Jvm.ClassFile.FieldType)) rm_X8_spring).room s m args below meth c H locs cells slots (MQ below (va_Qv post (fun w t => Rp κ w y X [] t.heap) (Af κ)) args s 11 44 (Af κ)) (F0 m 153 ls [])) :
    ∀ (f : Nat) (w : Wd) (c2 : Nat) (z2 : Int32) (H : Heap) (locs : List Loc) (ls : Array Slot) (cells slots : Nat)  (hc2 : c2 ≤ mV y), sp_X8_spring_103x1 κ y post ex  f w c2 z2 → Rp κ w y X [(q2, itC y 50 0 c2 z2)] H → va_S (Af κ) s.heap H locs → lv_has ls 4 [(0, .ref (y.2 20 0)), (2, .ref (q2))] → cells + f * 0 ≤ C1 → slots + f * 0 ≤ S1 → W p l e (headSpec (ws_ yX8_spring cX8_spring 4 (Option.none : Option Jvm.ClassFile.FieldType)) rm_X8_spring).room s m args below meth c H locs cells slots (MQ below (va_Qv post (fun w t => Rp κ w y X [] t.heap) (Af κ)) args s 11 44 (Af κ)) (F0 m 103 ls []) := by
  intro f
  induction f with
  | zero =>
    intro w c2 z2 H locs ls cells slots hc2 h
    exact False.elim h
  | succ f ih =>
    intro w c2 z2 H locs ls cells slots hc2 h hR hS hl hc hs
    have h : st_X8_spring_103x1 κ y post ex (sp_X8_spring_103x1 κ y post ex  f)  w c2 z2 := h
    unfold st_X8_spring_103x1 at h
    refine lv_aload_n hx hb dX8_spring_103 rfl (lv_at hl 1 rfl) ?_
    refine jr_hasNext (t := 0) ⟨hx, hb, hml, hown, hts⟩ hK hR rfl ⟨fun _ _ _ _ _ => rfl, fun _ _ _ _ _ => rfl⟩ hM.lsV (by omega) (Nat.le_trans hM.mV8 (by decide)) q2250 ⟨Nat.le_of_ble_eq_true rfl, Nat.le_of_ble_eq_true rfl⟩ hl.1 (Nat.le_of_ble_eq_true rfl) dX8_spring_104 ⟨(Nat.le_trans (show cells + 0 ≤ C1 from by omega) hC), (Nat.le_trans (show slots + 0 ≤ S1 from by omega) hSl)⟩ ?_
    refine lv_if_eq (tgt := 153) hx hb dX8_spring_109 (by decide) (fun c_109_a => ?_) (fun c_109_a => ?_)
    · replace c_109_a : ¬ (¬ c2 = mV y) := bi_0.mp c_109_a
      have h := h.1 c_109_a
      have hR := hR.sub (L' := []) [] rfl rfl
      exact kx w  _ _ _ _ _ h hR hS (lv_sub hl [0] rfl) (by omega) (by omega)
    · replace c_109_a : (¬ c2 = mV y) := bi_n0.mp c_109_a
      have h := h.2 c_109_a
      refine lv_aload_n hx hb dX8_spring_112 rfl (lv_at hl 1 rfl) ?_
      have hn_113_a : c2 < mV y := by omega
      refine jr_next (t := 0) (a := y.2 21 c2) ⟨hx, hb, hml, hown, hts⟩ hK hR hS rfl ⟨fun _ _ _ _ _ => rfl, fun _ _ _ _ _ => rfl⟩ hM.lsV ⟨hM.arV (Nat.lt_of_le_of_lt (Nat.zero_le _) hn_113_a), (Nat.le_trans hM.mV8 (by decide))⟩ hn_113_a (hM.elV hn_113_a) q2252 ⟨Nat.le_of_ble_eq_true rfl, Nat.le_of_ble_eq_true rfl⟩ hl.1 (Nat.le_of_ble_eq_true rfl) dX8_spring_113 ⟨(Nat.le_trans (show cells + 0 ≤ C1 from by omega) hC), (Nat.le_trans (show slots + 0 ≤ S1 from by omega) hSl)⟩ (fun H locs hR hS => ?_)
      have hR : Rp κ w y X [(q2, itC y 50 0 (c2 + 1) (nI c2))] H := hR
      refine jr_castS (ci := 12) hx hb hown hK hts (hR.role (hM.vil hn_113_a)) rfl q2032 dX8_spring_118 ?_
      refine lv_astore_n (lv' := [(3, .ref (y.2 21 c2)), (0, .ref (y.2 20 0)), (2, .ref (q2))]) hx hb dX8_spring_121 rfl hl (by decide) rfl (fun ls hl => ?_)
      refine lv_aload_n hx hb dX8_spring_122 rfl (lv_at hl 0 rfl) ?_
      refine lv_iconst (v := (0 : Int32)) hx hb dX8_spring_123 (by decide) ?_
      refine p21_11 hx hb hts hown hK hR hS (hM.vil hn_113_a) nbo_0 q2052 dX8_spring_124 (fun H locs w_124_a ew_124_a hR hS => ?_)
      have h := h w_124_a ew_124_a
      refine lv_aload_n hx hb dX8_spring_127 rfl (lv_at hl 0 rfl) ?_
      refine lv_iconst (v := (0 : Int32)) hx hb dX8_spring_128 (by decide) ?_
      refine p21_9 hx hb hts hown hK hR hS (hM.vil hn_113_a) q2050 dX8_spring_129 (fun H locs w_129_a ew_129_a hR hS => ?_)
      have h := h w_129_a ew_129_a
      refine lv_aload_n hx hb dX8_spring_132 rfl (lv_at hl 0 rfl) ?_
      refine lv_dup hx hb dX8_spring_133 rfl ?_
      refine g21_6 hx hb hts hown hK hR (hM.vil hn_113_a) q2046 dX8_spring_134 ?_
      refine lv_aload_n hx hb dX8_spring_137 rfl (lv_at hl 0 rfl) ?_
      refine g21_6 hx hb hts hown hK hR (hM.vil hn_113_a) q2046 dX8_spring_138 ?_
      refine lv_iconst (v := (3 : Int32)) hx hb dX8_spring_141 (by decide) ?_
      refine lv_imul hx hb dX8_spring_142 ?_
      refine lv_bipush (v := (20 : Int32)) hx hb dX8_spring_143 (by decide) ?_
      refine lv_idiv hx hb dX8_spring_145 (by decide) ?_
      refine lv_iadd hx hb dX8_spring_146 ?_
      refine p21_6 hx hb hts hown hK hR hS (hM.vil hn_113_a) q2046 dX8_spring_147 (fun H locs w_147_a ew_147_a hR hS => ?_)
      have h := h w_147_a ew_147_a
      refine lv_goto (tgt := 103) hx hb dX8_spring_150 (by decide) ?_
      exact ih w_147_a (c2 + 1) (nI c2) _ _ _ _ _ (by omega) h hR hS (lv_sub hl [1, 2] rfl) (by omega) (by omega)
def st_X8_spring_161x1 (κ : Kx) (y : Ly) (post : Wd → Prop) (ex : Wd → Prop) (rec : Wd → Nat → Int32 → Prop)  (w : Wd) (c2 : Nat) (z2 : Int32) : Prop := ((¬ (¬ c2 = mL y)) → (ex w )) ∧ (((¬ c2 = mL y)) → (((¬ gv w 27 c2 4 = (1 : Int32)) → (rec w (c2 + 1) (nI c2))) ∧ ((gv w 27 c2 4 = (1 : Int32)) → (((gv w 27 c2 2 ≤ gv w 27 c2 8) → (rec w (c2 + 1) (nI c2))) ∧ ((¬ (gv w 27 c2 2 ≤ gv w 27 c2 8)) → (sp_X8_fallDue κ y (fun w_201_a => rec w_201_a (c2 + 1) (nI c2)) w c2))))))
def sp_X8_spring_161x1 (κ : Kx) (y : Ly) (post : Wd → Prop) (ex : Wd → Prop)  : Nat → Wd → Nat → Int32 → Prop
  | 0 => fun _ _ _ => False
  | n + 1 => fun w c2 z2 => st_X8_spring_161x1 κ y post ex (sp_X8_spring_161x1 κ y post ex  n)  w c2 z2
set_option maxHeartbeats 4000000 in
theorem lp_X8_spring_161x1 {p : Program} {l : Launch} {e : Env} {s : State} {m : MethodId} {args : Array Value} {below : List Frame} {meth : Method} {c : Code} {κ : Kx} {y : Ly} {X : XR} {post : Wd → Prop} {q2 : Nat} (hx : p.tables.exec = Jvm.exec) (hb : c.code = cX8_spring) (hr : meth.sig.returnType = (Option.none : Option Jvm.ClassFile.FieldType)) (hml : c.maxLocals = 4) (hown : s.vm.findClass RX8 = some m.cls) (hts : ∀ w ∈ lw_all, w.before args s = true) (hlocks : meth.locks = false) (hK : KK κ s) (hM : WFm κ y) (l0 : live y 20 0) {C1 S1 : Nat} (hC : C1 ≤ 11) (hSl : S1 ≤ 44) {ex : Wd → Prop}
    (kx : ∀ (w : Wd)  (H : Heap) (locs : List Loc) (ls : Array Slot) (cells slots : Nat) , ex w  → Rp κ w y X [] H → va_S (Af κ) s.heap H locs → lv_has ls 4 [] → cells ≤ C1 → slots ≤ S1 → W p l e (headSpec (ws_ yX8_spring cX8_spring 4 (Option.none : Option Jvm.ClassFile.FieldType)) rm_X8_spring).room s m args below meth c H locs cells slots (MQ below (va_Qv post (fun w t => Rp κ w y X [] t.heap) (Af κ)) args s 11 44 (Af κ)) (F0 m 207 ls [])) :
    ∀ (f : Nat) (w : Wd) (c2 : Nat) (z2 : Int32) (H : Heap) (locs : List Loc) (ls : Array Slot) (cells slots : Nat)  (hc2 : c2 ≤ mL y), sp_X8_spring_161x1 κ y post ex  f w c2 z2 → Rp κ w y X [(q2, itC y 54 0 c2 z2)] H → va_S (Af κ) s.heap H locs → lv_has ls 4 [(0, .ref (y.2 20 0)), (2, .ref (q2))] → cells + f * 1 ≤ C1 → slots + f * 4 ≤ S1 → W p l e (headSpec (ws_ yX8_spring cX8_spring 4 (Option.none : Option Jvm.ClassFile.FieldType)) rm_X8_spring).room s m args below meth c H locs cells slots (MQ below (va_Qv post (fun w t => Rp κ w y X [] t.heap) (Af κ)) args s 11 44 (Af κ)) (F0 m 161 ls []) := by
  intro f
  induction f with
  | zero =>
    intro w c2 z2 H locs ls cells slots hc2 h
    exact False.elim h
  | succ f ih =>
    intro w c2 z2 H locs ls cells slots hc2 h hR hS hl hc hs
    have h : st_X8_spring_161x1 κ y post ex (sp_X8_spring_161x1 κ y post ex  f)  w c2 z2 := h
    unfold st_X8_spring_161x1 at h
    refine lv_aload_n hx hb dX8_spring_161 rfl (lv_at hl 1 rfl) ?_
    refine jr_hasNext (t := 0) ⟨hx, hb, hml, hown, hts⟩ hK hR rfl ⟨fun _ _ _ _ _ => rfl, fun _ _ _ _ _ => rfl⟩ hM.lsL (by omega) (Nat.le_trans hM.mL8 (by decide)) q2250 ⟨Nat.le_of_ble_eq_true rfl, Nat.le_of_ble_eq_true rfl⟩ hl.1 (Nat.le_of_ble_eq_true rfl) dX8_spring_162 ⟨(Nat.le_trans (show cells + 0 ≤ C1 from by omega) hC), (Nat.le_trans (show slots + 0 ≤ S1 from by omega) hSl)⟩ ?_
    refine lv_if_eq (tgt := 207) hx hb dX8_spring_167 (by decide) (fun c_167_a => ?_) (fun c_167_a => ?_)
    · replace c_167_a : ¬ (¬ c2 = mL y) := bi_0.mp c_167_a
      have h := h.1 c_167_a
      have hR := hR.sub (L' := []) [] rfl rfl
      exact kx w  _ _ _ _ _ h hR hS (lv_sub hl [] rfl) (by omega) (by omega)
    · replace c_167_a : (¬ c2 = mL y) := bi_n0.mp c_167_a
      have h := h.2 c_167_a
      refine lv_aload_n hx hb dX8_spring_170 rfl (lv_at hl 1 rfl) ?_
      have hn_171_a : c2 < mL y := by omega
      refine jr_next (t := 0) (a := y.2 27 c2) ⟨hx, hb, hml, hown, hts⟩ hK hR hS rfl ⟨fun _ _ _ _ _ => rfl, fun _ _ _ _ _ => rfl⟩ hM.lsL ⟨hM.arL (Nat.lt_of_le_of_lt (Nat.zero_le _) hn_171_a), (Nat.le_trans hM.mL8 (by decide))⟩ hn_171_a (hM.elL hn_171_a) q2252 ⟨Nat.le_of_ble_eq_true rfl, Nat.le_of_ble_eq_true rfl⟩ hl.1 (Nat.le_of_ble_eq_true rfl) dX8_spring_171 ⟨(Nat.le_trans (show cells + 0 ≤ C1 from by omega) hC), (Nat.le_trans (show slots + 0 ≤ S1 from by omega) hSl)⟩ (fun H locs hR hS => ?_)
      have hR : Rp κ w y X [(q2, itC y 54 0 (c2 + 1) (nI c2))] H := hR
      refine jr_castS (ci := 14) hx hb hown hK hts (hR.role (hM.lot hn_171_a)) rfl q2253 dX8_spring_176 ?_
      refine lv_astore_n (lv' := [(3, .ref (y.2 27 c2)), (0, .ref (y.2 20 0)), (2, .ref (q2))]) hx hb dX8_spring_179 rfl hl (by decide) rfl (fun ls hl => ?_)
      refine lv_aload_n hx hb dX8_spring_180 rfl (lv_at hl 0 rfl) ?_
      refine g27_4 hx hb hts hown hK hR (hM.lot hn_171_a) q2264 dX8_spring_181 ?_
      refine lv_iconst (v := (1 : Int32)) hx hb dX8_spring_184 (by decide) ?_
      refine lv_icmp_ne (tgt := 204) hx hb dX8_spring_185 (by decide) (fun c_185_a => ?_) (fun c_185_a => ?_)
      · have h := h.1 c_185_a
        refine lv_goto (tgt := 161) hx hb dX8_spring_204 (by decide) ?_
        exact ih w (c2 + 1) (nI c2) _ _ _ _ _ (by omega) h hR hS (lv_sub hl [1, 2] rfl) (by omega) (by omega)
      · have h := h.2 c_185_a
        refine lv_aload_n hx hb dX8_spring_188 rfl (lv_at hl 0 rfl) ?_
        refine g27_8 hx hb hts hown hK hR (hM.lot hn_171_a) q2269 dX8_spring_189 ?_
        refine lv_aload_n hx hb dX8_spring_192 rfl (lv_at hl 0 rfl) ?_
        refine g27_2 hx hb hts hown hK hR (hM.lot hn_171_a) q2261 dX8_spring_193 ?_
        refine lv_icmp_ge (tgt := 204) hx hb dX8_spring_196 (by decide) (fun c_196_a => ?_) (fun c_196_a => ?_)
        · have h := h.1 c_196_a
          refine lv_goto (tgt := 161) hx hb dX8_spring_204 (by decide) ?_
          exact ih w (c2 + 1) (nI c2) _ _ _ _ _ (by omega) h hR hS (lv_sub hl [1, 2] rfl) (by omega) (by omega)
        · have h := h.2 c_196_a
          refine lv_aload_n hx hb dX8_spring_199 rfl (lv_at hl 1 rfl) ?_
          refine lv_aload_n hx hb dX8_spring_200 rfl (lv_at hl 0 rfl) ?_
          refine ce_qv (fw := fun u => u) (fy := fun _ => y) (cr_V (n := 1) (As := [.ref (y.2 27 c2)]) (rest := []) ⟨hx, hb, hml, hown, hts⟩ hK hR (m_X8_fallDue hM l0 (hM.lot hn_171_a) h) q2336 q2338 qs49 q85 q2339 rfl rfl hd_X8_fallDue ⟨Nat.le_of_ble_eq_true rfl, Nat.le_of_ble_eq_true rfl⟩ (rv hK hR l0 (ci := 11) rfl rfl) rfl rfl hl.1 rfl (lv_room (Nat.le_of_ble_eq_true rfl)) dX8_spring_201 ⟨(Nat.le_trans (show cells + 1 ≤ C1 from by omega) hC), (Nat.le_trans (show slots + 4 ≤ S1 from by omega) hSl)⟩) hR hS (fun w_201_a H locs h hR _ hS => ?_)
          refine lv_goto (tgt := 161) hx hb dX8_spring_204 (by decide) ?_
          exact ih w_201_a (c2 + 1) (nI c2) _ _ _ _ _ (by omega) h hR hS (lv_sub hl [1, 2] rfl) (by omega) (by omega)
def sp_X8_spring (κ : Kx) (y : Ly) (post : Wd → Prop) (w : Wd)  : Prop := ∀ w_13 : Wd, w_13 = sv w 20 0 2 ((((7 : Int32) * (gv w 20 0 2)) + (4 : Int32)) - (((7 : Int32) * (gv w 20 0 2)) + (4 : Int32)) / (11 : Int32) * (11 : Int32)) → sp_X8_spring_20 κ y post (fun w_20 y1_20 => ((y1_20 = 0) → (∀ w_92 : Wd, w_92 = sv w_20 20 0 12 ((gv w_20 20 0 12) + (0 : Int32)) → sp_X8_spring_103 κ y post (fun w_103  => sp_X8_spring_161 κ y post (fun w_161  => post w_161)  9 w_103 0 (-1))  9 w_92 0 (-1))) ∧ ((¬ (y1_20 = 0)) → (∀ w_92_a : Wd, w_92_a = sv w_20 20 0 12 ((gv w_20 20 0 12) + (1 : Int32)) → sp_X8_spring_103x1 κ y post (fun w_103_a  => sp_X8_spring_161x1 κ y post (fun w_161_a  => post w_161_a)  9 w_103_a 0 (-1))  9 w_92_a 0 (-1))))  4 w_13 (0 : Int32) (0 : Int32)
theorem hd_X8_spring : yX8_spring.cls = RX8 ∧ yX8_spring.cls ≠ "java/lang/invoke/MethodHandle" ∧ yX8_spring.cls ≠ "java/lang/invoke/VarHandle" ∧ (parseMethodDescriptor yX8_spring.desc).map (fun d => d.parameters.length) = some 0 := by decide +kernel
set_option maxHeartbeats 4000000 in
theorem m_X8_spring {l : Launch} {κ : Kx} {y : Ly} {X : XR} {post : Wd → Prop} {w : Wd}   (hM : WFm κ y) (l0 : live y 20 0) (h : sp_X8_spring κ y post w ) : Met l yX8_spring (ws_ yX8_spring cX8_spring 4 (Option.none : Option Jvm.ClassFile.FieldType)) rm_X8_spring (va_Pc [.ref (y.2 20 0)] (RC κ w y X)) (va_Qv post (fun w t => Rp κ w y X [] t.heap) (Af κ)) 11 44 (Af κ) := by
  unfold sp_X8_spring at h
  refine Met.ofW (cc := cX8_spring) (maxL := 4) (ret := (Option.none : Option Jvm.ClassFile.FieldType)) (by decide) rfl ?_
  intro p e s m args below meth c s₁ B hml hv
  obtain ⟨rfl, hR, hK⟩ := hv
  have hx := B.exec
  have hb := B.bytes
  have hr := B.returns
  have hts := atoms_spec (ws := ws_ yX8_spring cX8_spring 4 (Option.none : Option Jvm.ClassFile.FieldType)) B.pre
  have hts : ∀ w ∈ lw_all, w.before _ s = true := fun w h => hts w (List.mem_cons_of_mem _ h)
  have hown : s.vm.findClass RX8 = some m.cls := findClass_of_methodNamed B.named
  have hlocks := B.notSynchronized
  have hS : va_S (Af κ) s.heap s.heap [] := va_S.rf
  have hl := lv_entry ([.ref (y.2 20 0)]) (n := 4) (Nat.le_of_ble_eq_true rfl)
  rw [lg_entry_eq]
  generalize (lg_sl ([.ref (y.2 20 0)]) ++ List.replicate (4 - (lg_sl ([.ref (y.2 20 0)])).length) Slot.unset).toArray = ls at hl ⊢
  have hl : lv_has ls 4 [(0, .ref (y.2 20 0))] := hl
  refine lv_aload_n hx hb dX8_spring_0 rfl (lv_at hl 0 rfl) ?_
  refine lv_bipush (v := (7 : Int32)) hx hb dX8_spring_1 (by decide) ?_
  refine lv_aload_n hx hb dX8_spring_3 rfl (lv_at hl 0 rfl) ?_
  refine g20_2 hx hb hts hown hK hR l0 q1947 dX8_spring_4 ?_
  refine lv_imul hx hb dX8_spring_7 ?_
  refine lv_iconst (v := (4 : Int32)) hx hb dX8_spring_8 (by decide) ?_
  refine lv_iadd hx hb dX8_spring_9 ?_
  refine lv_bipush (v := (11 : Int32)) hx hb dX8_spring_10 (by decide) ?_
  refine lv_irem hx hb dX8_spring_12 (by decide) ?_
  refine p20_2 hx hb hts hown hK hR hS l0 q1947 dX8_spring_13 (fun H locs w_13 ew_13 hR hS => ?_)
  have h := h w_13 ew_13
  refine lv_iconst (v := (0 : Int32)) hx hb dX8_spring_16 (by decide) ?_
  refine lv_istore_n (lv' := [(1, .int ((0 : Int32))), (0, .ref (y.2 20 0))]) hx hb dX8_spring_17 rfl hl (by decide) rfl (fun ls hl => ?_)
  refine lv_iconst (v := (0 : Int32)) hx hb dX8_spring_18 (by decide) ?_
  refine lv_istore_n (lv' := [(2, .int ((0 : Int32))), (1, .int ((0 : Int32))), (0, .ref (y.2 20 0))]) hx hb dX8_spring_19 rfl hl (by decide) rfl (fun ls hl => ?_)
  refine lp_X8_spring_20 (C1 := 0) (S1 := 0) hx hb hr hml hown hts hlocks hK hM l0 (Nat.le_of_ble_eq_true rfl) (Nat.le_of_ble_eq_true rfl) (fun w_20 y1_20 H locs ls cells9 slots9 h hR hS hl hc9 hs9 => ?_) 4 w_13 (0 : Int32) (0 : Int32) _ _ _ _ _  h hR hS (lv_sub hl [2, 1, 0] rfl) (by omega) (by omega)
  refine W.widen (k := 0) (n := 0) hc9 hs9 ?_
  refine lv_aload_n hx hb dX8_spring_77 rfl (lv_at hl 0 rfl) ?_
  refine lv_dup hx hb dX8_spring_78 rfl ?_
  refine g20_12 hx hb hts hown hK hR l0 q1957 dX8_spring_79 ?_
  refine lv_iload_n hx hb dX8_spring_82 rfl (lv_at hl 1 rfl) ?_
  refine lv_if_eq (tgt := 90) hx hb dX8_spring_83 (by decide) (fun c_83 => ?_) (fun c_83 => ?_)
  · have h := h.1 c_83
    refine lv_iconst (v := (0 : Int32)) hx hb dX8_spring_90 (by decide) ?_
    refine lv_iadd hx hb dX8_spring_91 ?_
    refine p20_12 hx hb hts hown hK hR hS l0 q1957 dX8_spring_92 (fun H locs w_92 ew_92 hR hS => ?_)
    have h := h w_92 ew_92
    refine lv_aload_n hx hb dX8_spring_95 rfl (lv_at hl 0 rfl) ?_
    refine g20_3 hx hb hts hown hK hR l0 q1948 dX8_spring_96 ?_
    refine jr_iter ⟨hx, hb, hml, hown, hts⟩ hK hR hS ⟨fun _ _ _ _ _ => rfl, fun _ _ _ _ _ => rfl⟩ hM.lsV q2248 ⟨Nat.le_of_ble_eq_true rfl, Nat.le_of_ble_eq_true rfl⟩ hl.1 (Nat.le_of_ble_eq_true rfl) dX8_spring_99 ⟨(Nat.le_of_ble_eq_true rfl), (Nat.le_of_ble_eq_true rfl)⟩ (fun q_99 H locs hR hS => ?_)
    have hR : Rp κ w_92 y X [(q_99, itC y 50 0 0 (-1))] H := hR
    refine lv_astore_n (lv' := [(2, .ref (q_99)), (0, .ref (y.2 20 0)), (1, .int (y1_20))]) hx hb dX8_spring_102 rfl hl (by decide) rfl (fun ls hl => ?_)
    refine lp_X8_spring_103 (C1 := 1) (S1 := 4) hx hb hr hml hown hts hlocks hK hM l0 (Nat.le_of_ble_eq_true rfl) (Nat.le_of_ble_eq_true rfl) (fun w_103  H locs ls cells9 slots9 h hR hS hl hc9 hs9 => ?_) 9 w_92 0 (-1) _ _ _ _ _ (by omega) h hR hS (lv_sub hl [1, 0] rfl) (by omega) (by omega)
    refine W.widen (k := 1) (n := 4) hc9 hs9 ?_
    refine lv_aload_n hx hb dX8_spring_153 rfl (lv_at hl 0 rfl) ?_
    refine g20_5 hx hb hts hown hK hR l0 q1950 dX8_spring_154 ?_
    refine jr_iter ⟨hx, hb, hml, hown, hts⟩ hK hR hS ⟨fun _ _ _ _ _ => rfl, fun _ _ _ _ _ => rfl⟩ hM.lsL q2248 ⟨Nat.le_of_ble_eq_true rfl, Nat.le_of_ble_eq_true rfl⟩ hl.1 (Nat.le_of_ble_eq_true rfl) dX8_spring_157 ⟨(Nat.le_of_ble_eq_true rfl), (Nat.le_of_ble_eq_true rfl)⟩ (fun q_157 H locs hR hS => ?_)
    have hR : Rp κ w_103 y X [(q_157, itC y 54 0 0 (-1))] H := hR
    refine lv_astore_n (lv' := [(2, .ref (q_157)), (0, .ref (y.2 20 0))]) hx hb dX8_spring_160 rfl hl (by decide) rfl (fun ls hl => ?_)
    refine lp_X8_spring_161 (C1 := 11) (S1 := 44) hx hb hr hml hown hts hlocks hK hM l0 (Nat.le_of_ble_eq_true rfl) (Nat.le_of_ble_eq_true rfl) (fun w_161  H locs ls cells9 slots9 h hR hS hl hc9 hs9 => ?_) 9 w_103 0 (-1) _ _ _ _ _ (by omega) h hR hS (lv_sub hl [1, 0] rfl) (by omega) (by omega)
    refine W.widen (k := 11) (n := 44) hc9 hs9 ?_
    refine W.widen (k := 11) (n := 44) (Nat.le_of_ble_eq_true rfl) (Nat.le_of_ble_eq_true rfl) ?_
    exact W.vret hx hb hr (fun t ht hW9 => ⟨⟨w_161, rfl, h, rpt ht hR⟩, hS.F ht⟩) hS.2.2 dX8_spring_207
  · have h := h.2 c_83
    refine lv_iconst (v := (1 : Int32)) hx hb dX8_spring_86 (by decide) ?_
    refine lv_goto (tgt := 91) hx hb dX8_spring_87 (by decide) ?_
    refine lv_iadd hx hb dX8_spring_91 ?_
    refine p20_12 hx hb hts hown hK hR hS l0 q1957 dX8_spring_92 (fun H locs w_92_a ew_92_a hR hS => ?_)
    have h := h w_92_a ew_92_a
    refine lv_aload_n hx hb dX8_spring_95 rfl (lv_at hl 0 rfl) ?_
    refine g20_3 hx hb hts hown hK hR l0 q1948 dX8_spring_96 ?_
    refine jr_iter ⟨hx, hb, hml, hown, hts⟩ hK hR hS ⟨fun _ _ _ _ _ => rfl, fun _ _ _ _ _ => rfl⟩ hM.lsV q2248 ⟨Nat.le_of_ble_eq_true rfl, Nat.le_of_ble_eq_true rfl⟩ hl.1 (Nat.le_of_ble_eq_true rfl) dX8_spring_99 ⟨(Nat.le_of_ble_eq_true rfl), (Nat.le_of_ble_eq_true rfl)⟩ (fun q_99_a H locs hR hS => ?_)
    have hR : Rp κ w_92_a y X [(q_99_a, itC y 50 0 0 (-1))] H := hR
    refine lv_astore_n (lv' := [(2, .ref (q_99_a)), (0, .ref (y.2 20 0)), (1, .int (y1_20))]) hx hb dX8_spring_102 rfl hl (by decide) rfl (fun ls hl => ?_)
    refine lp_X8_spring_103x1 (C1 := 1) (S1 := 4) hx hb hr hml hown hts hlocks hK hM l0 (Nat.le_of_ble_eq_true rfl) (Nat.le_of_ble_eq_true rfl) (fun w_103_a  H locs ls cells9 slots9 h hR hS hl hc9 hs9 => ?_) 9 w_92_a 0 (-1) _ _ _ _ _ (by omega) h hR hS (lv_sub hl [1, 0] rfl) (by omega) (by omega)
    refine W.widen (k := 1) (n := 4) hc9 hs9 ?_
    refine lv_aload_n hx hb dX8_spring_153 rfl (lv_at hl 0 rfl) ?_
    refine g20_5 hx hb hts hown hK hR l0 q1950 dX8_spring_154 ?_
    refine jr_iter ⟨hx, hb, hml, hown, hts⟩ hK hR hS ⟨fun _ _ _ _ _ => rfl, fun _ _ _ _ _ => rfl⟩ hM.lsL q2248 ⟨Nat.le_of_ble_eq_true rfl, Nat.le_of_ble_eq_true rfl⟩ hl.1 (Nat.le_of_ble_eq_true rfl) dX8_spring_157 ⟨(Nat.le_of_ble_eq_true rfl), (Nat.le_of_ble_eq_true rfl)⟩ (fun q_157_a H locs hR hS => ?_)
    have hR : Rp κ w_103_a y X [(q_157_a, itC y 54 0 0 (-1))] H := hR
    refine lv_astore_n (lv' := [(2, .ref (q_157_a)), (0, .ref (y.2 20 0))]) hx hb dX8_spring_160 rfl hl (by decide) rfl (fun ls hl => ?_)
    refine lp_X8_spring_161x1 (C1 := 11) (S1 := 44) hx hb hr hml hown hts hlocks hK hM l0 (Nat.le_of_ble_eq_true rfl) (Nat.le_of_ble_eq_true rfl) (fun w_161_a  H locs ls cells9 slots9 h hR hS hl hc9 hs9 => ?_) 9 w_103_a 0 (-1) _ _ _ _ _ (by omega) h hR hS (lv_sub hl [1, 0] rfl) (by omega) (by omega)
    refine W.widen (k := 11) (n := 44) hc9 hs9 ?_
    refine W.widen (k := 11) (n := 44) (Nat.le_of_ble_eq_true rfl) (Nat.le_of_ble_eq_true rfl) ?_
    exact W.vret hx hb hr (fun t ht hW9 => ⟨⟨w_161_a, rfl, h, rpt ht hR⟩, hS.F ht⟩) hS.2.2 dX8_spring_207
abbrev rm_X8_yieldOf : Room := { frames := 0, cells := 0, slots := 0, locals := 0 }
def sp_X8_yieldOf (κ : Kx) (y : Ly) (post : Int32 → Wd → Prop) (w : Wd) (a0 : Nat) (p1 : Int32) : Prop := ∀ x_16 : Int32, x_16 = (((gv w 21 a0 1) * (gv w 21 a0 3)) * (p1 + (2 : Int32))) / (60 : Int32) → ((gv w 21 a0 11 = 0) → (post (x_16) w)) ∧ ((¬ (gv w 21 a0 11 = 0)) → (post (x_16 / (2 : Int32)) w))
theorem hds_X8_yieldOf : yX8_yieldOf.cls ≠ "java/lang/invoke/MethodHandle" ∧ yX8_yieldOf.cls ≠ "java/lang/invoke/VarHandle" ∧ (parseMethodDescriptor yX8_yieldOf.desc).map (fun d => d.parameters.length) = some 2 := by decide +kernel
set_option maxHeartbeats 4000000 in
theorem m_X8_yieldOf {l : Launch} {κ : Kx} {y : Ly} {X : XR} {post : Int32 → Wd → Prop} {w : Wd} {a0 : Nat} {p1 : Int32}  (hM : WFm κ y) (l0 : live y 21 a0) (h : sp_X8_yieldOf κ y post w a0 p1) : Met l yX8_yieldOf (ws_ yX8_yieldOf cX8_yieldOf 3 (Option.some Jvm.ClassFile.FieldType.int)) rm_X8_yieldOf (va_Pc [.ref (y.2 21 a0), .int (p1)] (RC κ w y X)) (va_Qi post (fun w t => Rp κ w y X [] t.heap) (Af κ)) 0 0 (Af κ) := by
  unfold sp_X8_yieldOf at h
  refine Met.ofW (cc := cX8_yieldOf) (maxL := 3) (ret := (Option.some Jvm.ClassFile.FieldType.int)) (by decide) rfl ?_
  intro p e s m args below meth c s₁ B hml hv
  obtain ⟨rfl, hR, hK⟩ := hv
  have hx := B.exec
  have hb := B.bytes
  have hr := B.returns
  have hts := atoms_spec (ws := ws_ yX8_yieldOf cX8_yieldOf 3 (Option.some Jvm.ClassFile.FieldType.int)) B.pre
  have hts : ∀ w ∈ lw_all, w.before _ s = true := fun w h => hts w (List.mem_cons_of_mem _ h)
  have hown : s.vm.findClass RX8 = some m.cls := findClass_of_methodNamed B.named
  have hlocks := B.notSynchronized
  have hS : va_S (Af κ) s.heap s.heap [] := va_S.rf
  have hl := lv_entry ([.ref (y.2 21 a0), .int (p1)]) (n := 3) (Nat.le_of_ble_eq_true rfl)
  rw [lg_entry_eq]
  generalize (lg_sl ([.ref (y.2 21 a0), .int (p1)]) ++ List.replicate (3 - (lg_sl ([.ref (y.2 21 a0), .int (p1)])).length) Slot.unset).toArray = ls at hl ⊢
  have hl : lv_has ls 3 [(0, .ref (y.2 21 a0)), (1, .int (p1))] := hl
  refine lv_aload_n hx hb dX8_yieldOf_0 rfl (lv_at hl 0 rfl) ?_
  refine g21_1 hx hb hts hown hK hR l0 q2041 dX8_yieldOf_1 ?_
  refine lv_aload_n hx hb dX8_yieldOf_4 rfl (lv_at hl 0 rfl) ?_
  refine g21_3 hx hb hts hown hK hR l0 q2043 dX8_yieldOf_5 ?_
  refine lv_imul hx hb dX8_yieldOf_8 ?_
  refine lv_iload_n hx hb dX8_yieldOf_9 rfl (lv_at hl 1 rfl) ?_
  refine lv_iconst (v := (2 : Int32)) hx hb dX8_yieldOf_10 (by decide) ?_
  refine lv_iadd hx hb dX8_yieldOf_11 ?_
  refine lv_imul hx hb dX8_yieldOf_12 ?_
  refine lv_bipush (v := (60 : Int32)) hx hb dX8_yieldOf_13 (by decide) ?_
  refine lv_idiv hx hb dX8_yieldOf_15 (by decide) ?_
  refine lv_topi (fun x_16 ex_16 => ?_)
  have h := h x_16 ex_16
  refine lv_istore_n (lv' := [(2, .int (x_16)), (0, .ref (y.2 21 a0)), (1, .int (p1))]) hx hb dX8_yieldOf_16 rfl hl (by decide) rfl (fun ls hl => ?_)
  refine lv_aload_n hx hb dX8_yieldOf_17 rfl (lv_at hl 1 rfl) ?_
  refine g21_11 hx hb hts hown hK hR l0 q2052 dX8_yieldOf_18 ?_
  refine lv_if_eq (tgt := 30) hx hb dX8_yieldOf_21 (by decide) (fun c_21 => ?_) (fun c_21 => ?_)
  · have h := h.1 c_21
    refine lv_iload_n hx hb dX8_yieldOf_30 rfl (lv_at hl 0 rfl) ?_
    refine W.widen (k := 0) (n := 0) (Nat.le_of_ble_eq_true rfl) (Nat.le_of_ble_eq_true rfl) ?_
    exact W.iret (v := x_16) hx hb hr (fun t ht hW9 => ⟨⟨x_16, w, rfl, h, rpt ht hR⟩, hS.F ht⟩) hS.2.2 dX8_yieldOf_31
  · have h := h.2 c_21
    refine lv_iload_n hx hb dX8_yieldOf_24 rfl (lv_at hl 0 rfl) ?_
    refine lv_iconst (v := (2 : Int32)) hx hb dX8_yieldOf_25 (by decide) ?_
    refine lv_idiv hx hb dX8_yieldOf_26 (by decide) ?_
    refine lv_goto (tgt := 31) hx hb dX8_yieldOf_27 (by decide) ?_
    refine W.widen (k := 0) (n := 0) (Nat.le_of_ble_eq_true rfl) (Nat.le_of_ble_eq_true rfl) ?_
    exact W.iret (v := x_16 / (2 : Int32)) hx hb hr (fun t ht hW9 => ⟨⟨x_16 / (2 : Int32), w, rfl, h, rpt ht hR⟩, hS.F ht⟩) hS.2.2 dX8_yieldOf_31
abbrev rm_X8_due : Room := { frames := 0, cells := 0, slots := 0, locals := 0 }
def sp_X8_due (κ : Kx) (y : Ly) (post : Int32 → Wd → Prop) (w : Wd) (a0 : Nat) (p1 : Int32) (p2 : Int32) (p3 : Int32) : Prop := ((p3 = 0) → (((¬ p1 = 0) → (((¬ p1 = (1 : Int32)) → (post ((gv w 21 a0 0) * p2) w)) ∧ ((p1 = (1 : Int32)) → (post (((gv w 21 a0 2) * p2) / (100 : Int32)) w)))) ∧ ((p1 = 0) → (post (((gv w 21 a0 9) * p2) / (1000 : Int32)) w)))) ∧ ((¬ (p3 = 0)) → (post ((0 : Int32)) w))
theorem hds_X8_due : yX8_due.cls ≠ "java/lang/invoke/MethodHandle" ∧ yX8_due.cls ≠ "java/lang/invoke/VarHandle" ∧ (parseMethodDescriptor yX8_due.desc).map (fun d => d.parameters.length) = some 4 := by decide +kernel
set_option maxHeartbeats 4000000 in
theorem m_X8_due {l : Launch} {κ : Kx} {y : Ly} {X : XR} {post : Int32 → Wd → Prop} {w : Wd} {a0 : Nat} {p1 : Int32} {p2 : Int32} {p3 : Int32}  (hM : WFm κ y) (l0 : live y 21 a0) (h : sp_X8_due κ y post w a0 p1 p2 p3) : Met l yX8_due (ws_ yX8_due cX8_due 4 (Option.some Jvm.ClassFile.FieldType.int)) rm_X8_due (va_Pc [.ref (y.2 21 a0), .int (p1), .int (p2), .int (p3)] (RC κ w y X)) (va_Qi post (fun w t => Rp κ w y X [] t.heap) (Af κ)) 0 0 (Af κ) := by
  unfold sp_X8_due at h
  refine Met.ofW (cc := cX8_due) (maxL := 4) (ret := (Option.some Jvm.ClassFile.FieldType.int)) (by decide) rfl ?_
  intro p e s m args below meth c s₁ B hml hv
  obtain ⟨rfl, hR, hK⟩ := hv
  have hx := B.exec
  have hb := B.bytes
  have hr := B.returns
  have hts := atoms_spec (ws := ws_ yX8_due cX8_due 4 (Option.some Jvm.ClassFile.FieldType.int)) B.pre
  have hts : ∀ w ∈ lw_all, w.before _ s = true := fun w h => hts w (List.mem_cons_of_mem _ h)
  have hown : s.vm.findClass RX8 = some m.cls := findClass_of_methodNamed B.named
  have hlocks := B.notSynchronized
  have hS : va_S (Af κ) s.heap s.heap [] := va_S.rf
  have hl := lv_entry ([.ref (y.2 21 a0), .int (p1), .int (p2), .int (p3)]) (n := 4) (Nat.le_of_ble_eq_true rfl)
  rw [lg_entry_eq]
  generalize (lg_sl ([.ref (y.2 21 a0), .int (p1), .int (p2), .int (p3)]) ++ List.replicate (4 - (lg_sl ([.ref (y.2 21 a0), .int (p1), .int (p2), .int (p3)])).length) Slot.unset).toArray = ls at hl ⊢
  have hl : lv_has ls 4 [(0, .ref (y.2 21 a0)), (1, .int (p1)), (2, .int (p2)), (3, .int (p3))] := hl
  refine lv_iload_n hx hb dX8_due_0 rfl (lv_at hl 3 rfl) ?_
  refine lv_if_eq (tgt := 6) hx hb dX8_due_1 (by decide) (fun c_1 => ?_) (fun c_1 => ?_)
  · have h := h.1 c_1
    refine lv_iload_n hx hb dX8_due_6 rfl (lv_at hl 1 rfl) ?_
    refine lv_if_ne (tgt := 23) hx hb dX8_due_7 (by decide) (fun c_7 => ?_) (fun c_7 => ?_)
    · have h := h.1 c_7
      refine lv_iload_n hx hb dX8_due_23 rfl (lv_at hl 1 rfl) ?_
      refine lv_iconst (v := (1 : Int32)) hx hb dX8_due_24 (by decide) ?_
      refine lv_icmp_ne (tgt := 40) hx hb dX8_due_25 (by decide) (fun c_25 => ?_) (fun c_25 => ?_)
      · have h := h.1 c_25
        refine lv_aload_n hx hb dX8_due_40 rfl (lv_at hl 0 rfl) ?_
        refine g21_0 hx hb hts hown hK hR l0 q2040 dX8_due_41 ?_
        refine lv_iload_n hx hb dX8_due_44 rfl (lv_at hl 2 rfl) ?_
        refine lv_imul hx hb dX8_due_45 ?_
        refine W.widen (k := 0) (n := 0) (Nat.le_of_ble_eq_true rfl) (Nat.le_of_ble_eq_true rfl) ?_
        exact W.iret (v := (gv w 21 a0 0) * p2) hx hb hr (fun t ht hW9 => ⟨⟨(gv w 21 a0 0) * p2, w, rfl, h, rpt ht hR⟩, hS.F ht⟩) hS.2.2 dX8_due_46
      · have h := h.2 c_25
        refine lv_aload_n hx hb dX8_due_28 rfl (lv_at hl 0 rfl) ?_
        refine g21_2 hx hb hts hown hK hR l0 q2042 dX8_due_29 ?_
        refine lv_iload_n hx hb dX8_due_32 rfl (lv_at hl 2 rfl) ?_
        refine lv_imul hx hb dX8_due_33 ?_
        refine lv_bipush (v := (100 : Int32)) hx hb dX8_due_34 (by decide) ?_
        refine lv_idiv hx hb dX8_due_36 (by decide) ?_
        refine lv_goto (tgt := 46) hx hb dX8_due_37 (by decide) ?_
        refine W.widen (k := 0) (n := 0) (Nat.le_of_ble_eq_true rfl) (Nat.le_of_ble_eq_true rfl) ?_
        exact W.iret (v := ((gv w 21 a0 2) * p2) / (100 : Int32)) hx hb hr (fun t ht hW9 => ⟨⟨((gv w 21 a0 2) * p2) / (100 : Int32), w, rfl, h, rpt ht hR⟩, hS.F ht⟩) hS.2.2 dX8_due_46
    · have h := h.2 c_7
      refine lv_aload_n hx hb dX8_due_10 rfl (lv_at hl 0 rfl) ?_
      refine g21_9 hx hb hts hown hK hR l0 q2050 dX8_due_11 ?_
      refine lv_iload_n hx hb dX8_due_14 rfl (lv_at hl 2 rfl) ?_
      refine lv_imul hx hb dX8_due_15 ?_
      refine lv_sipush (v := (1000 : Int32)) hx hb dX8_due_16 (by decide) ?_
      refine lv_idiv hx hb dX8_due_19 (by decide) ?_
      refine lv_goto (tgt := 46) hx hb dX8_due_20 (by decide) ?_
      refine W.widen (k := 0) (n := 0) (Nat.le_of_ble_eq_true rfl) (Nat.le_of_ble_eq_true rfl) ?_
      exact W.iret (v := ((gv w 21 a0 9) * p2) / (1000 : Int32)) hx hb hr (fun t ht hW9 => ⟨⟨((gv w 21 a0 9) * p2) / (1000 : Int32), w, rfl, h, rpt ht hR⟩, hS.F ht⟩) hS.2.2 dX8_due_46
  · have h := h.2 c_1
    refine lv_iconst (v := (0 : Int32)) hx hb dX8_due_4 (by decide) ?_
    refine W.widen (k := 0) (n := 0) (Nat.le_of_ble_eq_true rfl) (Nat.le_of_ble_eq_true rfl) ?_
    exact W.iret (v := (0 : Int32)) hx hb hr (fun t ht hW9 => ⟨⟨(0 : Int32), w, rfl, h, rpt ht hR⟩, hS.F ht⟩) hS.2.2 dX8_due_5
abbrev rm_X8_hidden : Room := { frames := 1, cells := 0, slots := 0, locals := 24 }
def sp_X8_hidden (κ : Kx) (y : Ly) (post : Int32 → Wd → Prop) (w : Wd) (p0 : Int32) (p1 : Int32) (p2 : Int32) : Prop := post ((p0 * (jmax (0 : Int32) (jmin (12 : Int32) (((6 : Int32) + (p1 / (4 : Int32))) - ((2 : Int32) * p2))))) / (16 : Int32)) w
theorem hds_X8_hidden : yX8_hidden.cls ≠ "java/lang/invoke/MethodHandle" ∧ yX8_hidden.cls ≠ "java/lang/invoke/VarHandle" ∧ (parseMethodDescriptor yX8_hidden.desc).map (fun d => d.parameters.length) = some 3 := by decide +kernel
set_option maxHeartbeats 4000000 in
theorem m_X8_hidden {l : Launch} {κ : Kx} {y : Ly} {X : XR} {post : Int32 → Wd → Prop} {w : Wd} {p0 : Int32} {p1 : Int32} {p2 : Int32}  (hM : WFm κ y)  (h : sp_X8_hidden κ y post w p0 p1 p2) : Met l yX8_hidden (ws_ yX8_hidden cX8_hidden 3 (Option.some Jvm.ClassFile.FieldType.int)) rm_X8_hidden (va_Pc [.int (p0), .int (p1), .int (p2)] (RC κ w y X)) (va_Qi post (fun w t => Rp κ w y X [] t.heap) (Af κ)) 0 0 (Af κ) := by
  unfold sp_X8_hidden at h
  refine Met.ofW (cc := cX8_hidden) (maxL := 3) (ret := (Option.some Jvm.ClassFile.FieldType.int)) (by decide) rfl ?_
  intro p e s m args below meth c s₁ B hml hv
  obtain ⟨rfl, hR, hK⟩ := hv
  have hx := B.exec
  have hb := B.bytes
  have hr := B.returns
  have hts := atoms_spec (ws := ws_ yX8_hidden cX8_hidden 3 (Option.some Jvm.ClassFile.FieldType.int)) B.pre
  have hts : ∀ w ∈ lw_all, w.before _ s = true := fun w h => hts w (List.mem_cons_of_mem _ h)
  have hown : s.vm.findClass RX8 = some m.cls := findClass_of_methodNamed B.named
  have hlocks := B.notSynchronized
  have hS : va_S (Af κ) s.heap s.heap [] := va_S.rf
  have hl := lv_entry ([.int (p0), .int (p1), .int (p2)]) (n := 3) (Nat.le_of_ble_eq_true rfl)
  rw [lg_entry_eq]
  generalize (lg_sl ([.int (p0), .int (p1), .int (p2)]) ++ List.replicate (3 - (lg_sl ([.int (p0), .int (p1), .int (p2)])).length) Slot.unset).toArray = ls at hl ⊢
  have hl : lv_has ls 3 [(0, .int (p0)), (1, .int (p1)), (2, .int (p2))] := hl
  refine lv_iload_n hx hb dX8_hidden_0 rfl (lv_at hl 0 rfl) ?_
  refine lv_iconst (v := (0 : Int32)) hx hb dX8_hidden_1 (by decide) ?_
  refine lv_bipush (v := (12 : Int32)) hx hb dX8_hidden_2 (by decide) ?_
  refine lv_bipush (v := (6 : Int32)) hx hb dX8_hidden_4 (by decide) ?_
  refine lv_iload_n hx hb dX8_hidden_6 rfl (lv_at hl 1 rfl) ?_
  refine lv_iconst (v := (4 : Int32)) hx hb dX8_hidden_7 (by decide) ?_
  refine lv_idiv hx hb dX8_hidden_8 (by decide) ?_
  refine lv_iadd hx hb dX8_hidden_9 ?_
  refine lv_iconst (v := (2 : Int32)) hx hb dX8_hidden_10 (by decide) ?_
  refine lv_iload_n hx hb dX8_hidden_11 rfl (lv_at hl 2 rfl) ?_
  refine lv_imul hx hb dX8_hidden_12 ?_
  refine lv_isub hx hb dX8_hidden_13 ?_
  refine va_mmin hx hb (hml.trans hl.1.symm) hown (hts _ q2113) (hts _ q322) (hts _ q95) (hts _ q323) (Nat.le_of_ble_eq_true rfl) (Nat.le_of_ble_eq_true rfl) (Nat.le_of_ble_eq_true rfl) (Nat.le_of_ble_eq_true rfl) dX8_hidden_14 ?_
  refine va_mmax hx hb (hml.trans hl.1.symm) hown (hts _ q2323) (hts _ q642) (hts _ q95) (hts _ q643) (Nat.le_of_ble_eq_true rfl) (Nat.le_of_ble_eq_true rfl) (Nat.le_of_ble_eq_true rfl) (Nat.le_of_ble_eq_true rfl) dX8_hidden_17 ?_
  refine lv_imul hx hb dX8_hidden_20 ?_
  refine lv_bipush (v := (16 : Int32)) hx hb dX8_hidden_21 (by decide) ?_
  refine lv_idiv hx hb dX8_hidden_23 (by decide) ?_
  refine W.widen (k := 0) (n := 0) (Nat.le_of_ble_eq_true rfl) (Nat.le_of_ble_eq_true rfl) ?_
  exact W.iret (v := (p0 * (jmax (0 : Int32) (jmin (12 : Int32) (((6 : Int32) + (p1 / (4 : Int32))) - ((2 : Int32) * p2))))) / (16 : Int32)) hx hb hr (fun t ht hW9 => ⟨⟨(p0 * (jmax (0 : Int32) (jmin (12 : Int32) (((6 : Int32) + (p1 / (4 : Int32))) - ((2 : Int32) * p2))))) / (16 : Int32), w, rfl, h, rpt ht hR⟩, hS.F ht⟩) hS.2.2 dX8_hidden_24
abbrev rm_X8_isLeased : Room := { frames := 3, cells := 1, slots := 4, locals := 68 }
def st_X8_isLeased_8 (κ : Kx) (y : Ly) (post : Int32 → Wd → Prop) (ex : Wd → Prop) (rec : Wd → Nat → Int32 → Prop) (v1 : Int32) (v2 : Int32) (w : Wd) (c3 : Nat) (z3 : Int32) : Prop := ((¬ (¬ c3 = mL y)) → (ex w )) ∧ (((¬ c3 = mL y)) → (((¬ gv w 27 c3 4 = (1 : Int32)) → (rec w (c3 + 1) (nI c3))) ∧ ((gv w 27 c3 4 = (1 : Int32)) → (((¬ gv w 27 c3 0 = v1) → (rec w (c3 + 1) (nI c3))) ∧ ((gv w 27 c3 0 = v1) → (sp_X8_has κ y (fun r_52 w_52 => ((r_52 = 0) → (rec w_52 (c3 + 1) (nI c3))) ∧ ((¬ (r_52 = 0)) → (post ((1 : Int32)) w_52))) w (gv w 27 c3 1) v2))))))
def sp_X8_isLeased_8 (κ : Kx) (y : Ly) (post : Int32 → Wd → Prop) (ex : Wd → Prop) (v1 : Int32) (v2 : Int32) : Nat → Wd → Nat → Int32 → Prop
  | 0 => fun _ _ _ => False
  | n + 1 => fun w c3 z3 => st_X8_isLeased_8 κ y post ex (sp_X8_isLeased_8 κ y post ex v1 v2 n) v1 v2 w c3 z3
set_option maxHeartbeats 4000000 in
theorem lp_X8_isLeased_8 {p : Program} {l : Launch} {e : Env} {s : State} {m : MethodId} {args : Array Value} {below : List Frame} {meth : Method} {c : Code} {κ : Kx} {y : Ly} {X : XR} {post : Int32 → Wd → Prop} {q3 : Nat} {v1 : Int32} {v2 : Int32} (hx : p.tables.exec = Jvm.exec) (hb : c.code = cX8_isLeased) (hr : meth.sig.returnType = (Option.some Jvm.ClassFile.FieldType.boolean)) (hml : c.maxLocals = 5) (hown : s.vm.findClass RX8 = some m.cls) (hts : ∀ w ∈ lw_all, w.before args s = true) (hlocks : meth.locks = false) (hK : KK κ s) (hM : WFm κ y)  {C1 S1 : Nat} (hC : C1 ≤ 1) (hSl : S1 ≤ 4) {ex : Wd → Prop}
    (kx : ∀ (w : Wd)  (H : Heap) (locs : List Loc) (ls : Array Slot) (cells slots : Nat) , ex w  → Rp κ w y X [] H → va_S (Af κ) s.heap H locs → lv_has ls 5 [] → cells ≤ C1 → slots ≤ S1 → W p l e (headSpec (ws_ yX8_isLeased cX8_isLeased 5 (Option.some Jvm.ClassFile.FieldType.boolean)) rm_X8_isLeased).room s m args below meth c H locs cells slots (MQ below (va_Qi post (fun w t => Rp κ w y X [] t.heap) (Af κ)) args s 1 4 (Af κ)) (F0 m 63 ls [])) :
    ∀ (f : Nat) (w : Wd) (c3 : Nat) (z3 : Int32) (H : Heap) (locs : List Loc) (ls : Array Slot) (cells slots : Nat)  (hc3 : c3 ≤ mL y), sp_X8_isLeased_8 κ y post ex v1 v2 f w c3 z3 → Rp κ w y X [(q3, itC y 54 0 c3 z3)] H → va_S (Af κ) s.heap H locs → lv_has ls 5 [(1, .int (v1)), (2, .int (v2)), (3, .ref (q3))] → cells + f * 0 ≤ C1 → slots + f * 0 ≤ S1 → W p l e (headSpec (ws_ yX8_isLeased cX8_isLeased 5 (Option.some Jvm.ClassFile.FieldType.boolean)) rm_X8_isLeased).room s m args below meth c H locs cells slots (MQ below (va_Qi post (fun w t => Rp κ w y X [] t.heap) (Af κ)) args s 1 4 (Af κ)) (F0 m 8 ls []) := by
  intro f
  induction f with
  | zero =>
    intro w c3 z3 H locs ls cells slots hc3 h
    exact False.elim h
  | succ f ih =>
    intro w c3 z3 H locs ls cells slots hc3 h hR hS hl hc hs
    have h : st_X8_isLeased_8 κ y post ex (sp_X8_isLeased_8 κ y post ex v1 v2 f) v1 v2 w c3 z3 := h
    unfold st_X8_isLeased_8 at h
    refine lv_aload_n hx hb dX8_isLeased_8 rfl (lv_at hl 2 rfl) ?_
    refine jr_hasNext (t := 0) ⟨hx, hb, hml, hown, hts⟩ hK hR rfl ⟨fun _ _ _ _ _ => rfl, fun _ _ _ _ _ => rfl⟩ hM.lsL (by omega) (Nat.le_trans hM.mL8 (by decide)) q2250 ⟨Nat.le_of_ble_eq_true rfl, Nat.le_of_ble_eq_true rfl⟩ hl.1 (Nat.le_of_ble_eq_true rfl) dX8_isLeased_9 ⟨(Nat.le_trans (show cells + 0 ≤ C1 from by omega) hC), (Nat.le_trans (show slots + 0 ≤ S1 from by omega) hSl)⟩ ?_
    refine lv_if_eq (tgt := 63) hx hb dX8_isLeased_14 (by decide) (fun c_14 => ?_) (fun c_14 => ?_)
    · replace c_14 : ¬ (¬ c3 = mL y) := bi_0.mp c_14
      have h := h.1 c_14
      have hR := hR.sub (L' := []) [] rfl rfl
      exact kx w  _ _ _ _ _ h hR hS (lv_sub hl [] rfl) (by omega) (by omega)
    · replace c_14 : (¬ c3 = mL y) := bi_n0.mp c_14
      have h := h.2 c_14
      refine lv_aload_n hx hb dX8_isLeased_17 rfl (lv_at hl 2 rfl) ?_
      have hn_18 : c3 < mL y := by omega
      refine jr_next (t := 0) (a := y.2 27 c3) ⟨hx, hb, hml, hown, hts⟩ hK hR hS rfl ⟨fun _ _ _ _ _ => rfl, fun _ _ _ _ _ => rfl⟩ hM.lsL ⟨hM.arL (Nat.lt_of_le_of_lt (Nat.zero_le _) hn_18), (Nat.le_trans hM.mL8 (by decide))⟩ hn_18 (hM.elL hn_18) q2252 ⟨Nat.le_of_ble_eq_true rfl, Nat.le_of_ble_eq_true rfl⟩ hl.1 (Nat.le_of_ble_eq_true rfl) dX8_isLeased_18 ⟨(Nat.le_trans (show cells + 0 ≤ C1 from by omega) hC), (Nat.le_trans (show slots + 0 ≤ S1 from by omega) hSl)⟩ (fun H locs hR hS => ?_)
      have hR : Rp κ w y X [(q3, itC y 54 0 (c3 + 1) (nI c3))] H := hR
      refine jr_castS (ci := 14) hx hb hown hK hts (hR.role (hM.lot hn_18)) rfl q2253 dX8_isLeased_23 ?_
      refine lv_astore (lv' := [(4, .ref (y.2 27 c3)), (1, .int (v1)), (2, .int (v2)), (3, .ref (q3))]) hx hb dX8_isLeased_26 hl (by decide) rfl (fun ls hl => ?_)
      refine lv_aload hx hb dX8_isLeased_28 (lv_at hl 0 rfl) ?_
      refine g27_4 hx hb hts hown hK hR (hM.lot hn_18) q2264 dX8_isLeased_30 ?_
      refine lv_iconst (v := (1 : Int32)) hx hb dX8_isLeased_33 (by decide) ?_
      refine lv_icmp_ne (tgt := 60) hx hb dX8_isLeased_34 (by decide) (fun c_34 => ?_) (fun c_34 => ?_)
      · have h := h.1 c_34
        refine lv_goto (tgt := 8) hx hb dX8_isLeased_60 (by decide) ?_
        exact ih w (c3 + 1) (nI c3) _ _ _ _ _ (by omega) h hR hS (lv_sub hl [1, 2, 3] rfl) (by omega) (by omega)
      · have h := h.2 c_34
        refine lv_aload hx hb dX8_isLeased_37 (lv_at hl 0 rfl) ?_
        refine g27_0 hx hb hts hown hK hR (hM.lot hn_18) q2259 dX8_isLeased_39 ?_
        refine lv_iload_n hx hb dX8_isLeased_42 rfl (lv_at hl 1 rfl) ?_
        refine lv_icmp_ne (tgt := 60) hx hb dX8_isLeased_43 (by decide) (fun c_43 => ?_) (fun c_43 => ?_)
        · have h := h.1 c_43
          refine lv_goto (tgt := 8) hx hb dX8_isLeased_60 (by decide) ?_
          exact ih w (c3 + 1) (nI c3) _ _ _ _ _ (by omega) h hR hS (lv_sub hl [1, 2, 3] rfl) (by omega) (by omega)
        · have h := h.2 c_43
          refine lv_aload hx hb dX8_isLeased_46 (lv_at hl 0 rfl) ?_
          refine g27_1 hx hb hts hown hK hR (hM.lot hn_18) q2260 dX8_isLeased_48 ?_
          refine lv_iload_n hx hb dX8_isLeased_51 rfl (lv_at hl 2 rfl) ?_
          refine ce_qi (fw := fun u => u) (fy := fun _ => y) (cr_S (n := 2) (As := [.int (gv w 27 c3 1), .int (v2)]) (rest := []) ⟨hx, hb, hml, hown, hts⟩ hK hR (m_X8_has hM h) q2102 q2103 q85 q2104 rfl rfl hds_X8_has ⟨Nat.le_of_ble_eq_true rfl, Nat.le_of_ble_eq_true rfl⟩ rfl rfl hl.1 rfl (lv_room (Nat.le_of_ble_eq_true rfl)) dX8_isLeased_52 ⟨(Nat.le_trans (show cells + 0 ≤ C1 from by omega) hC), (Nat.le_trans (show slots + 0 ≤ S1 from by omega) hSl)⟩) hR hS (fun r_52 w_52 H locs h hR _ hS => ?_)
          refine lv_if_eq (tgt := 60) hx hb dX8_isLeased_55 (by decide) (fun c_55 => ?_) (fun c_55 => ?_)
          · have h := h.1 c_55
            refine lv_goto (tgt := 8) hx hb dX8_isLeased_60 (by decide) ?_
            exact ih w_52 (c3 + 1) (nI c3) _ _ _ _ _ (by omega) h hR hS (lv_sub hl [1, 2, 3] rfl) (by omega) (by omega)
          · have h := h.2 c_55
            refine lv_iconst (v := (1 : Int32)) hx hb dX8_isLeased_58 (by decide) ?_
            have hR := hR.sub (L' := []) [] rfl rfl
            refine W.widen (k := 1) (n := 4) (Nat.le_trans (show cells ≤ C1 from by omega) hC) (Nat.le_trans (show slots ≤ S1 from by omega) hSl) ?_
            exact W.zret (v := (1 : Int32)) hx hb hr nbo_1.n (fun t ht hW9 => ⟨⟨(1 : Int32), w_52, rfl, h, rpt ht hR⟩, hS.F ht⟩) hS.2.2 dX8_isLeased_59
def sp_X8_isLeased (κ : Kx) (y : Ly) (post : Int32 → Wd → Prop) (w : Wd) (p1 : Int32) (p2 : Int32) : Prop := sp_X8_isLeased_8 κ y post (fun w_8  => post ((0 : Int32)) w_8) p1 p2 9 w 0 (-1)
theorem hd_X8_isLeased : yX8_isLeased.cls = RX8 ∧ yX8_isLeased.cls ≠ "java/lang/invoke/MethodHandle" ∧ yX8_isLeased.cls ≠ "java/lang/invoke/VarHandle" ∧ (parseMethodDescriptor yX8_isLeased.desc).map (fun d => d.parameters.length) = some 2 := by decide +kernel
set_option maxHeartbeats 4000000 in
theorem m_X8_isLeased {l : Launch} {κ : Kx} {y : Ly} {X : XR} {post : Int32 → Wd → Prop} {w : Wd} {p1 : Int32} {p2 : Int32}  (hM : WFm κ y) (l0 : live y 20 0) (h : sp_X8_isLeased κ y post w p1 p2) : Met l yX8_isLeased (ws_ yX8_isLeased cX8_isLeased 5 (Option.some Jvm.ClassFile.FieldType.boolean)) rm_X8_isLeased (va_Pc [.ref (y.2 20 0), .int (p1), .int (p2)] (RC κ w y X)) (va_Qi post (fun w t => Rp κ w y X [] t.heap) (Af κ)) 1 4 (Af κ) := by
  unfold sp_X8_isLeased at h
  refine Met.ofW (cc := cX8_isLeased) (maxL := 5) (ret := (Option.some Jvm.ClassFile.FieldType.boolean)) (by decide) rfl ?_
  intro p e s m args below meth c s₁ B hml hv
  obtain ⟨rfl, hR, hK⟩ := hv
  have hx := B.exec
  have hb := B.bytes
  have hr := B.returns
  have hts := atoms_spec (ws := ws_ yX8_isLeased cX8_isLeased 5 (Option.some Jvm.ClassFile.FieldType.boolean)) B.pre
  have hts : ∀ w ∈ lw_all, w.before _ s = true := fun w h => hts w (List.mem_cons_of_mem _ h)
  have hown : s.vm.findClass RX8 = some m.cls := findClass_of_methodNamed B.named
  have hlocks := B.notSynchronized
  have hS : va_S (Af κ) s.heap s.heap [] := va_S.rf
  have hl := lv_entry ([.ref (y.2 20 0), .int (p1), .int (p2)]) (n := 5) (Nat.le_of_ble_eq_true rfl)
  rw [lg_entry_eq]
  generalize (lg_sl ([.ref (y.2 20 0), .int (p1), .int (p2)]) ++ List.replicate (5 - (lg_sl ([.ref (y.2 20 0), .int (p1), .int (p2)])).length) Slot.unset).toArray = ls at hl ⊢
  have hl : lv_has ls 5 [(0, .ref (y.2 20 0)), (1, .int (p1)), (2, .int (p2))] := hl
  refine lv_aload_n hx hb dX8_isLeased_0 rfl (lv_at hl 0 rfl) ?_
  refine g20_5 hx hb hts hown hK hR l0 q1950 dX8_isLeased_1 ?_
  refine jr_iter ⟨hx, hb, hml, hown, hts⟩ hK hR hS ⟨fun _ _ _ _ _ => rfl, fun _ _ _ _ _ => rfl⟩ hM.lsL q2248 ⟨Nat.le_of_ble_eq_true rfl, Nat.le_of_ble_eq_true rfl⟩ hl.1 (Nat.le_of_ble_eq_true rfl) dX8_isLeased_4 ⟨(Nat.le_of_ble_eq_true rfl), (Nat.le_of_ble_eq_true rfl)⟩ (fun q_4 H locs hR hS => ?_)
  have hR : Rp κ w y X [(q_4, itC y 54 0 0 (-1))] H := hR
  refine lv_astore_n (lv' := [(3, .ref (q_4)), (0, .ref (y.2 20 0)), (1, .int (p1)), (2, .int (p2))]) hx hb dX8_isLeased_7 rfl hl (by decide) rfl (fun ls hl => ?_)
  refine lp_X8_isLeased_8 (C1 := 1) (S1 := 4) hx hb hr hml hown hts hlocks hK hM  (Nat.le_of_ble_eq_true rfl) (Nat.le_of_ble_eq_true rfl) (fun w_8  H locs ls cells9 slots9 h hR hS hl hc9 hs9 => ?_) 9 w 0 (-1) _ _ _ _ _ (by omega) h hR hS (lv_sub hl [2, 3, 0] rfl) (by omega) (by omega)
  refine W.widen (k := 1) (n := 4) hc9 hs9 ?_
  refine lv_iconst (v := (0 : Int32)) hx hb dX8_isLeased_63 (by decide) ?_
  refine W.widen (k := 1) (n := 4) (Nat.le_of_ble_eq_true rfl) (Nat.le_of_ble_eq_true rfl) ?_
  exact W.zret (v := (0 : Int32)) hx hb hr nbo_0.n (fun t ht hW9 => ⟨⟨(0 : Int32), w_8, rfl, h, rpt ht hR⟩, hS.F ht⟩) hS.2.2 dX8_isLeased_64
abbrev rm_X8_live : Room := { frames := 2, cells := 0, slots := 0, locals := 45 }
def sp_X8_live (κ : Kx) (y : Ly) (post : Wd → Prop) (w : Wd) (a1 : Nat) : Prop := ∀ x_13 : Int32, x_13 = jmax (0 : Int32) ((gv w 21 a1 0) - (gv w 21 a1 4)) → ∀ w_28 : Wd, w_28 = sv w 21 a1 4 (jmax (0 : Int32) ((gv w 21 a1 4) - (gv w 21 a1 0))) → ∀ x_41 : Int32, x_41 = jmin x_13 ((gv w_28 21 a1 5) / (3 : Int32)) → ∀ w_51 : Wd, w_51 = sv w_28 21 a1 5 ((gv w_28 21 a1 5) - ((3 : Int32) * x_41)) → ∀ w_63 : Wd, w_63 = sv w_51 20 0 15 ((gv w_51 20 0 15) + ((3 : Int32) * x_41)) → ∀ w_77 : Wd, w_77 = sv w_63 21 a1 6 ((gv w_63 21 a1 6) + ((4 : Int32) * (x_13 - x_41))) → ((gv w_77 21 a1 6 ≤ (12 : Int32) * (gv w_77 21 a1 0)) → (sp_X11_anger κ y (fun w_157 => ((gv w_157 21 a1 7 < (12 : Int32)) → ((((5 : Int32) ≤ gv w_157 21 a1 7) → (post w_157)) ∧ ((¬ ((5 : Int32) ≤ gv w_157 21 a1 7)) → (∀ w_184 : Wd, w_184 = sv w_157 21 a1 10 ((0 : Int32)) → post w_184)))) ∧ ((¬ (gv w_157 21 a1 7 < (12 : Int32))) → (∀ w_171 : Wd, w_171 = sv w_157 21 a1 10 ((1 : Int32)) → (((5 : Int32) ≤ gv w_171 21 a1 7) → (post w_171)) ∧ ((¬ ((5 : Int32) ≤ gv w_171 21 a1 7)) → (∀ w_184_a : Wd, w_184_a = sv w_171 21 a1 10 ((0 : Int32)) → post w_184_a))))) w_77 a1 (-1 : Int32))) ∧ ((¬ (gv w_77 21 a1 6 ≤ (12 : Int32) * (gv w_77 21 a1 0))) → (∀ x_113 : Int32, x_113 = jmin ((gv w_77 21 a1 0) - (1 : Int32)) (jmax (1 : Int32) ((gv w_77 21 a1 0) / (5 : Int32))) → ∀ w_123 : Wd, w_123 = sv w_77 21 a1 0 ((gv w_77 21 a1 0) - x_113) → ∀ w_134 : Wd, w_134 = sv w_123 21 a1 13 ((gv w_123 21 a1 13) + x_113) → ∀ w_144 : Wd, w_144 = sv w_134 21 a1 6 ((gv w_134 21 a1 6) / (2 : Int32)) → sp_X11_anger κ y (fun w_149 => ((gv w_149 21 a1 7 < (12 : Int32)) → ((((5 : Int32) ≤ gv w_149 21 a1 7) → (post w_149)) ∧ ((¬ ((5 : Int32) ≤ gv w_149 21 a1 7)) → (∀ w_184_b : Wd, w_184_b = sv w_149 21 a1 10 ((0 : Int32)) → post w_184_b)))) ∧ ((¬ (gv w_149 21 a1 7 < (12 : Int32))) → (∀ w_171_a : Wd, w_171_a = sv w_149 21 a1 10 ((1 : Int32)) → (((5 : Int32) ≤ gv w_171_a 21 a1 7) → (post w_171_a)) ∧ ((¬ ((5 : Int32) ≤ gv w_171_a 21 a1 7)) → (∀ w_184_c : Wd, w_184_c = sv w_171_a 21 a1 10 ((0 : Int32)) → post w_184_c))))) w_144 a1 (2 : Int32)))
theorem hd_X8_live : yX8_live.cls = RX8 ∧ yX8_live.cls ≠ "java/lang/invoke/MethodHandle" ∧ yX8_live.cls ≠ "java/lang/invoke/VarHandle" ∧ (parseMethodDescriptor yX8_live.desc).map (fun d => d.parameters.length) = some 1 := by decide +kernel
set_option maxHeartbeats 4000000 in
theorem m_X8_live {l : Launch} {κ : Kx} {y : Ly} {X : XR} {post : Wd → Prop} {w : Wd} {a1 : Nat}  (hM : WFm κ y) (l0 : live y 20 0) (l1 : live y 21 a1) (h : sp_X8_live κ y post w a1) : Met l yX8_live (ws_ yX8_live cX8_live 5 (Option.none : Option Jvm.ClassFile.FieldType)) rm_X8_live (va_Pc [.ref (y.2 20 0), .ref (y.2 21 a1)] (RC κ w y X)) (va_Qv post (fun w t => Rp κ w y X [] t.heap) (Af κ)) 0 0 (Af κ) := by
  unfold sp_X8_live at h
  refine Met.ofW (cc := cX8_live) (maxL := 5) (ret := (Option.none : Option Jvm.ClassFile.FieldType)) (by decide) rfl ?_
  intro p e s m args below meth c s₁ B hml hv
  obtain ⟨rfl, hR, hK⟩ := hv
  have hx := B.exec
  have hb := B.bytes
  have hr := B.returns
  have hts := atoms_spec (ws := ws_ yX8_live cX8_live 5 (Option.none : Option Jvm.ClassFile.FieldType)) B.pre
  have hts : ∀ w ∈ lw_all, w.before _ s = true := fun w h => hts w (List.mem_cons_of_mem _ h)
  have hown : s.vm.findClass RX8 = some m.cls := findClass_of_methodNamed B.named
  have hlocks := B.notSynchronized
  have hS : va_S (Af κ) s.heap s.heap [] := va_S.rf
  have hl := lv_entry ([.ref (y.2 20 0), .ref (y.2 21 a1)]) (n := 5) (Nat.le_of_ble_eq_true rfl)
  rw [lg_entry_eq]
  generalize (lg_sl ([.ref (y.2 20 0), .ref (y.2 21 a1)]) ++ List.replicate (5 - (lg_sl ([.ref (y.2 20 0), .ref (y.2 21 a1)])).length) Slot.unset).toArray = ls at hl ⊢
  have hl : lv_has ls 5 [(0, .ref (y.2 20 0)), (1, .ref (y.2 21 a1))] := hl
  refine lv_iconst (v := (0 : Int32)) hx hb dX8_live_0 (by decide) ?_
  refine lv_aload_n hx hb dX8_live_1 rfl (lv_at hl 1 rfl) ?_
  refine g21_0 hx hb hts hown hK hR l1 q2040 dX8_live_2 ?_
  refine lv_aload_n hx hb dX8_live_5 rfl (lv_at hl 1 rfl) ?_
  refine g21_4 hx hb hts hown hK hR l1 q2044 dX8_live_6 ?_
  refine lv_isub hx hb dX8_live_9 ?_
  refine va_mmax hx hb (hml.trans hl.1.symm) hown (hts _ q2323) (hts _ q642) (hts _ q95) (hts _ q643) (Nat.le_of_ble_eq_true rfl) (Nat.le_of_ble_eq_true rfl) (Nat.le_of_ble_eq_true rfl) (Nat.le_of_ble_eq_true rfl) dX8_live_10 ?_
  refine lv_topi (fun x_13 ex_13 => ?_)
  have h := h x_13 ex_13
  refine lv_istore_n (lv' := [(2, .int (x_13)), (0, .ref (y.2 20 0)), (1, .ref (y.2 21 a1))]) hx hb dX8_live_13 rfl hl (by decide) rfl (fun ls hl => ?_)
  refine lv_aload_n hx hb dX8_live_14 rfl (lv_at hl 2 rfl) ?_
  refine lv_iconst (v := (0 : Int32)) hx hb dX8_live_15 (by decide) ?_
  refine lv_aload_n hx hb dX8_live_16 rfl (lv_at hl 2 rfl) ?_
  refine g21_4 hx hb hts hown hK hR l1 q2044 dX8_live_17 ?_
  refine lv_aload_n hx hb dX8_live_20 rfl (lv_at hl 2 rfl) ?_
  refine g21_0 hx hb hts hown hK hR l1 q2040 dX8_live_21 ?_
  refine lv_isub hx hb dX8_live_24 ?_
  refine va_mmax hx hb (hml.trans hl.1.symm) hown (hts _ q2323) (hts _ q642) (hts _ q95) (hts _ q643) (Nat.le_of_ble_eq_true rfl) (Nat.le_of_ble_eq_true rfl) (Nat.le_of_ble_eq_true rfl) (Nat.le_of_ble_eq_true rfl) dX8_live_25 ?_
  refine p21_4 hx hb hts hown hK hR hS l1 q2044 dX8_live_28 (fun H locs w_28 ew_28 hR hS => ?_)
  have h := h w_28 ew_28
  refine lv_iload_n hx hb dX8_live_31 rfl (lv_at hl 0 rfl) ?_
  refine lv_aload_n hx hb dX8_live_32 rfl (lv_at hl 2 rfl) ?_
  refine g21_5 hx hb hts hown hK hR l1 q2045 dX8_live_33 ?_
  refine lv_iconst (v := (3 : Int32)) hx hb dX8_live_36 (by decide) ?_
  refine lv_idiv hx hb dX8_live_37 (by decide) ?_
  refine va_mmin hx hb (hml.trans hl.1.symm) hown (hts _ q2113) (hts _ q322) (hts _ q95) (hts _ q323) (Nat.le_of_ble_eq_true rfl) (Nat.le_of_ble_eq_true rfl) (Nat.le_of_ble_eq_true rfl) (Nat.le_of_ble_eq_true rfl) dX8_live_38 ?_
  refine lv_topi (fun x_41 ex_41 => ?_)
  have h := h x_41 ex_41
  refine lv_istore_n (lv' := [(3, .int (x_41)), (2, .int (x_13)), (0, .ref (y.2 20 0)), (1, .ref (y.2 21 a1))]) hx hb dX8_live_41 rfl hl (by decide) rfl (fun ls hl => ?_)
  refine lv_aload_n hx hb dX8_live_42 rfl (lv_at hl 3 rfl) ?_
  refine lv_dup hx hb dX8_live_43 rfl ?_
  refine g21_5 hx hb hts hown hK hR l1 q2045 dX8_live_44 ?_
  refine lv_iconst (v := (3 : Int32)) hx hb dX8_live_47 (by decide) ?_
  refine lv_iload_n hx hb dX8_live_48 rfl (lv_at hl 0 rfl) ?_
  refine lv_imul hx hb dX8_live_49 ?_
  refine lv_isub hx hb dX8_live_50 ?_
  refine p21_5 hx hb hts hown hK hR hS l1 q2045 dX8_live_51 (fun H locs w_51 ew_51 hR hS => ?_)
  have h := h w_51 ew_51
  refine lv_aload_n hx hb dX8_live_54 rfl (lv_at hl 2 rfl) ?_
  refine lv_dup hx hb dX8_live_55 rfl ?_
  refine g20_15 hx hb hts hown hK hR l0 q1960 dX8_live_56 ?_
  refine lv_iconst (v := (3 : Int32)) hx hb dX8_live_59 (by decide) ?_
  refine lv_iload_n hx hb dX8_live_60 rfl (lv_at hl 0 rfl) ?_
  refine lv_imul hx hb dX8_live_61 ?_
  refine lv_iadd hx hb dX8_live_62 ?_
  refine p20_15 hx hb hts hown hK hR hS l0 q1960 dX8_live_63 (fun H locs w_63 ew_63 hR hS => ?_)
  have h := h w_63 ew_63
  refine lv_aload_n hx hb dX8_live_66 rfl (lv_at hl 3 rfl) ?_
  refine lv_dup hx hb dX8_live_67 rfl ?_
  refine g21_6 hx hb hts hown hK hR l1 q2046 dX8_live_68 ?_
  refine lv_iconst (v := (4 : Int32)) hx hb dX8_live_71 (by decide) ?_
  refine lv_iload_n hx hb dX8_live_72 rfl (lv_at hl 1 rfl) ?_
  refine lv_iload_n hx hb dX8_live_73 rfl (lv_at hl 0 rfl) ?_
  refine lv_isub hx hb dX8_live_74 ?_
  refine lv_imul hx hb dX8_live_75 ?_
  refine lv_iadd hx hb dX8_live_76 ?_
  refine p21_6 hx hb hts hown hK hR hS l1 q2046 dX8_live_77 (fun H locs w_77 ew_77 hR hS => ?_)
  have h := h w_77 ew_77
  refine lv_aload_n hx hb dX8_live_80 rfl (lv_at hl 3 rfl) ?_
  refine g21_6 hx hb hts hown hK hR l1 q2046 dX8_live_81 ?_
  refine lv_bipush (v := (12 : Int32)) hx hb dX8_live_84 (by decide) ?_
  refine lv_aload_n hx hb dX8_live_86 rfl (lv_at hl 3 rfl) ?_
  refine g21_0 hx hb hts hown hK hR l1 q2040 dX8_live_87 ?_
  refine lv_imul hx hb dX8_live_90 ?_
  refine lv_icmp_le (tgt := 155) hx hb dX8_live_91 (by decide) (fun c_91 => ?_) (fun c_91 => ?_)
  · have h := h.1 c_91
    refine lv_aload_n hx hb dX8_live_155 rfl (lv_at hl 3 rfl) ?_
    refine lv_iconst (v := (-1 : Int32)) hx hb dX8_live_156 (by decide) ?_
    refine ce_qv (fw := fun u => u) (fy := fun _ => y) (cr_V (n := 1) (As := [.int ((-1 : Int32))]) (rest := []) ⟨hx, hb, hml, hown, hts⟩ hK hR (m_X11_anger hM l1 h) q2367 q2368 q2369 q99 q2370 rfl rfl hd_X11_anger ⟨Nat.le_of_ble_eq_true rfl, Nat.le_of_ble_eq_true rfl⟩ (rv hK hR l1 (ci := 12) rfl rfl) rfl rfl hl.1 rfl (lv_room (Nat.le_of_ble_eq_true rfl)) dX8_live_157 ⟨(Nat.le_of_ble_eq_true rfl), (Nat.le_of_ble_eq_true rfl)⟩) hR hS (fun w_157 H locs h hR _ hS => ?_)
    refine lv_aload_n hx hb dX8_live_160 rfl (lv_at hl 3 rfl) ?_
    refine g21_7 hx hb hts hown hK hR l1 q2048 dX8_live_161 ?_
    refine lv_bipush (v := (12 : Int32)) hx hb dX8_live_164 (by decide) ?_
    refine lv_icmp_lt (tgt := 174) hx hb dX8_live_166 (by decide) (fun c_166 => ?_) (fun c_166 => ?_)
    · have h := h.1 c_166
      refine lv_aload_n hx hb dX8_live_174 rfl (lv_at hl 3 rfl) ?_
      refine g21_7 hx hb hts hown hK hR l1 q2048 dX8_live_175 ?_
      refine lv_iconst (v := (5 : Int32)) hx hb dX8_live_178 (by decide) ?_
      refine lv_icmp_ge (tgt := 187) hx hb dX8_live_179 (by decide) (fun c_179 => ?_) (fun c_179 => ?_)
      · have h := h.1 c_179
        refine W.widen (k := 0) (n := 0) (Nat.le_of_ble_eq_true rfl) (Nat.le_of_ble_eq_true rfl) ?_
        exact W.vret hx hb hr (fun t ht hW9 => ⟨⟨w_157, rfl, h, rpt ht hR⟩, hS.F ht⟩) hS.2.2 dX8_live_187
      · have h := h.2 c_179
        refine lv_aload_n hx hb dX8_live_182 rfl (lv_at hl 3 rfl) ?_
        refine lv_iconst (v := (0 : Int32)) hx hb dX8_live_183 (by decide) ?_
        refine p21_10 hx hb hts hown hK hR hS l1 nbo_0 q2051 dX8_live_184 (fun H locs w_184 ew_184 hR hS => ?_)
        have h := h w_184 ew_184
        refine W.widen (k := 0) (n := 0) (Nat.le_of_ble_eq_true rfl) (Nat.le_of_ble_eq_true rfl) ?_
        exact W.vret hx hb hr (fun t ht hW9 => ⟨⟨w_184, rfl, h, rpt ht hR⟩, hS.F ht⟩) hS.2.2 dX8_live_187
    · have h := h.2 c_166
      refine lv_aload_n hx hb dX8_live_169 rfl (lv_at hl 3 rfl) ?_
      refine lv_iconst (v := (1 : Int32)) hx hb dX8_live_170 (by decide) ?_
      refine p21_10 hx hb hts hown hK hR hS l1 nbo_1 q2051 dX8_live_171 (fun H locs w_171 ew_171 hR hS => ?_)
      have h := h w_171 ew_171
      refine lv_aload_n hx hb dX8_live_174 rfl (lv_at hl 3 rfl) ?_
      refine g21_7 hx hb hts hown hK hR l1 q2048 dX8_live_175 ?_
      refine lv_iconst (v := (5 : Int32)) hx hb dX8_live_178 (by decide) ?_
      refine lv_icmp_ge (tgt := 187) hx hb dX8_live_179 (by decide) (fun c_179_a => ?_) (fun c_179_a => ?_)
      · have h := h.1 c_179_a
        refine W.widen (k := 0) (n := 0) (Nat.le_of_ble_eq_true rfl) (Nat.le_of_ble_eq_true rfl) ?_
        exact W.vret hx hb hr (fun t ht hW9 => ⟨⟨w_171, rfl, h, rpt ht hR⟩, hS.F ht⟩) hS.2.2 dX8_live_187
      · have h := h.2 c_179_a
        refine lv_aload_n hx hb dX8_live_182 rfl (lv_at hl 3 rfl) ?_
        refine lv_iconst (v := (0 : Int32)) hx hb dX8_live_183 (by decide) ?_
        refine p21_10 hx hb hts hown hK hR hS l1 nbo_0 q2051 dX8_live_184 (fun H locs w_184_a ew_184_a hR hS => ?_)
        have h := h w_184_a ew_184_a
        refine W.widen (k := 0) (n := 0) (Nat.le_of_ble_eq_true rfl) (Nat.le_of_ble_eq_true rfl) ?_
        exact W.vret hx hb hr (fun t ht hW9 => ⟨⟨w_184_a, rfl, h, rpt ht hR⟩, hS.F ht⟩) hS.2.2 dX8_live_187
  · have h := h.2 c_91
    refine lv_aload_n hx hb dX8_live_94 rfl (lv_at hl 3 rfl) ?_
    refine g21_0 hx hb hts hown hK hR l1 q2040 dX8_live_95 ?_
    refine lv_iconst (v := (1 : Int32)) hx hb dX8_live_98 (by decide) ?_
    refine lv_isub hx hb dX8_live_99 ?_
    refine lv_iconst (v := (1 : Int32)) hx hb dX8_live_100 (by decide) ?_
    refine lv_aload_n hx hb dX8_live_101 rfl (lv_at hl 3 rfl) ?_
    refine g21_0 hx hb hts hown hK hR l1 q2040 dX8_live_102 ?_
    refine lv_iconst (v := (5 : Int32)) hx hb dX8_live_105 (by decide) ?_
    refine lv_idiv hx hb dX8_live_106 (by decide) ?_
    refine va_mmax hx hb (hml.trans hl.1.symm) hown (hts _ q2323) (hts _ q642) (hts _ q95) (hts _ q643) (Nat.le_of_ble_eq_true rfl) (Nat.le_of_ble_eq_true rfl) (Nat.le_of_ble_eq_true rfl) (Nat.le_of_ble_eq_true rfl) dX8_live_107 ?_
    refine va_mmin hx hb (hml.trans hl.1.symm) hown (hts _ q2113) (hts _ q322) (hts _ q95) (hts _ q323) (Nat.le_of_ble_eq_true rfl) (Nat.le_of_ble_eq_true rfl) (Nat.le_of_ble_eq_true rfl) (Nat.le_of_ble_eq_true rfl) dX8_live_110 ?_
    refine lv_topi (fun x_113 ex_113 => ?_)
    have h := h x_113 ex_113
    refine lv_istore (lv' := [(4, .int (x_113)), (3, .int (x_41)), (2, .int (x_13)), (0, .ref (y.2 20 0)), (1, .ref (y.2 21 a1))]) hx hb dX8_live_113 hl (by decide) rfl (fun ls hl => ?_)
    refine lv_aload_n hx hb dX8_live_115 rfl (lv_at hl 4 rfl) ?_
    refine lv_dup hx hb dX8_live_116 rfl ?_
    refine g21_0 hx hb hts hown hK hR l1 q2040 dX8_live_117 ?_
    refine lv_iload hx hb dX8_live_120 (lv_at hl 0 rfl) ?_
    refine lv_isub hx hb dX8_live_122 ?_
    refine p21_0 hx hb hts hown hK hR hS l1 q2040 dX8_live_123 (fun H locs w_123 ew_123 hR hS => ?_)
    have h := h w_123 ew_123
    refine lv_aload_n hx hb dX8_live_126 rfl (lv_at hl 4 rfl) ?_
    refine lv_dup hx hb dX8_live_127 rfl ?_
    refine g21_13 hx hb hts hown hK hR l1 q2054 dX8_live_128 ?_
    refine lv_iload hx hb dX8_live_131 (lv_at hl 0 rfl) ?_
    refine lv_iadd hx hb dX8_live_133 ?_
    refine p21_13 hx hb hts hown hK hR hS l1 q2054 dX8_live_134 (fun H locs w_134 ew_134 hR hS => ?_)
    have h := h w_134 ew_134
    refine lv_aload_n hx hb dX8_live_137 rfl (lv_at hl 4 rfl) ?_
    refine lv_dup hx hb dX8_live_138 rfl ?_
    refine g21_6 hx hb hts hown hK hR l1 q2046 dX8_live_139 ?_
    refine lv_iconst (v := (2 : Int32)) hx hb dX8_live_142 (by decide) ?_
    refine lv_idiv hx hb dX8_live_143 (by decide) ?_
    refine p21_6 hx hb hts hown hK hR hS l1 q2046 dX8_live_144 (fun H locs w_144 ew_144 hR hS => ?_)
    have h := h w_144 ew_144
    refine lv_aload_n hx hb dX8_live_147 rfl (lv_at hl 4 rfl) ?_
    refine lv_iconst (v := (2 : Int32)) hx hb dX8_live_148 (by decide) ?_
    refine ce_qv (fw := fun u => u) (fy := fun _ => y) (cr_V (n := 1) (As := [.int ((2 : Int32))]) (rest := []) ⟨hx, hb, hml, hown, hts⟩ hK hR (m_X11_anger hM l1 h) q2367 q2368 q2369 q99 q2370 rfl rfl hd_X11_anger ⟨Nat.le_of_ble_eq_true rfl, Nat.le_of_ble_eq_true rfl⟩ (rv hK hR l1 (ci := 12) rfl rfl) rfl rfl hl.1 rfl (lv_room (Nat.le_of_ble_eq_true rfl)) dX8_live_149 ⟨(Nat.le_of_ble_eq_true rfl), (Nat.le_of_ble_eq_true rfl)⟩) hR hS (fun w_149 H locs h hR _ hS => ?_)
    refine lv_goto (tgt := 160) hx hb dX8_live_152 (by decide) ?_
    refine lv_aload_n hx hb dX8_live_160 rfl (lv_at hl 4 rfl) ?_
    refine g21_7 hx hb hts hown hK hR l1 q2048 dX8_live_161 ?_
    refine lv_bipush (v := (12 : Int32)) hx hb dX8_live_164 (by decide) ?_
    refine lv_icmp_lt (tgt := 174) hx hb dX8_live_166 (by decide) (fun c_166_a => ?_) (fun c_166_a => ?_)
    · have h := h.1 c_166_a
      refine lv_aload_n hx hb dX8_live_174 rfl (lv_at hl 4 rfl) ?_
      refine g21_7 hx hb hts hown hK hR l1 q2048 dX8_live_175 ?_
      refine lv_iconst (v := (5 : Int32)) hx hb dX8_live_178 (by decide) ?_
      refine lv_icmp_ge (tgt := 187) hx hb dX8_live_179 (by decide) (fun c_179_b => ?_) (fun c_179_b => ?_)
      · have h := h.1 c_179_b
        refine W.widen (k := 0) (n := 0) (Nat.le_of_ble_eq_true rfl) (Nat.le_of_ble_eq_true rfl) ?_
        exact W.vret hx hb hr (fun t ht hW9 => ⟨⟨w_149, rfl, h, rpt ht hR⟩, hS.F ht⟩) hS.2.2 dX8_live_187
      · have h := h.2 c_179_b
        refine lv_aload_n hx hb dX8_live_182 rfl (lv_at hl 4 rfl) ?_
        refine lv_iconst (v := (0 : Int32)) hx hb dX8_live_183 (by decide) ?_
        refine p21_10 hx hb hts hown hK hR hS l1 nbo_0 q2051 dX8_live_184 (fun H locs w_184_b ew_184_b hR hS => ?_)
        have h := h w_184_b ew_184_b
        refine W.widen (k := 0) (n := 0) (Nat.le_of_ble_eq_true rfl) (Nat.le_of_ble_eq_true rfl) ?_
        exact W.vret hx hb hr (fun t ht hW9 => ⟨⟨w_184_b, rfl, h, rpt ht hR⟩, hS.F ht⟩) hS.2.2 dX8_live_187
    · have h := h.2 c_166_a
      refine lv_aload_n hx hb dX8_live_169 rfl (lv_at hl 4 rfl) ?_
      refine lv_iconst (v := (1 : Int32)) hx hb dX8_live_170 (by decide) ?_
      refine p21_10 hx hb hts hown hK hR hS l1 nbo_1 q2051 dX8_live_171 (fun H locs w_171_a ew_171_a hR hS => ?_)
      have h := h w_171_a ew_171_a
      refine lv_aload_n hx hb dX8_live_174 rfl (lv_at hl 4 rfl) ?_
      refine g21_7 hx hb hts hown hK hR l1 q2048 dX8_live_175 ?_
      refine lv_iconst (v := (5 : Int32)) hx hb dX8_live_178 (by decide) ?_
      refine lv_icmp_ge (tgt := 187) hx hb dX8_live_179 (by decide) (fun c_179_c => ?_) (fun c_179_c => ?_)
      · have h := h.1 c_179_c
        refine W.widen (k := 0) (n := 0) (Nat.le_of_ble_eq_true rfl) (Nat.le_of_ble_eq_true rfl) ?_
        exact W.vret hx hb hr (fun t ht hW9 => ⟨⟨w_171_a, rfl, h, rpt ht hR⟩, hS.F ht⟩) hS.2.2 dX8_live_187
      · have h := h.2 c_179_c
        refine lv_aload_n hx hb dX8_live_182 rfl (lv_at hl 4 rfl) ?_
        refine lv_iconst (v := (0 : Int32)) hx hb dX8_live_183 (by decide) ?_
        refine p21_10 hx hb hts hown hK hR hS l1 nbo_0 q2051 dX8_live_184 (fun H locs w_184_c ew_184_c hR hS => ?_)
        have h := h w_184_c ew_184_c
        refine W.widen (k := 0) (n := 0) (Nat.le_of_ble_eq_true rfl) (Nat.le_of_ble_eq_true rfl) ?_
        exact W.vret hx hb hr (fun t ht hW9 => ⟨⟨w_184_c, rfl, h, rpt ht hR⟩, hS.F ht⟩) hS.2.2 dX8_live_187
abbrev rm_X8_sell : Room := { frames := 1, cells := 0, slots := 0, locals := 24 }
def sp_X8_sell (κ : Kx) (y : Ly) (post : Wd → Prop) (w : Wd) (a1 : Nat) : Prop := ∀ x_16 : Int32, x_16 = jmax (0 : Int32) ((gv w 21 a1 4) - ((6 : Int32) * (gv w 21 a1 0))) → ∀ w_24 : Wd, w_24 = sv w 21 a1 4 ((gv w 21 a1 4) - x_16) → ∀ w_36 : Wd, w_36 = sv w_24 21 a1 5 ((gv w_24 21 a1 5) + ((2 : Int32) * x_16)) → ∀ w_48 : Wd, w_48 = sv w_36 20 0 15 ((gv w_36 20 0 15) - ((2 : Int32) * x_16)) → ∀ x_62 : Int32, x_62 = jmin (gv w_48 21 a1 5) (gv w_48 21 a1 6) → ∀ w_70 : Wd, w_70 = sv w_48 21 a1 5 ((gv w_48 21 a1 5) - x_62) → ∀ w_80 : Wd, w_80 = sv w_70 20 0 15 ((gv w_70 20 0 15) + x_62) → ∀ w_90 : Wd, w_90 = sv w_80 21 a1 6 ((gv w_80 21 a1 6) - x_62) → post w_90
theorem hd_X8_sell : yX8_sell.cls = RX8 ∧ yX8_sell.cls ≠ "java/lang/invoke/MethodHandle" ∧ yX8_sell.cls ≠ "java/lang/invoke/VarHandle" ∧ (parseMethodDescriptor yX8_sell.desc).map (fun d => d.parameters.length) = some 1 := by decide +kernel
set_option maxHeartbeats 4000000 in
theorem m_X8_sell {l : Launch} {κ : Kx} {y : Ly} {X : XR} {post : Wd → Prop} {w : Wd} {a1 : Nat}  (hM : WFm κ y) (l0 : live y 20 0) (l1 : live y 21 a1) (h : sp_X8_sell κ y post w a1) : Met l yX8_sell (ws_ yX8_sell cX8_sell 4 (Option.none : Option Jvm.ClassFile.FieldType)) rm_X8_sell (va_Pc [.ref (y.2 20 0), .ref (y.2 21 a1)] (RC κ w y X)) (va_Qv post (fun w t => Rp κ w y X [] t.heap) (Af κ)) 0 0 (Af κ) := by
  unfold sp_X8_sell at h
  refine Met.ofW (cc := cX8_sell) (maxL := 4) (ret := (Option.none : Option Jvm.ClassFile.FieldType)) (by decide) rfl ?_
  intro p e s m args below meth c s₁ B hml hv
  obtain ⟨rfl, hR, hK⟩ := hv
  have hx := B.exec
  have hb := B.bytes
  have hr := B.returns
  have hts := atoms_spec (ws := ws_ yX8_sell cX8_sell 4 (Option.none : Option Jvm.ClassFile.FieldType)) B.pre
  have hts : ∀ w ∈ lw_all, w.before _ s = true := fun w h => hts w (List.mem_cons_of_mem _ h)
  have hown : s.vm.findClass RX8 = some m.cls := findClass_of_methodNamed B.named
  have hlocks := B.notSynchronized
  have hS : va_S (Af κ) s.heap s.heap [] := va_S.rf
  have hl := lv_entry ([.ref (y.2 20 0), .ref (y.2 21 a1)]) (n := 4) (Nat.le_of_ble_eq_true rfl)
  rw [lg_entry_eq]
  generalize (lg_sl ([.ref (y.2 20 0), .ref (y.2 21 a1)]) ++ List.replicate (4 - (lg_sl ([.ref (y.2 20 0), .ref (y.2 21 a1)])).length) Slot.unset).toArray = ls at hl ⊢
  have hl : lv_has ls 4 [(0, .ref (y.2 20 0)), (1, .ref (y.2 21 a1))] := hl
  refine lv_iconst (v := (0 : Int32)) hx hb dX8_sell_0 (by decide) ?_
  refine lv_aload_n hx hb dX8_sell_1 rfl (lv_at hl 1 rfl) ?_
  refine g21_4 hx hb hts hown hK hR l1 q2044 dX8_sell_2 ?_
  refine lv_bipush (v := (6 : Int32)) hx hb dX8_sell_5 (by decide) ?_
  refine lv_aload_n hx hb dX8_sell_7 rfl (lv_at hl 1 rfl) ?_
  refine g21_0 hx hb hts hown hK hR l1 q2040 dX8_sell_8 ?_
  refine lv_imul hx hb dX8_sell_11 ?_
  refine lv_isub hx hb dX8_sell_12 ?_
  refine va_mmax hx hb (hml.trans hl.1.symm) hown (hts _ q2323) (hts _ q642) (hts _ q95) (hts _ q643) (Nat.le_of_ble_eq_true rfl) (Nat.le_of_ble_eq_true rfl) (Nat.le_of_ble_eq_true rfl) (Nat.le_of_ble_eq_true rfl) dX8_sell_13 ?_
  refine lv_topi (fun x_16 ex_16 => ?_)
  have h := h x_16 ex_16
  refine lv_istore_n (lv' := [(2, .int (x_16)), (0, .ref (y.2 20 0)), (1, .ref (y.2 21 a1))]) hx hb dX8_sell_16 rfl hl (by decide) rfl (fun ls hl => ?_)
  refine lv_aload_n hx hb dX8_sell_17 rfl (lv_at hl 2 rfl) ?_
  refine lv_dup hx hb dX8_sell_18 rfl ?_
  refine g21_4 hx hb hts hown hK hR l1 q2044 dX8_sell_19 ?_
  refine lv_iload_n hx hb dX8_sell_22 rfl (lv_at hl 0 rfl) ?_
  refine lv_isub hx hb dX8_sell_23 ?_
  refine p21_4 hx hb hts hown hK hR hS l1 q2044 dX8_sell_24 (fun H locs w_24 ew_24 hR hS => ?_)
  have h := h w_24 ew_24
  refine lv_aload_n hx hb dX8_sell_27 rfl (lv_at hl 2 rfl) ?_
  refine lv_dup hx hb dX8_sell_28 rfl ?_
  refine g21_5 hx hb hts hown hK hR l1 q2045 dX8_sell_29 ?_
  refine lv_iconst (v := (2 : Int32)) hx hb dX8_sell_32 (by decide) ?_
  refine lv_iload_n hx hb dX8_sell_33 rfl (lv_at hl 0 rfl) ?_
  refine lv_imul hx hb dX8_sell_34 ?_
  refine lv_iadd hx hb dX8_sell_35 ?_
  refine p21_5 hx hb hts hown hK hR hS l1 q2045 dX8_sell_36 (fun H locs w_36 ew_36 hR hS => ?_)
  have h := h w_36 ew_36
  refine lv_aload_n hx hb dX8_sell_39 rfl (lv_at hl 1 rfl) ?_
  refine lv_dup hx hb dX8_sell_40 rfl ?_
  refine g20_15 hx hb hts hown hK hR l0 q1960 dX8_sell_41 ?_
  refine lv_iconst (v := (2 : Int32)) hx hb dX8_sell_44 (by decide) ?_
  refine lv_iload_n hx hb dX8_sell_45 rfl (lv_at hl 0 rfl) ?_
  refine lv_imul hx hb dX8_sell_46 ?_
  refine lv_isub hx hb dX8_sell_47 ?_
  refine p20_15 hx hb hts hown hK hR hS l0 q1960 dX8_sell_48 (fun H locs w_48 ew_48 hR hS => ?_)
  have h := h w_48 ew_48
  refine lv_aload_n hx hb dX8_sell_51 rfl (lv_at hl 2 rfl) ?_
  refine g21_5 hx hb hts hown hK hR l1 q2045 dX8_sell_52 ?_
  refine lv_aload_n hx hb dX8_sell_55 rfl (lv_at hl 2 rfl) ?_
  refine g21_6 hx hb hts hown hK hR l1 q2046 dX8_sell_56 ?_
  refine va_mmin hx hb (hml.trans hl.1.symm) hown (hts _ q2113) (hts _ q322) (hts _ q95) (hts _ q323) (Nat.le_of_ble_eq_true rfl) (Nat.le_of_ble_eq_true rfl) (Nat.le_of_ble_eq_true rfl) (Nat.le_of_ble_eq_true rfl) dX8_sell_59 ?_
  refine lv_topi (fun x_62 ex_62 => ?_)
  have h := h x_62 ex_62
  refine lv_istore_n (lv' := [(3, .int (x_62)), (2, .int (x_16)), (0, .ref (y.2 20 0)), (1, .ref (y.2 21 a1))]) hx hb dX8_sell_62 rfl hl (by decide) rfl (fun ls hl => ?_)
  refine lv_aload_n hx hb dX8_sell_63 rfl (lv_at hl 3 rfl) ?_
  refine lv_dup hx hb dX8_sell_64 rfl ?_
  refine g21_5 hx hb hts hown hK hR l1 q2045 dX8_sell_65 ?_
  refine lv_iload_n hx hb dX8_sell_68 rfl (lv_at hl 0 rfl) ?_
  refine lv_isub hx hb dX8_sell_69 ?_
  refine p21_5 hx hb hts hown hK hR hS l1 q2045 dX8_sell_70 (fun H locs w_70 ew_70 hR hS => ?_)
  have h := h w_70 ew_70
  refine lv_aload_n hx hb dX8_sell_73 rfl (lv_at hl 2 rfl) ?_
  refine lv_dup hx hb dX8_sell_74 rfl ?_
  refine g20_15 hx hb hts hown hK hR l0 q1960 dX8_sell_75 ?_
  refine lv_iload_n hx hb dX8_sell_78 rfl (lv_at hl 0 rfl) ?_
  refine lv_iadd hx hb dX8_sell_79 ?_
  refine p20_15 hx hb hts hown hK hR hS l0 q1960 dX8_sell_80 (fun H locs w_80 ew_80 hR hS => ?_)
  have h := h w_80 ew_80
  refine lv_aload_n hx hb dX8_sell_83 rfl (lv_at hl 3 rfl) ?_
  refine lv_dup hx hb dX8_sell_84 rfl ?_
  refine g21_6 hx hb hts hown hK hR l1 q2046 dX8_sell_85 ?_
  refine lv_iload_n hx hb dX8_sell_88 rfl (lv_at hl 0 rfl) ?_
  refine lv_isub hx hb dX8_sell_89 ?_
  refine p21_6 hx hb hts hown hK hR hS l1 q2046 dX8_sell_90 (fun H locs w_90 ew_90 hR hS => ?_)
  have h := h w_90 ew_90
  refine W.widen (k := 0) (n := 0) (Nat.le_of_ble_eq_true rfl) (Nat.le_of_ble_eq_true rfl) ?_
  exact W.vret hx hb hr (fun t ht hW9 => ⟨⟨w_90, rfl, h, rpt ht hR⟩, hS.F ht⟩) hS.2.2 dX8_sell_93
abbrev rm_X8_call : Room := { frames := 0, cells := 0, slots := 0, locals := 0 }
def sp_X8_call (κ : Kx) (y : Ly) (post : Int32 → Wd → Prop) (w : Wd)  : Prop := ∀ w_2 : Wd, w_2 = sv w 20 0 0 ((0 : Int32)) → ∀ w_13 : Wd, w_13 = sv w_2 20 0 21 ((gv w_2 20 0 21) + (1 : Int32)) → post ((gv w_2 20 0 21) + (1 : Int32)) w_13
theorem hd_X8_call : yX8_call.cls = RX8 ∧ yX8_call.cls ≠ "java/lang/invoke/MethodHandle" ∧ yX8_call.cls ≠ "java/lang/invoke/VarHandle" ∧ (parseMethodDescriptor yX8_call.desc).map (fun d => d.parameters.length) = some 0 := by decide +kernel
set_option maxHeartbeats 4000000 in
theorem m_X8_call {l : Launch} {κ : Kx} {y : Ly} {X : XR} {post : Int32 → Wd → Prop} {w : Wd}   (hM : WFm κ y) (l0 : live y 20 0) (h : sp_X8_call κ y post w ) : Met l yX8_call (ws_ yX8_call cX8_call 1 (Option.some Jvm.ClassFile.FieldType.int)) rm_X8_call (va_Pc [.ref (y.2 20 0)] (RC κ w y X)) (va_Qi post (fun w t => Rp κ w y X [] t.heap) (Af κ)) 0 0 (Af κ) := by
  unfold sp_X8_call at h
  refine Met.ofW (cc := cX8_call) (maxL := 1) (ret := (Option.some Jvm.ClassFile.FieldType.int)) (by decide) rfl ?_
  intro p e s m args below meth c s₁ B hml hv
  obtain ⟨rfl, hR, hK⟩ := hv
  have hx := B.exec
  have hb := B.bytes
  have hr := B.returns
  have hts := atoms_spec (ws := ws_ yX8_call cX8_call 1 (Option.some Jvm.ClassFile.FieldType.int)) B.pre
  have hts : ∀ w ∈ lw_all, w.before _ s = true := fun w h => hts w (List.mem_cons_of_mem _ h)
  have hown : s.vm.findClass RX8 = some m.cls := findClass_of_methodNamed B.named
  have hlocks := B.notSynchronized
  have hS : va_S (Af κ) s.heap s.heap [] := va_S.rf
  have hl := lv_entry ([.ref (y.2 20 0)]) (n := 1) (Nat.le_of_ble_eq_true rfl)
  rw [lg_entry_eq]
  generalize (lg_sl ([.ref (y.2 20 0)]) ++ List.replicate (1 - (lg_sl ([.ref (y.2 20 0)])).length) Slot.unset).toArray = ls at hl ⊢
  have hl : lv_has ls 1 [(0, .ref (y.2 20 0))] := hl
  refine lv_aload_n hx hb dX8_call_0 rfl (lv_at hl 0 rfl) ?_
  refine lv_iconst (v := (0 : Int32)) hx hb dX8_call_1 (by decide) ?_
  refine p20_0 hx hb hts hown hK hR hS l0 q1945 dX8_call_2 (fun H locs w_2 ew_2 hR hS => ?_)
  have h := h w_2 ew_2
  refine lv_aload_n hx hb dX8_call_5 rfl (lv_at hl 0 rfl) ?_
  refine lv_dup hx hb dX8_call_6 rfl ?_
  refine g20_21 hx hb hts hown hK hR l0 q1966 dX8_call_7 ?_
  refine lv_iconst (v := (1 : Int32)) hx hb dX8_call_10 (by decide) ?_
  refine lv_iadd hx hb dX8_call_11 ?_
  refine lv_dup_x1 hx hb dX8_call_12 rfl rfl ?_
  refine p20_21 hx hb hts hown hK hR hS l0 q1966 dX8_call_13 (fun H locs w_13 ew_13 hR hS => ?_)
  have h := h w_13 ew_13
  refine W.widen (k := 0) (n := 0) (Nat.le_of_ble_eq_true rfl) (Nat.le_of_ble_eq_true rfl) ?_
  exact W.iret (v := (gv w_2 20 0 21) + (1 : Int32)) hx hb hr (fun t ht hW9 => ⟨⟨(gv w_2 20 0 21) + (1 : Int32), w_13, rfl, h, rpt ht hR⟩, hS.F ht⟩) hS.2.2 dX8_call_16
abbrev rm_X8_ofVillageNow : Room := { frames := 0, cells := 1, slots := 14, locals := 0 }
def sp_X8_ofVillageNow (κ : Kx) (y : Ly) (post : Int32 → Wd → Prop) (w : Wd) (a1 : Nat) (p2 : Int32) : Prop := (vp_in ((0 : Int32)) 14) ∧ (∀ f_10 : Nat → Int32, f_10 = upd ((fun _ => 0)) ((0 : Int32)).toNatClampNeg (gv w 21 a1 0) → (vp_in ((1 : Int32)) 14) ∧ (∀ f_17 : Nat → Int32, f_17 = upd f_10 ((1 : Int32)).toNatClampNeg (gv w 21 a1 1) → (vp_in ((2 : Int32)) 14) ∧ (∀ f_24 : Nat → Int32, f_24 = upd f_17 ((2 : Int32)).toNatClampNeg (gv w 21 a1 2) → (vp_in ((3 : Int32)) 14) ∧ (∀ f_31 : Nat → Int32, f_31 = upd f_24 ((3 : Int32)).toNatClampNeg (gv w 21 a1 3) → (vp_in ((4 : Int32)) 14) ∧ (∀ f_38 : Nat → Int32, f_38 = upd f_31 ((4 : Int32)).toNatClampNeg (gv w 21 a1 4) → (vp_in ((5 : Int32)) 14) ∧ (∀ f_45 : Nat → Int32, f_45 = upd f_38 ((5 : Int32)).toNatClampNeg (gv w 21 a1 5) → (vp_in ((6 : Int32)) 14) ∧ (∀ f_53 : Nat → Int32, f_53 = upd f_45 ((6 : Int32)).toNatClampNeg (gv w 21 a1 6) → (vp_in ((7 : Int32)) 14) ∧ (∀ f_61 : Nat → Int32, f_61 = upd f_53 ((7 : Int32)).toNatClampNeg (gv w 21 a1 7) → (vp_in ((8 : Int32)) 14) ∧ (∀ f_69 : Nat → Int32, f_69 = upd f_61 ((8 : Int32)).toNatClampNeg (gv w 21 a1 8) → (vp_in ((9 : Int32)) 14) ∧ (∀ f_77 : Nat → Int32, f_77 = upd f_69 ((9 : Int32)).toNatClampNeg (gv w 21 a1 9) → ((gv w 21 a1 10 = 0) → ((vp_in ((10 : Int32)) 14) ∧ (∀ f_93 : Nat → Int32, f_93 = upd f_77 ((10 : Int32)).toNatClampNeg ((0 : Int32)) → ((gv w 21 a1 11 = 0) → ((vp_in ((11 : Int32)) 14) ∧ (∀ f_109 : Nat → Int32, f_109 = upd f_93 ((11 : Int32)).toNatClampNeg ((0 : Int32)) → (vp_in ((12 : Int32)) 14) ∧ (∀ f_117 : Nat → Int32, f_117 = upd f_109 ((12 : Int32)).toNatClampNeg (gv w 21 a1 12) → (vp_in ((13 : Int32)) 14) ∧ (∀ f_125 : Nat → Int32, f_125 = upd f_117 ((13 : Int32)).toNatClampNeg (gv w 21 a1 13) → (vp_in (p2) 14) ∧ (post (f_125 (p2).toNatClampNeg) w)))))) ∧ ((¬ (gv w 21 a1 11 = 0)) → ((vp_in ((11 : Int32)) 14) ∧ (∀ f_109_a : Nat → Int32, f_109_a = upd f_93 ((11 : Int32)).toNatClampNeg ((1 : Int32)) → (vp_in ((12 : Int32)) 14) ∧ (∀ f_117_a : Nat → Int32, f_117_a = upd f_109_a ((12 : Int32)).toNatClampNeg (gv w 21 a1 12) → (vp_in ((13 : Int32)) 14) ∧ (∀ f_125_a : Nat → Int32, f_125_a = upd f_117_a ((13 : Int32)).toNatClampNeg (gv w 21 a1 13) → (vp_in (p2) 14) ∧ (post (f_125_a (p2).toNatClampNeg) w))))))))) ∧ ((¬ (gv w 21 a1 10 = 0)) → ((vp_in ((10 : Int32)) 14) ∧ (∀ f_93_a : Nat → Int32, f_93_a = upd f_77 ((10 : Int32)).toNatClampNeg ((1 : Int32)) → ((gv w 21 a1 11 = 0) → ((vp_in ((11 : Int32)) 14) ∧ (∀ f_109_b : Nat → Int32, f_109_b = upd f_93_a ((11 : Int32)).toNatClampNeg ((0 : Int32)) → (vp_in ((12 : Int32)) 14) ∧ (∀ f_117_b : Nat → Int32, f_117_b = upd f_109_b ((12 : Int32)).toNatClampNeg (gv w 21 a1 12) → (vp_in ((13 : Int32)) 14) ∧ (∀ f_125_b : Nat → Int32, f_125_b = upd f_117_b ((13 : Int32)).toNatClampNeg (gv w 21 a1 13) → (vp_in (p2) 14) ∧ (post (f_125_b (p2).toNatClampNeg) w)))))) ∧ ((¬ (gv w 21 a1 11 = 0)) → ((vp_in ((11 : Int32)) 14) ∧ (∀ f_109_c : Nat → Int32, f_109_c = upd f_93_a ((11 : Int32)).toNatClampNeg ((1 : Int32)) → (vp_in ((12 : Int32)) 14) ∧ (∀ f_117_c : Nat → Int32, f_117_c = upd f_109_c ((12 : Int32)).toNatClampNeg (gv w 21 a1 12) → (vp_in ((13 : Int32)) 14) ∧ (∀ f_125_c : Nat → Int32, f_125_c = upd f_117_c ((13 : Int32)).toNatClampNeg (gv w 21 a1 13) → (vp_in (p2) 14) ∧ (post (f_125_c (p2).toNatClampNeg) w)))))))))))))))))))
theorem hd_X8_ofVillageNow : yX8_ofVillageNow.cls = RX8 ∧ yX8_ofVillageNow.cls ≠ "java/lang/invoke/MethodHandle" ∧ yX8_ofVillageNow.cls ≠ "java/lang/invoke/VarHandle" ∧ (parseMethodDescriptor yX8_ofVillageNow.desc).map (fun d => d.parameters.length) = some 2 := by decide +kernel
set_option maxHeartbeats 4000000 in
theorem m_X8_ofVillageNow {l : Launch} {κ : Kx} {y : Ly} {X : XR} {post : Int32 → Wd → Prop} {w : Wd} {a1 : Nat} {p2 : Int32}  (hM : WFm κ y) (l0 : live y 20 0) (l1 : live y 21 a1) (h : sp_X8_ofVillageNow κ y post w a1 p2) : Met l yX8_ofVillageNow (ws_ yX8_ofVillageNow cX8_ofVillageNow 4 (Option.some Jvm.ClassFile.FieldType.int)) rm_X8_ofVillageNow (va_Pc [.ref (y.2 20 0), .ref (y.2 21 a1), .int (p2)] (RC κ w y X)) (va_Qi post (fun w t => Rp κ w y X [] t.heap) (Af κ)) 1 14 (Af κ) := by
  unfold sp_X8_ofVillageNow at h
  refine Met.ofW (cc := cX8_ofVillageNow) (maxL := 4) (ret := (Option.some Jvm.ClassFile.FieldType.int)) (by decide) rfl ?_
  intro p e s m args below meth c s₁ B hml hv
  obtain ⟨rfl, hR, hK⟩ := hv
  have hx := B.exec
  have hb := B.bytes
  have hr := B.returns
  have hts := atoms_spec (ws := ws_ yX8_ofVillageNow cX8_ofVillageNow 4 (Option.some Jvm.ClassFile.FieldType.int)) B.pre
  have hts : ∀ w ∈ lw_all, w.before _ s = true := fun w h => hts w (List.mem_cons_of_mem _ h)
  have hown : s.vm.findClass RX8 = some m.cls := findClass_of_methodNamed B.named
  have hlocks := B.notSynchronized
  have hS : va_S (Af κ) s.heap s.heap [] := va_S.rf
  have hl := lv_entry ([.ref (y.2 20 0), .ref (y.2 21 a1), .int (p2)]) (n := 4) (Nat.le_of_ble_eq_true rfl)
  rw [lg_entry_eq]
  generalize (lg_sl ([.ref (y.2 20 0), .ref (y.2 21 a1), .int (p2)]) ++ List.replicate (4 - (lg_sl ([.ref (y.2 20 0), .ref (y.2 21 a1), .int (p2)])).length) Slot.unset).toArray = ls at hl ⊢
  have hl : lv_has ls 4 [(0, .ref (y.2 20 0)), (1, .ref (y.2 21 a1)), (2, .int (p2))] := hl
  refine lv_bipush (v := (14 : Int32)) hx hb dX8_ofVillageNow_0 (by decide) ?_
  refine xa_newa (ty := .int) (N' := 14) (a0 := (14, .inl (fun _ => 0))) hx hb hts q995 rfl hK.1 0 rfl (by intro C h9; cases h9) hS rfl (by decide) (by decide) (by decide) (Nat.le_of_ble_eq_true rfl) (Nat.le_of_ble_eq_true rfl) dX8_ofVillageNow_2 (fun q_2 H1 hq h1 hz ho hS => ?_)
  have hR := hR.newL hq h1 (by omega) ho
  clear hq h1 hz ho
  generalize H1 = H at hR hS ⊢
  have hR : Rp κ w y X [(q_2, .inl (kT κ 0, (14, .inl ((fun _ => 0)))))] H := hR
  refine lv_dup hx hb dX8_ofVillageNow_4 rfl ?_
  refine lv_iconst (v := (0 : Int32)) hx hb dX8_ofVillageNow_5 (by decide) ?_
  refine lv_aload_n hx hb dX8_ofVillageNow_6 rfl (lv_at hl 1 rfl) ?_
  refine g21_0 hx hb hts hown hK hR l1 q2040 dX8_ofVillageNow_7 ?_
  have o_10 := h.1
  have h := h.2
  refine xa_iast hx hb hK.1 hS (hR.LD.2 0 _ rfl) (hR.L 0 _ rfl) 0 rfl o_10 dX8_ofVillageNow_10 (fun H1 locs h1 hz ho hS => ?_)
  have hR := hR.putL (t := 0) rfl h1 hz ho
  clear h1 hz ho
  generalize H1 = H at hR hS ⊢
  obtain ⟨f_10, ef_10⟩ : ∃ z, z = upd ((fun _ => 0)) ((0 : Int32)).toNatClampNeg (gv w 21 a1 0) := ⟨_, rfl⟩
  rw [← ef_10] at hR
  have h := h f_10 ef_10
  have hR : Rp κ w y X [(q_2, .inl (kT κ 0, (14, .inl (f_10))))] H := hR
  refine lv_dup hx hb dX8_ofVillageNow_11 rfl ?_
  refine lv_iconst (v := (1 : Int32)) hx hb dX8_ofVillageNow_12 (by decide) ?_
  refine lv_aload_n hx hb dX8_ofVillageNow_13 rfl (lv_at hl 1 rfl) ?_
  refine g21_1 hx hb hts hown hK hR l1 q2041 dX8_ofVillageNow_14 ?_
  have o_17 := h.1
  have h := h.2
  refine xa_iast hx hb hK.1 hS (hR.LD.2 0 _ rfl) (hR.L 0 _ rfl) 0 rfl o_17 dX8_ofVillageNow_17 (fun H1 locs h1 hz ho hS => ?_)
  have hR := hR.putL (t := 0) rfl h1 hz ho
  clear h1 hz ho
  generalize H1 = H at hR hS ⊢
  obtain ⟨f_17, ef_17⟩ : ∃ z, z = upd f_10 ((1 : Int32)).toNatClampNeg (gv w 21 a1 1) := ⟨_, rfl⟩
  rw [← ef_17] at hR
  have h := h f_17 ef_17
  have hR : Rp κ w y X [(q_2, .inl (kT κ 0, (14, .inl (f_17))))] H := hR
  refine lv_dup hx hb dX8_ofVillageNow_18 rfl ?_
  refine lv_iconst (v := (2 : Int32)) hx hb dX8_ofVillageNow_19 (by decide) ?_
  refine lv_aload_n hx hb dX8_ofVillageNow_20 rfl (lv_at hl 1 rfl) ?_
  refine g21_2 hx hb hts hown hK hR l1 q2042 dX8_ofVillageNow_21 ?_
  have o_24 := h.1
  have h := h.2
  refine xa_iast hx hb hK.1 hS (hR.LD.2 0 _ rfl) (hR.L 0 _ rfl) 0 rfl o_24 dX8_ofVillageNow_24 (fun H1 locs h1 hz ho hS => ?_)
  have hR := hR.putL (t := 0) rfl h1 hz ho
  clear h1 hz ho
  generalize H1 = H at hR hS ⊢
  obtain ⟨f_24, ef_24⟩ : ∃ z, z = upd f_17 ((2 : Int32)).toNatClampNeg (gv w 21 a1 2) := ⟨_, rfl⟩
  rw [← ef_24] at hR
  have h := h f_24 ef_24
  have hR : Rp κ w y X [(q_2, .inl (kT κ 0, (14, .inl (f_24))))] H := hR
  refine lv_dup hx hb dX8_ofVillageNow_25 rfl ?_
  refine lv_iconst (v := (3 : Int32)) hx hb dX8_ofVillageNow_26 (by decide) ?_
  refine lv_aload_n hx hb dX8_ofVillageNow_27 rfl (lv_at hl 1 rfl) ?_
  refine g21_3 hx hb hts hown hK hR l1 q2043 dX8_ofVillageNow_28 ?_
  have o_31 := h.1
  have h := h.2
  refine xa_iast hx hb hK.1 hS (hR.LD.2 0 _ rfl) (hR.L 0 _ rfl) 0 rfl o_31 dX8_ofVillageNow_31 (fun H1 locs h1 hz ho hS => ?_)
  have hR := hR.putL (t := 0) rfl h1 hz ho
  clear h1 hz ho
  generalize H1 = H at hR hS ⊢
  obtain ⟨f_31, ef_31⟩ : ∃ z, z = upd f_24 ((3 : Int32)).toNatClampNeg (gv w 21 a1 3) := ⟨_, rfl⟩
  rw [← ef_31] at hR
  have h := h f_31 ef_31
  have hR : Rp κ w y X [(q_2, .inl (kT κ 0, (14, .inl (f_31))))] H := hR
  refine lv_dup hx hb dX8_ofVillageNow_32 rfl ?_
  refine lv_iconst (v := (4 : Int32)) hx hb dX8_ofVillageNow_33 (by decide) ?_
  refine lv_aload_n hx hb dX8_ofVillageNow_34 rfl (lv_at hl 1 rfl) ?_
  refine g21_4 hx hb hts hown hK hR l1 q2044 dX8_ofVillageNow_35 ?_
  have o_38 := h.1
  have h := h.2
  refine xa_iast hx hb hK.1 hS (hR.LD.2 0 _ rfl) (hR.L 0 _ rfl) 0 rfl o_38 dX8_ofVillageNow_38 (fun H1 locs h1 hz ho hS => ?_)
  have hR := hR.putL (t := 0) rfl h1 hz ho
  clear h1 hz ho
  generalize H1 = H at hR hS ⊢
  obtain ⟨f_38, ef_38⟩ : ∃ z, z = upd f_31 ((4 : Int32)).toNatClampNeg (gv w 21 a1 4) := ⟨_, rfl⟩
  rw [← ef_38] at hR
  have h := h f_38 ef_38
  have hR : Rp κ w y X [(q_2, .inl (kT κ 0, (14, .inl (f_38))))] H := hR
  refine lv_dup hx hb dX8_ofVillageNow_39 rfl ?_
  refine lv_iconst (v := (5 : Int32)) hx hb dX8_ofVillageNow_40 (by decide) ?_
  refine lv_aload_n hx hb dX8_ofVillageNow_41 rfl (lv_at hl 1 rfl) ?_
  refine g21_5 hx hb hts hown hK hR l1 q2045 dX8_ofVillageNow_42 ?_
  have o_45 := h.1
  have h := h.2
  refine xa_iast hx hb hK.1 hS (hR.LD.2 0 _ rfl) (hR.L 0 _ rfl) 0 rfl o_45 dX8_ofVillageNow_45 (fun H1 locs h1 hz ho hS => ?_)
  have hR := hR.putL (t := 0) rfl h1 hz ho
  clear h1 hz ho
  generalize H1 = H at hR hS ⊢
  obtain ⟨f_45, ef_45⟩ : ∃ z, z = upd f_38 ((5 : Int32)).toNatClampNeg (gv w 21 a1 5) := ⟨_, rfl⟩
  rw [← ef_45] at hR
  have h := h f_45 ef_45
  have hR : Rp κ w y X [(q_2, .inl (kT κ 0, (14, .inl (f_45))))] H := hR
  refine lv_dup hx hb dX8_ofVillageNow_46 rfl ?_
  refine lv_bipush (v := (6 : Int32)) hx hb dX8_ofVillageNow_47 (by decide) ?_
  refine lv_aload_n hx hb dX8_ofVillageNow_49 rfl (lv_at hl 1 rfl) ?_
  refine g21_6 hx hb hts hown hK hR l1 q2046 dX8_ofVillageNow_50 ?_
  have o_53 := h.1
  have h := h.2
  refine xa_iast hx hb hK.1 hS (hR.LD.2 0 _ rfl) (hR.L 0 _ rfl) 0 rfl o_53 dX8_ofVillageNow_53 (fun H1 locs h1 hz ho hS => ?_)
  have hR := hR.putL (t := 0) rfl h1 hz ho
  clear h1 hz ho
  generalize H1 = H at hR hS ⊢
  obtain ⟨f_53, ef_53⟩ : ∃ z, z = upd f_45 ((6 : Int32)).toNatClampNeg (gv w 21 a1 6) := ⟨_, rfl⟩
  rw [← ef_53] at hR
  have h := h f_53 ef_53
  have hR : Rp κ w y X [(q_2, .inl (kT κ 0, (14, .inl (f_53))))] H := hR
  refine lv_dup hx hb dX8_ofVillageNow_54 rfl ?_
  refine lv_bipush (v := (7 : Int32)) hx hb dX8_ofVillageNow_55 (by decide) ?_
  refine lv_aload_n hx hb dX8_ofVillageNow_57 rfl (lv_at hl 1 rfl) ?_
  refine g21_7 hx hb hts hown hK hR l1 q2048 dX8_ofVillageNow_58 ?_
  have o_61 := h.1
  have h := h.2
  refine xa_iast hx hb hK.1 hS (hR.LD.2 0 _ rfl) (hR.L 0 _ rfl) 0 rfl o_61 dX8_ofVillageNow_61 (fun H1 locs h1 hz ho hS => ?_)
  have hR := hR.putL (t := 0) rfl h1 hz ho
  clear h1 hz ho
  generalize H1 = H at hR hS ⊢
  obtain ⟨f_61, ef_61⟩ : ∃ z, z = upd f_53 ((7 : Int32)).toNatClampNeg (gv w 21 a1 7) := ⟨_, rfl⟩
  rw [← ef_61] at hR
  have h := h f_61 ef_61
  have hR : Rp κ w y X [(q_2, .inl (kT κ 0, (14, .inl (f_61))))] H := hR
  refine lv_dup hx hb dX8_ofVillageNow_62 rfl ?_
  refine lv_bipush (v := (8 : Int32)) hx hb dX8_ofVillageNow_63 (by decide) ?_
  refine lv_aload_n hx hb dX8_ofVillageNow_65 rfl (lv_at hl 1 rfl) ?_
  refine g21_8 hx hb hts hown hK hR l1 q2049 dX8_ofVillageNow_66 ?_
  have o_69 := h.1
  have h := h.2
  refine xa_iast hx hb hK.1 hS (hR.LD.2 0 _ rfl) (hR.L 0 _ rfl) 0 rfl o_69 dX8_ofVillageNow_69 (fun H1 locs h1 hz ho hS => ?_)
  have hR := hR.putL (t := 0) rfl h1 hz ho
  clear h1 hz ho
  generalize H1 = H at hR hS ⊢
  obtain ⟨f_69, ef_69⟩ : ∃ z, z = upd f_61 ((8 : Int32)).toNatClampNeg (gv w 21 a1 8) := ⟨_, rfl⟩
  rw [← ef_69] at hR
  have h := h f_69 ef_69
  have hR : Rp κ w y X [(q_2, .inl (kT κ 0, (14, .inl (f_69))))] H := hR
  refine lv_dup hx hb dX8_ofVillageNow_70 rfl ?_
  refine lv_bipush (v := (9 : Int32)) hx hb dX8_ofVillageNow_71 (by decide) ?_
  refine lv_aload_n hx hb dX8_ofVillageNow_73 rfl (lv_at hl 1 rfl) ?_
  refine g21_9 hx hb hts hown hK hR l1 q2050 dX8_ofVillageNow_74 ?_
  have o_77 := h.1
  have h := h.2
  refine xa_iast hx hb hK.1 hS (hR.LD.2 0 _ rfl) (hR.L 0 _ rfl) 0 rfl o_77 dX8_ofVillageNow_77 (fun H1 locs h1 hz ho hS => ?_)
  have hR := hR.putL (t := 0) rfl h1 hz ho
  clear h1 hz ho
  generalize H1 = H at hR hS ⊢
  obtain ⟨f_77, ef_77⟩ : ∃ z, z = upd f_69 ((9 : Int32)).toNatClampNeg (gv w 21 a1 9) := ⟨_, rfl⟩
  rw [← ef_77] at hR
  have h := h f_77 ef_77
  have hR : Rp κ w y X [(q_2, .inl (kT κ 0, (14, .inl (f_77))))] H := hR
  refine lv_dup hx hb dX8_ofVillageNow_78 rfl ?_
  refine lv_bipush (v := (10 : Int32)) hx hb dX8_ofVillageNow_79 (by decide) ?_
  refine lv_aload_n hx hb dX8_ofVillageNow_81 rfl (lv_at hl 1 rfl) ?_
  refine g21_10 hx hb hts hown hK hR l1 q2051 dX8_ofVillageNow_82 ?_
  refine lv_if_eq (tgt := 92) hx hb dX8_ofVillageNow_85 (by decide) (fun c_85 => ?_) (fun c_85 => ?_)
  · have h := h.1 c_85
    refine lv_iconst (v := (0 : Int32)) hx hb dX8_ofVillageNow_92 (by decide) ?_
    have o_93 := h.1
    have h := h.2
    refine xa_iast hx hb hK.1 hS (hR.LD.2 0 _ rfl) (hR.L 0 _ rfl) 0 rfl o_93 dX8_ofVillageNow_93 (fun H1 locs h1 hz ho hS => ?_)
    have hR := hR.putL (t := 0) rfl h1 hz ho
    clear h1 hz ho
    generalize H1 = H at hR hS ⊢
    obtain ⟨f_93, ef_93⟩ : ∃ z, z = upd f_77 ((10 : Int32)).toNatClampNeg ((0 : Int32)) := ⟨_, rfl⟩
    rw [← ef_93] at hR
    have h := h f_93 ef_93
    have hR : Rp κ w y X [(q_2, .inl (kT κ 0, (14, .inl (f_93))))] H := hR
    refine lv_dup hx hb dX8_ofVillageNow_94 rfl ?_
    refine lv_bipush (v := (11 : Int32)) hx hb dX8_ofVillageNow_95 (by decide) ?_
    refine lv_aload_n hx hb dX8_ofVillageNow_97 rfl (lv_at hl 1 rfl) ?_
    refine g21_11 hx hb hts hown hK hR l1 q2052 dX8_ofVillageNow_98 ?_
    refine lv_if_eq (tgt := 108) hx hb dX8_ofVillageNow_101 (by decide) (fun c_101 => ?_) (fun c_101 => ?_)
    · have h := h.1 c_101
      refine lv_iconst (v := (0 : Int32)) hx hb dX8_ofVillageNow_108 (by decide) ?_
      have o_109 := h.1
      have h := h.2
      refine xa_iast hx hb hK.1 hS (hR.LD.2 0 _ rfl) (hR.L 0 _ rfl) 0 rfl o_109 dX8_ofVillageNow_109 (fun H1 locs h1 hz ho hS => ?_)
      have hR := hR.putL (t := 0) rfl h1 hz ho
      clear h1 hz ho
      generalize H1 = H at hR hS ⊢
      obtain ⟨f_109, ef_109⟩ : ∃ z, z = upd f_93 ((11 : Int32)).toNatClampNeg ((0 : Int32)) := ⟨_, rfl⟩
      rw [← ef_109] at hR
      have h := h f_109 ef_109
      have hR : Rp κ w y X [(q_2, .inl (kT κ 0, (14, .inl (f_109))))] H := hR
      refine lv_dup hx hb dX8_ofVillageNow_110 rfl ?_
      refine lv_bipush (v := (12 : Int32)) hx hb dX8_ofVillageNow_111 (by decide) ?_
      refine lv_aload_n hx hb dX8_ofVillageNow_113 rfl (lv_at hl 1 rfl) ?_
      refine g21_12 hx hb hts hown hK hR l1 q2053 dX8_ofVillageNow_114 ?_
      have o_117 := h.1
      have h := h.2
      refine xa_iast hx hb hK.1 hS (hR.LD.2 0 _ rfl) (hR.L 0 _ rfl) 0 rfl o_117 dX8_ofVillageNow_117 (fun H1 locs h1 hz ho hS => ?_)
      have hR := hR.putL (t := 0) rfl h1 hz ho
      clear h1 hz ho
      generalize H1 = H at hR hS ⊢
      obtain ⟨f_117, ef_117⟩ : ∃ z, z = upd f_109 ((12 : Int32)).toNatClampNeg (gv w 21 a1 12) := ⟨_, rfl⟩
      rw [← ef_117] at hR
      have h := h f_117 ef_117
      have hR : Rp κ w y X [(q_2, .inl (kT κ 0, (14, .inl (f_117))))] H := hR
      refine lv_dup hx hb dX8_ofVillageNow_118 rfl ?_
      refine lv_bipush (v := (13 : Int32)) hx hb dX8_ofVillageNow_119 (by decide) ?_
      refine lv_aload_n hx hb dX8_ofVillageNow_121 rfl (lv_at hl 1 rfl) ?_
      refine g21_13 hx hb hts hown hK hR l1 q2054 dX8_ofVillageNow_122 ?_
      have o_125 := h.1
      have h := h.2
      refine xa_iast hx hb hK.1 hS (hR.LD.2 0 _ rfl) (hR.L 0 _ rfl) 0 rfl o_125 dX8_ofVillageNow_125 (fun H1 locs h1 hz ho hS => ?_)
      have hR := hR.putL (t := 0) rfl h1 hz ho
      clear h1 hz ho
      generalize H1 = H at hR hS ⊢
      obtain ⟨f_125, ef_125⟩ : ∃ z, z = upd f_117 ((13 : Int32)).toNatClampNeg (gv w 21 a1 13) := ⟨_, rfl⟩
      rw [← ef_125] at hR
      have h := h f_125 ef_125
      have hR : Rp κ w y X [(q_2, .inl (kT κ 0, (14, .inl (f_125))))] H := hR
      refine lv_astore_n (lv' := [(3, .ref (q_2)), (0, .ref (y.2 20 0)), (1, .ref (y.2 21 a1)), (2, .int (p2))]) hx hb dX8_ofVillageNow_126 rfl hl (by decide) rfl (fun ls hl => ?_)
      refine lv_aload_n hx hb dX8_ofVillageNow_127 rfl (lv_at hl 0 rfl) ?_
      refine lv_iload_n hx hb dX8_ofVillageNow_128 rfl (lv_at hl 3 rfl) ?_
      have o_129 := h.1
      have h := h.2
      refine xa_iald hx hb hK.1 (hR.L 0 _ rfl) 0 rfl o_129 dX8_ofVillageNow_129 ?_
      have hR := hR.sub (L' := []) [] rfl rfl
      refine W.widen (k := 1) (n := 14) (Nat.le_of_ble_eq_true rfl) (Nat.le_of_ble_eq_true rfl) ?_
      exact W.iret (v := f_125 (p2).toNatClampNeg) hx hb hr (fun t ht hW9 => ⟨⟨f_125 (p2).toNatClampNeg, w, rfl, h, rpt ht hR⟩, hS.F ht⟩) hS.2.2 dX8_ofVillageNow_130
    · have h := h.2 c_101
      refine lv_iconst (v := (1 : Int32)) hx hb dX8_ofVillageNow_104 (by decide) ?_
      refine lv_goto (tgt := 109) hx hb dX8_ofVillageNow_105 (by decide) ?_
      have o_109_a := h.1
      have h := h.2
      refine xa_iast hx hb hK.1 hS (hR.LD.2 0 _ rfl) (hR.L 0 _ rfl) 0 rfl o_109_a dX8_ofVillageNow_109 (fun H1 locs h1 hz ho hS => ?_)
      have hR := hR.putL (t := 0) rfl h1 hz ho
      clear h1 hz ho
      generalize H1 = H at hR hS ⊢
      obtain ⟨f_109_a, ef_109_a⟩ : ∃ z, z = upd f_93 ((11 : Int32)).toNatClampNeg ((1 : Int32)) := ⟨_, rfl⟩
      rw [← ef_109_a] at hR
      have h := h f_109_a ef_109_a
      have hR : Rp κ w y X [(q_2, .inl (kT κ 0, (14, .inl (f_109_a))))] H := hR
      refine lv_dup hx hb dX8_ofVillageNow_110 rfl ?_
      refine lv_bipush (v := (12 : Int32)) hx hb dX8_ofVillageNow_111 (by decide) ?_
      refine lv_aload_n hx hb dX8_ofVillageNow_113 rfl (lv_at hl 1 rfl) ?_
      refine g21_12 hx hb hts hown hK hR l1 q2053 dX8_ofVillageNow_114 ?_
      have o_117_a := h.1
      have h := h.2
      refine xa_iast hx hb hK.1 hS (hR.LD.2 0 _ rfl) (hR.L 0 _ rfl) 0 rfl o_117_a dX8_ofVillageNow_117 (fun H1 locs h1 hz ho hS => ?_)
      have hR := hR.putL (t := 0) rfl h1 hz ho
      clear h1 hz ho
      generalize H1 = H at hR hS ⊢
      obtain ⟨f_117_a, ef_117_a⟩ : ∃ z, z = upd f_109_a ((12 : Int32)).toNatClampNeg (gv w 21 a1 12) := ⟨_, rfl⟩
      rw [← ef_117_a] at hR
      have h := h f_117_a ef_117_a
      have hR : Rp κ w y X [(q_2, .inl (kT κ 0, (14, .inl (f_117_a))))] H := hR
      refine lv_dup hx hb dX8_ofVillageNow_118 rfl ?_
      refine lv_bipush (v := (13 : Int32)) hx hb dX8_ofVillageNow_119 (by decide) ?_
      refine lv_aload_n hx hb dX8_ofVillageNow_121 rfl (lv_at hl 1 rfl) ?_
      refine g21_13 hx hb hts hown hK hR l1 q2054 dX8_ofVillageNow_122 ?_
      have o_125_a := h.1
      have h := h.2
      refine xa_iast hx hb hK.1 hS (hR.LD.2 0 _ rfl) (hR.L 0 _ rfl) 0 rfl o_125_a dX8_ofVillageNow_125 (fun H1 locs h1 hz ho hS => ?_)
      have hR := hR.putL (t := 0) rfl h1 hz ho
      clear h1 hz ho
      generalize H1 = H at hR hS ⊢
      obtain ⟨f_125_a, ef_125_a⟩ : ∃ z, z = upd f_117_a ((13 : Int32)).toNatClampNeg (gv w 21 a1 13) := ⟨_, rfl⟩
      rw [← ef_125_a] at hR
      have h := h f_125_a ef_125_a
      have hR : Rp κ w y X [(q_2, .inl (kT κ 0, (14, .inl (f_125_a))))] H := hR
      refine lv_astore_n (lv' := [(3, .ref (q_2)), (0, .ref (y.2 20 0)), (1, .ref (y.2 21 a1)), (2, .int (p2))]) hx hb dX8_ofVillageNow_126 rfl hl (by decide) rfl (fun ls hl => ?_)
      refine lv_aload_n hx hb dX8_ofVillageNow_127 rfl (lv_at hl 0 rfl) ?_
      refine lv_iload_n hx hb dX8_ofVillageNow_128 rfl (lv_at hl 3 rfl) ?_
      have o_129_a := h.1
      have h := h.2
      refine xa_iald hx hb hK.1 (hR.L 0 _ rfl) 0 rfl o_129_a dX8_ofVillageNow_129 ?_
      have hR := hR.sub (L' := []) [] rfl rfl
      refine W.widen (k := 1) (n := 14) (Nat.le_of_ble_eq_true rfl) (Nat.le_of_ble_eq_true rfl) ?_
      exact W.iret (v := f_125_a (p2).toNatClampNeg) hx hb hr (fun t ht hW9 => ⟨⟨f_125_a (p2).toNatClampNeg, w, rfl, h, rpt ht hR⟩, hS.F ht⟩) hS.2.2 dX8_ofVillageNow_130
  · have h := h.2 c_85
    refine lv_iconst (v := (1 : Int32)) hx hb dX8_ofVillageNow_88 (by decide) ?_
    refine lv_goto (tgt := 93) hx hb dX8_ofVillageNow_89 (by decide) ?_
    have o_93_a := h.1
    have h := h.2
    refine xa_iast hx hb hK.1 hS (hR.LD.2 0 _ rfl) (hR.L 0 _ rfl) 0 rfl o_93_a dX8_ofVillageNow_93 (fun H1 locs h1 hz ho hS => ?_)
    have hR := hR.putL (t := 0) rfl h1 hz ho
    clear h1 hz ho
    generalize H1 = H at hR hS ⊢
    obtain ⟨f_93_a, ef_93_a⟩ : ∃ z, z = upd f_77 ((10 : Int32)).toNatClampNeg ((1 : Int32)) := ⟨_, rfl⟩
    rw [← ef_93_a] at hR
    have h := h f_93_a ef_93_a
    have hR : Rp κ w y X [(q_2, .inl (kT κ 0, (14, .inl (f_93_a))))] H := hR
    refine lv_dup hx hb dX8_ofVillageNow_94 rfl ?_
    refine lv_bipush (v := (11 : Int32)) hx hb dX8_ofVillageNow_95 (by decide) ?_
    refine lv_aload_n hx hb dX8_ofVillageNow_97 rfl (lv_at hl 1 rfl) ?_
    refine g21_11 hx hb hts hown hK hR l1 q2052 dX8_ofVillageNow_98 ?_
    refine lv_if_eq (tgt := 108) hx hb dX8_ofVillageNow_101 (by decide) (fun c_101_a => ?_) (fun c_101_a => ?_)
    · have h := h.1 c_101_a
      refine lv_iconst (v := (0 : Int32)) hx hb dX8_ofVillageNow_108 (by decide) ?_
      have o_109_b := h.1
      have h := h.2
      refine xa_iast hx hb hK.1 hS (hR.LD.2 0 _ rfl) (hR.L 0 _ rfl) 0 rfl o_109_b dX8_ofVillageNow_109 (fun H1 locs h1 hz ho hS => ?_)
      have hR := hR.putL (t := 0) rfl h1 hz ho
      clear h1 hz ho
      generalize H1 = H at hR hS ⊢
      obtain ⟨f_109_b, ef_109_b⟩ : ∃ z, z = upd f_93_a ((11 : Int32)).toNatClampNeg ((0 : Int32)) := ⟨_, rfl⟩
      rw [← ef_109_b] at hR
      have h := h f_109_b ef_109_b
      have hR : Rp κ w y X [(q_2, .inl (kT κ 0, (14, .inl (f_109_b))))] H := hR
      refine lv_dup hx hb dX8_ofVillageNow_110 rfl ?_
      refine lv_bipush (v := (12 : Int32)) hx hb dX8_ofVillageNow_111 (by decide) ?_
      refine lv_aload_n hx hb dX8_ofVillageNow_113 rfl (lv_at hl 1 rfl) ?_
      refine g21_12 hx hb hts hown hK hR l1 q2053 dX8_ofVillageNow_114 ?_
      have o_117_b := h.1
      have h := h.2
      refine xa_iast hx hb hK.1 hS (hR.LD.2 0 _ rfl) (hR.L 0 _ rfl) 0 rfl o_117_b dX8_ofVillageNow_117 (fun H1 locs h1 hz ho hS => ?_)
      have hR := hR.putL (t := 0) rfl h1 hz ho
      clear h1 hz ho
      generalize H1 = H at hR hS ⊢
      obtain ⟨f_117_b, ef_117_b⟩ : ∃ z, z = upd f_109_b ((12 : Int32)).toNatClampNeg (gv w 21 a1 12) := ⟨_, rfl⟩
      rw [← ef_117_b] at hR
      have h := h f_117_b ef_117_b
      have hR : Rp κ w y X [(q_2, .inl (kT κ 0, (14, .inl (f_117_b))))] H := hR
      refine lv_dup hx hb dX8_ofVillageNow_118 rfl ?_
      refine lv_bipush (v := (13 : Int32)) hx hb dX8_ofVillageNow_119 (by decide) ?_
      refine lv_aload_n hx hb dX8_ofVillageNow_121 rfl (lv_at hl 1 rfl) ?_
      refine g21_13 hx hb hts hown hK hR l1 q2054 dX8_ofVillageNow_122 ?_
      have o_125_b := h.1
      have h := h.2
      refine xa_iast hx hb hK.1 hS (hR.LD.2 0 _ rfl) (hR.L 0 _ rfl) 0 rfl o_125_b dX8_ofVillageNow_125 (fun H1 locs h1 hz ho hS => ?_)
      have hR := hR.putL (t := 0) rfl h1 hz ho
      clear h1 hz ho
      generalize H1 = H at hR hS ⊢
      obtain ⟨f_125_b, ef_125_b⟩ : ∃ z, z = upd f_117_b ((13 : Int32)).toNatClampNeg (gv w 21 a1 13) := ⟨_, rfl⟩
      rw [← ef_125_b] at hR
      have h := h f_125_b ef_125_b
      have hR : Rp κ w y X [(q_2, .inl (kT κ 0, (14, .inl (f_125_b))))] H := hR
      refine lv_astore_n (lv' := [(3, .ref (q_2)), (0, .ref (y.2 20 0)), (1, .ref (y.2 21 a1)), (2, .int (p2))]) hx hb dX8_ofVillageNow_126 rfl hl (by decide) rfl (fun ls hl => ?_)
      refine lv_aload_n hx hb dX8_ofVillageNow_127 rfl (lv_at hl 0 rfl) ?_
      refine lv_iload_n hx hb dX8_ofVillageNow_128 rfl (lv_at hl 3 rfl) ?_
      have o_129_b := h.1
      have h := h.2
      refine xa_iald hx hb hK.1 (hR.L 0 _ rfl) 0 rfl o_129_b dX8_ofVillageNow_129 ?_
      have hR := hR.sub (L' := []) [] rfl rfl
      refine W.widen (k := 1) (n := 14) (Nat.le_of_ble_eq_true rfl) (Nat.le_of_ble_eq_true rfl) ?_
      exact W.iret (v := f_125_b (p2).toNatClampNeg) hx hb hr (fun t ht hW9 => ⟨⟨f_125_b (p2).toNatClampNeg, w, rfl, h, rpt ht hR⟩, hS.F ht⟩) hS.2.2 dX8_ofVillageNow_130
    · have h := h.2 c_101_a
      refine lv_iconst (v := (1 : Int32)) hx hb dX8_ofVillageNow_104 (by decide) ?_
      refine lv_goto (tgt := 109) hx hb dX8_ofVillageNow_105 (by decide) ?_
      have o_109_c := h.1
      have h := h.2
      refine xa_iast hx hb hK.1 hS (hR.LD.2 0 _ rfl) (hR.L 0 _ rfl) 0 rfl o_109_c dX8_ofVillageNow_109 (fun H1 locs h1 hz ho hS => ?_)
      have hR := hR.putL (t := 0) rfl h1 hz ho
      clear h1 hz ho
      generalize H1 = H at hR hS ⊢
      obtain ⟨f_109_c, ef_109_c⟩ : ∃ z, z = upd f_93_a ((11 : Int32)).toNatClampNeg ((1 : Int32)) := ⟨_, rfl⟩
      rw [← ef_109_c] at hR
      have h := h f_109_c ef_109_c
      have hR : Rp κ w y X [(q_2, .inl (kT κ 0, (14, .inl (f_109_c))))] H := hR
      refine lv_dup hx hb dX8_ofVillageNow_110 rfl ?_
      refine lv_bipush (v := (12 : Int32)) hx hb dX8_ofVillageNow_111 (by decide) ?_
      refine lv_aload_n hx hb dX8_ofVillageNow_113 rfl (lv_at hl 1 rfl) ?_
      refine g21_12 hx hb hts hown hK hR l1 q2053 dX8_ofVillageNow_114 ?_
      have o_117_c := h.1
      have h := h.2
      refine xa_iast hx hb hK.1 hS (hR.LD.2 0 _ rfl) (hR.L 0 _ rfl) 0 rfl o_117_c dX8_ofVillageNow_117 (fun H1 locs h1 hz ho hS => ?_)
      have hR := hR.putL (t := 0) rfl h1 hz ho
      clear h1 hz ho
      generalize H1 = H at hR hS ⊢
      obtain ⟨f_117_c, ef_117_c⟩ : ∃ z, z = upd f_109_c ((12 : Int32)).toNatClampNeg (gv w 21 a1 12) := ⟨_, rfl⟩
      rw [← ef_117_c] at hR
      have h := h f_117_c ef_117_c
      have hR : Rp κ w y X [(q_2, .inl (kT κ 0, (14, .inl (f_117_c))))] H := hR
      refine lv_dup hx hb dX8_ofVillageNow_118 rfl ?_
      refine lv_bipush (v := (13 : Int32)) hx hb dX8_ofVillageNow_119 (by decide) ?_
      refine lv_aload_n hx hb dX8_ofVillageNow_121 rfl (lv_at hl 1 rfl) ?_
      refine g21_13 hx hb hts hown hK hR l1 q2054 dX8_ofVillageNow_122 ?_
      have o_125_c := h.1
      have h := h.2
      refine xa_iast hx hb hK.1 hS (hR.LD.2 0 _ rfl) (hR.L 0 _ rfl) 0 rfl o_125_c dX8_ofVillageNow_125 (fun H1 locs h1 hz ho hS => ?_)
      have hR := hR.putL (t := 0) rfl h1 hz ho
      clear h1 hz ho
      generalize H1 = H at hR hS ⊢
      obtain ⟨f_125_c, ef_125_c⟩ : ∃ z, z = upd f_117_c ((13 : Int32)).toNatClampNeg (gv w 21 a1 13) := ⟨_, rfl⟩
      rw [← ef_125_c] at hR
      have h := h f_125_c ef_125_c
      have hR : Rp κ w y X [(q_2, .inl (kT κ 0, (14, .inl (f_125_c))))] H := hR
      refine lv_astore_n (lv' := [(3, .ref (q_2)), (0, .ref (y.2 20 0)), (1, .ref (y.2 21 a1)), (2, .int (p2))]) hx hb dX8_ofVillageNow_126 rfl hl (by decide) rfl (fun ls hl => ?_)
      refine lv_aload_n hx hb dX8_ofVillageNow_127 rfl (lv_at hl 0 rfl) ?_
      refine lv_iload_n hx hb dX8_ofVillageNow_128 rfl (lv_at hl 3 rfl) ?_
      have o_129_c := h.1
      have h := h.2
      refine xa_iald hx hb hK.1 (hR.L 0 _ rfl) 0 rfl o_129_c dX8_ofVillageNow_129 ?_
      have hR := hR.sub (L' := []) [] rfl rfl
      refine W.widen (k := 1) (n := 14) (Nat.le_of_ble_eq_true rfl) (Nat.le_of_ble_eq_true rfl) ?_
      exact W.iret (v := f_125_c (p2).toNatClampNeg) hx hb hr (fun t ht hW9 => ⟨⟨f_125_c (p2).toNatClampNeg, w, rfl, h, rpt ht hR⟩, hS.F ht⟩) hS.2.2 dX8_ofVillageNow_130
abbrev rm_X8_levyNow : Room := { frames := 3, cells := 0, slots := 0, locals := 93 }
def sp_X8_levyNow (κ : Kx) (y : Ly) (post : Int32 → Wd → Prop) (w : Wd) (p1 : Int32) (p2 : Int32) (p3 : Int32) : Prop := (vp_in (p1) (mV y)) ∧ ((vp_in (p2) 3) ∧ ((y.1 25 (3 * (((((p1).toNatClampNeg)))) + (p2).toNatClampNeg) = 1 → ((vp_in (p3) 6) ∧ (post (gv w 25 ((3 * (((((p1).toNatClampNeg)))) + (p2).toNatClampNeg)) (p3).toNatClampNeg) w))) ∧ (¬ y.1 25 (3 * (((((p1).toNatClampNeg)))) + (p2).toNatClampNeg) = 1 → (((¬ p3 = (5 : Int32)) → (post ((-1 : Int32)) w)) ∧ ((p3 = (5 : Int32)) → (post ((0 : Int32)) w))))))
theorem hd_X8_levyNow : yX8_levyNow.cls = RX8 ∧ yX8_levyNow.cls ≠ "java/lang/invoke/MethodHandle" ∧ yX8_levyNow.cls ≠ "java/lang/invoke/VarHandle" ∧ (parseMethodDescriptor yX8_levyNow.desc).map (fun d => d.parameters.length) = some 3 := by decide +kernel
set_option maxHeartbeats 4000000 in
theorem m_X8_levyNow {l : Launch} {κ : Kx} {y : Ly} {X : XR} {post : Int32 → Wd → Prop} {w : Wd} {p1 : Int32} {p2 : Int32} {p3 : Int32}  (hM : WFm κ y) (l0 : live y 20 0) (h : sp_X8_levyNow κ y post w p1 p2 p3) : Met l yX8_levyNow (ws_ yX8_levyNow cX8_levyNow 5 (Option.some Jvm.ClassFile.FieldType.int)) rm_X8_levyNow (va_Pc [.ref (y.2 20 0), .int (p1), .int (p2), .int (p3)] (RC κ w y X)) (va_Qi post (fun w t => Rp κ w y X [] t.heap) (Af κ)) 0 0 (Af κ) := by
  unfold sp_X8_levyNow at h
  refine Met.ofW (cc := cX8_levyNow) (maxL := 5) (ret := (Option.some Jvm.ClassFile.FieldType.int)) (by decide) rfl ?_
  intro p e s m args below meth c s₁ B hml hv
  obtain ⟨rfl, hR, hK⟩ := hv
  have hx := B.exec
  have hb := B.bytes
  have hr := B.returns
  have hts := atoms_spec (ws := ws_ yX8_levyNow cX8_levyNow 5 (Option.some Jvm.ClassFile.FieldType.int)) B.pre
  have hts : ∀ w ∈ lw_all, w.before _ s = true := fun w h => hts w (List.mem_cons_of_mem _ h)
  have hown : s.vm.findClass RX8 = some m.cls := findClass_of_methodNamed B.named
  have hlocks := B.notSynchronized
  have hS : va_S (Af κ) s.heap s.heap [] := va_S.rf
  have hl := lv_entry ([.ref (y.2 20 0), .int (p1), .int (p2), .int (p3)]) (n := 5) (Nat.le_of_ble_eq_true rfl)
  rw [lg_entry_eq]
  generalize (lg_sl ([.ref (y.2 20 0), .int (p1), .int (p2), .int (p3)]) ++ List.replicate (5 - (lg_sl ([.ref (y.2 20 0), .int (p1), .int (p2), .int (p3)])).length) Slot.unset).toArray = ls at hl ⊢
  have hl : lv_has ls 5 [(0, .ref (y.2 20 0)), (1, .int (p1)), (2, .int (p2)), (3, .int (p3))] := hl
  refine lv_aload_n hx hb dX8_levyNow_0 rfl (lv_at hl 0 rfl) ?_
  refine g20_3 hx hb hts hown hK hR l0 q1948 dX8_levyNow_1 ?_
  refine lv_iload_n hx hb dX8_levyNow_4 rfl (lv_at hl 1 rfl) ?_
  have o_5 := h.1
  have h := h.2
  refine jr_get (a := y.2 21 ((p1).toNatClampNeg)) ⟨hx, hb, hml, hown, hts⟩ hK hR ⟨fun _ _ _ _ _ => rfl, fun _ _ _ _ _ => rfl⟩ hM.lsV ⟨hM.arV (Nat.lt_of_le_of_lt (Nat.zero_le _) (vp_lt o_5)), (Nat.le_trans hM.mV8 (by decide))⟩ o_5 (hM.elV (vp_lt o_5)) q2101 ⟨Nat.le_of_ble_eq_true rfl, Nat.le_of_ble_eq_true rfl⟩ hl.1 (Nat.le_of_ble_eq_true rfl) dX8_levyNow_5 ⟨(Nat.le_of_ble_eq_true rfl), (Nat.le_of_ble_eq_true rfl)⟩ ?_
  refine jr_castS (ci := 12) hx hb hown hK hts (hR.role (hM.vil (vp_lt o_5))) rfl q2032 dX8_levyNow_8 ?_
  refine g21_16 hx hb hts hown hK hR (hM.vil (vp_lt o_5)) q2060 dX8_levyNow_11 ?_
  refine lv_iload_n hx hb dX8_levyNow_14 rfl (lv_at hl 2 rfl) ?_
  have o_15 := h.1
  have h := h.2
  refine a24 hx hb hK hR (hM.vle (hM.vil (vp_lt o_5))) o_15 dX8_levyNow_15 (fun c_15 => ?_) (fun c_15 => ?_)
  · have h := h.1 c_15
    refine lv_astore (lv' := [(4, .ref (y.2 25 (3 * (((((p1).toNatClampNeg)))) + (p2).toNatClampNeg))), (0, .ref (y.2 20 0)), (1, .int (p1)), (2, .int (p2)), (3, .int (p3))]) hx hb dX8_levyNow_16 hl (by decide) rfl (fun ls hl => ?_)
    refine lv_aload hx hb dX8_levyNow_18 (lv_at hl 0 rfl) ?_
    refine lv_ifnonnull (tgt := 36) hx hb dX8_levyNow_20 (by decide) ?_
    refine lv_aload hx hb dX8_levyNow_36 (lv_at hl 0 rfl) ?_
    refine lv_iload_n hx hb dX8_levyNow_38 rfl (lv_at hl 4 rfl) ?_
    have o_39 := h.1
    have h := h.2
    refine a25 hx hb hK hR ⟨c_15, by decide⟩ o_39 dX8_levyNow_39 ?_
    refine W.widen (k := 0) (n := 0) (Nat.le_of_ble_eq_true rfl) (Nat.le_of_ble_eq_true rfl) ?_
    exact W.iret (v := gv w 25 ((3 * (((((p1).toNatClampNeg)))) + (p2).toNatClampNeg)) (p3).toNatClampNeg) hx hb hr (fun t ht hW9 => ⟨⟨gv w 25 ((3 * (((((p1).toNatClampNeg)))) + (p2).toNatClampNeg)) (p3).toNatClampNeg, w, rfl, h, rpt ht hR⟩, hS.F ht⟩) hS.2.2 dX8_levyNow_40
  · have h := h.2 c_15
    refine lv_astoreN (lv' := [(4, .null), (0, .ref (y.2 20 0)), (1, .int (p1)), (2, .int (p2)), (3, .int (p3))]) hx hb dX8_levyNow_16 hl (by decide) rfl (fun ls hl => ?_)
    refine lv_aloadN hx hb dX8_levyNow_18 (lv_at hl 0 rfl) ?_
    refine lv_ifnonnullN hx hb dX8_levyNow_20 ?_
    refine lv_iload_n hx hb dX8_levyNow_23 rfl (lv_at hl 4 rfl) ?_
    refine lv_iconst (v := (5 : Int32)) hx hb dX8_levyNow_24 (by decide) ?_
    refine lv_icmp_ne (tgt := 32) hx hb dX8_levyNow_25 (by decide) (fun c_25 => ?_) (fun c_25 => ?_)
    · have h := h.1 c_25
      refine lv_iconst (v := (-1 : Int32)) hx hb dX8_levyNow_32 (by decide) ?_
      refine lv_goto (tgt := 40) hx hb dX8_levyNow_33 (by decide) ?_
      refine W.widen (k := 0) (n := 0) (Nat.le_of_ble_eq_true rfl) (Nat.le_of_ble_eq_true rfl) ?_
      exact W.iret (v := (-1 : Int32)) hx hb hr (fun t ht hW9 => ⟨⟨(-1 : Int32), w, rfl, h, rpt ht hR⟩, hS.F ht⟩) hS.2.2 dX8_levyNow_40
    · have h := h.2 c_25
      refine lv_iconst (v := (0 : Int32)) hx hb dX8_levyNow_28 (by decide) ?_
      refine lv_goto (tgt := 40) hx hb dX8_levyNow_29 (by decide) ?_
      refine W.widen (k := 0) (n := 0) (Nat.le_of_ble_eq_true rfl) (Nat.le_of_ble_eq_true rfl) ?_
      exact W.iret (v := (0 : Int32)) hx hb hr (fun t ht hW9 => ⟨⟨(0 : Int32), w, rfl, h, rpt ht hR⟩, hS.F ht⟩) hS.2.2 dX8_levyNow_40
abbrev rm_X8_lawNow : Room := { frames := 0, cells := 1, slots := 5, locals := 0 }
def sp_X8_lawNow (κ : Kx) (y : Ly) (post : Int32 → Wd → Prop) (w : Wd) (p1 : Int32) (p2 : Int32) : Prop := (vp_in (p1) 3) ∧ ((vp_in ((0 : Int32)) 5) ∧ (∀ f_11 : Nat → Int32, f_11 = upd ((fun _ => 0)) ((0 : Int32)).toNatClampNeg (gv w 30 0 (p1).toNatClampNeg) → (vp_in (p1) 3) ∧ ((vp_in ((1 : Int32)) 5) ∧ (∀ f_20 : Nat → Int32, f_20 = upd f_11 ((1 : Int32)).toNatClampNeg (gv w 31 0 (p1).toNatClampNeg) → (vp_in (p1) 3) ∧ ((vp_in ((2 : Int32)) 5) ∧ (∀ f_29 : Nat → Int32, f_29 = upd f_20 ((2 : Int32)).toNatClampNeg (gv w 32 0 (p1).toNatClampNeg) → (vp_in (p1) 3) ∧ (((gv w 34 0 (p1).toNatClampNeg = 0) → ((vp_in ((3 : Int32)) 5) ∧ (∀ f_46 : Nat → Int32, f_46 = upd f_29 ((3 : Int32)).toNatClampNeg ((0 : Int32)) → (vp_in (p1) 3) ∧ ((vp_in ((4 : Int32)) 5) ∧ (∀ f_55 : Nat → Int32, f_55 = upd f_46 ((4 : Int32)).toNatClampNeg (gv w 35 0 (p1).toNatClampNeg) → (vp_in (p2) 5) ∧ (post (f_55 (p2).toNatClampNeg) w)))))) ∧ ((¬ (gv w 34 0 (p1).toNatClampNeg = 0)) → ((vp_in ((3 : Int32)) 5) ∧ (∀ f_46_a : Nat → Int32, f_46_a = upd f_29 ((3 : Int32)).toNatClampNeg ((1 : Int32)) → (vp_in (p1) 3) ∧ ((vp_in ((4 : Int32)) 5) ∧ (∀ f_55_a : Nat → Int32, f_55_a = upd f_46_a ((4 : Int32)).toNatClampNeg (gv w 35 0 (p1).toNatClampNeg) → (vp_in (p2) 5) ∧ (post (f_55_a (p2).toNatClampNeg) w)))))))))))))
theorem hd_X8_lawNow : yX8_lawNow.cls = RX8 ∧ yX8_lawNow.cls ≠ "java/lang/invoke/MethodHandle" ∧ yX8_lawNow.cls ≠ "java/lang/invoke/VarHandle" ∧ (parseMethodDescriptor yX8_lawNow.desc).map (fun d => d.parameters.length) = some 2 := by decide +kernel
set_option maxHeartbeats 4000000 in
theorem m_X8_lawNow {l : Launch} {κ : Kx} {y : Ly} {X : XR} {post : Int32 → Wd → Prop} {w : Wd} {p1 : Int32} {p2 : Int32}  (hM : WFm κ y) (l0 : live y 20 0) (h : sp_X8_lawNow κ y post w p1 p2) : Met l yX8_lawNow (ws_ yX8_lawNow cX8_lawNow 4 (Option.some Jvm.ClassFile.FieldType.int)) rm_X8_lawNow (va_Pc [.ref (y.2 20 0), .int (p1), .int (p2)] (RC κ w y X)) (va_Qi post (fun w t => Rp κ w y X [] t.heap) (Af κ)) 1 5 (Af κ) := by
  unfold sp_X8_lawNow at h
  refine Met.ofW (cc := cX8_lawNow) (maxL := 4) (ret := (Option.some Jvm.ClassFile.FieldType.int)) (by decide) rfl ?_
  intro p e s m args below meth c s₁ B hml hv
  obtain ⟨rfl, hR, hK⟩ := hv
  have hx := B.exec
  have hb := B.bytes
  have hr := B.returns
  have hts := atoms_spec (ws := ws_ yX8_lawNow cX8_lawNow 4 (Option.some Jvm.ClassFile.FieldType.int)) B.pre
  have hts : ∀ w ∈ lw_all, w.before _ s = true := fun w h => hts w (List.mem_cons_of_mem _ h)
  have hown : s.vm.findClass RX8 = some m.cls := findClass_of_methodNamed B.named
  have hlocks := B.notSynchronized
  have hS : va_S (Af κ) s.heap s.heap [] := va_S.rf
  have hl := lv_entry ([.ref (y.2 20 0), .int (p1), .int (p2)]) (n := 4) (Nat.le_of_ble_eq_true rfl)
  rw [lg_entry_eq]
  generalize (lg_sl ([.ref (y.2 20 0), .int (p1), .int (p2)]) ++ List.replicate (4 - (lg_sl ([.ref (y.2 20 0), .int (p1), .int (p2)])).length) Slot.unset).toArray = ls at hl ⊢
  have hl : lv_has ls 4 [(0, .ref (y.2 20 0)), (1, .int (p1)), (2, .int (p2))] := hl
  refine lv_iconst (v := (5 : Int32)) hx hb dX8_lawNow_0 (by decide) ?_
  refine xa_newa (ty := .int) (N' := 5) (a0 := (5, .inl (fun _ => 0))) hx hb hts q995 rfl hK.1 0 rfl (by intro C h9; cases h9) hS rfl (by decide) (by decide) (by decide) (Nat.le_of_ble_eq_true rfl) (Nat.le_of_ble_eq_true rfl) dX8_lawNow_1 (fun q_1 H1 hq h1 hz ho hS => ?_)
  have hR := hR.newL hq h1 (by omega) ho
  clear hq h1 hz ho
  generalize H1 = H at hR hS ⊢
  have hR : Rp κ w y X [(q_1, .inl (kT κ 0, (5, .inl ((fun _ => 0)))))] H := hR
  refine lv_dup hx hb dX8_lawNow_3 rfl ?_
  refine lv_iconst (v := (0 : Int32)) hx hb dX8_lawNow_4 (by decide) ?_
  refine lv_aload_n hx hb dX8_lawNow_5 rfl (lv_at hl 0 rfl) ?_
  refine g20_6 hx hb hts hown hK hR l0 q1951 dX8_lawNow_6 ?_
  refine lv_iload_n hx hb dX8_lawNow_9 rfl (lv_at hl 1 rfl) ?_
  have o_10 := h.1
  have h := h.2
  refine a30 hx hb hK hR hM.r30 o_10 dX8_lawNow_10 ?_
  have o_11 := h.1
  have h := h.2
  refine xa_iast hx hb hK.1 hS (hR.LD.2 0 _ rfl) (hR.L 0 _ rfl) 0 rfl o_11 dX8_lawNow_11 (fun H1 locs h1 hz ho hS => ?_)
  have hR := hR.putL (t := 0) rfl h1 hz ho
  clear h1 hz ho
  generalize H1 = H at hR hS ⊢
  obtain ⟨f_11, ef_11⟩ : ∃ z, z = upd ((fun _ => 0)) ((0 : Int32)).toNatClampNeg (gv w 30 0 (p1).toNatClampNeg) := ⟨_, rfl⟩
  rw [← ef_11] at hR
  have h := h f_11 ef_11
  have hR : Rp κ w y X [(q_1, .inl (kT κ 0, (5, .inl (f_11))))] H := hR
  refine lv_dup hx hb dX8_lawNow_12 rfl ?_
  refine lv_iconst (v := (1 : Int32)) hx hb dX8_lawNow_13 (by decide) ?_
  refine lv_aload_n hx hb dX8_lawNow_14 rfl (lv_at hl 0 rfl) ?_
  refine g20_7 hx hb hts hown hK hR l0 q1952 dX8_lawNow_15 ?_
  refine lv_iload_n hx hb dX8_lawNow_18 rfl (lv_at hl 1 rfl) ?_
  have o_19 := h.1
  have h := h.2
  refine a31 hx hb hK hR hM.r31 o_19 dX8_lawNow_19 ?_
  have o_20 := h.1
  have h := h.2
  refine xa_iast hx hb hK.1 hS (hR.LD.2 0 _ rfl) (hR.L 0 _ rfl) 0 rfl o_20 dX8_lawNow_20 (fun H1 locs h1 hz ho hS => ?_)
  have hR := hR.putL (t := 0) rfl h1 hz ho
  clear h1 hz ho
  generalize H1 = H at hR hS ⊢
  obtain ⟨f_20, ef_20⟩ : ∃ z, z = upd f_11 ((1 : Int32)).toNatClampNeg (gv w 31 0 (p1).toNatClampNeg) := ⟨_, rfl⟩
  rw [← ef_20] at hR
  have h := h f_20 ef_20
  have hR : Rp κ w y X [(q_1, .inl (kT κ 0, (5, .inl (f_20))))] H := hR
  refine lv_dup hx hb dX8_lawNow_21 rfl ?_
  refine lv_iconst (v := (2 : Int32)) hx hb dX8_lawNow_22 (by decide) ?_
  refine lv_aload_n hx hb dX8_lawNow_23 rfl (lv_at hl 0 rfl) ?_
  refine g20_8 hx hb hts hown hK hR l0 q1953 dX8_lawNow_24 ?_
  refine lv_iload_n hx hb dX8_lawNow_27 rfl (lv_at hl 1 rfl) ?_
  have o_28 := h.1
  have h := h.2
  refine a32 hx hb hK hR hM.r32 o_28 dX8_lawNow_28 ?_
  have o_29 := h.1
  have h := h.2
  refine xa_iast hx hb hK.1 hS (hR.LD.2 0 _ rfl) (hR.L 0 _ rfl) 0 rfl o_29 dX8_lawNow_29 (fun H1 locs h1 hz ho hS => ?_)
  have hR := hR.putL (t := 0) rfl h1 hz ho
  clear h1 hz ho
  generalize H1 = H at hR hS ⊢
  obtain ⟨f_29, ef_29⟩ : ∃ z, z = upd f_20 ((2 : Int32)).toNatClampNeg (gv w 32 0 (p1).toNatClampNeg) := ⟨_, rfl⟩
  rw [← ef_29] at hR
  have h := h f_29 ef_29
  have hR : Rp κ w y X [(q_1, .inl (kT κ 0, (5, .inl (f_29))))] H := hR
  refine lv_dup hx hb dX8_lawNow_30 rfl ?_
  refine lv_iconst (v := (3 : Int32)) hx hb dX8_lawNow_31 (by decide) ?_
  refine lv_aload_n hx hb dX8_lawNow_32 rfl (lv_at hl 0 rfl) ?_
  refine g20_10 hx hb hts hown hK hR l0 q1955 dX8_lawNow_33 ?_
  refine lv_iload_n hx hb dX8_lawNow_36 rfl (lv_at hl 1 rfl) ?_
  have o_37 := h.1
  have h := h.2
  refine a34 hx hb hK hR hM.r34 o_37 dX8_lawNow_37 ?_
  refine lv_if_eq (tgt := 45) hx hb dX8_lawNow_38 (by decide) (fun c_38 => ?_) (fun c_38 => ?_)
  · have h := h.1 c_38
    refine lv_iconst (v := (0 : Int32)) hx hb dX8_lawNow_45 (by decide) ?_
    have o_46 := h.1
    have h := h.2
    refine xa_iast hx hb hK.1 hS (hR.LD.2 0 _ rfl) (hR.L 0 _ rfl) 0 rfl o_46 dX8_lawNow_46 (fun H1 locs h1 hz ho hS => ?_)
    have hR := hR.putL (t := 0) rfl h1 hz ho
    clear h1 hz ho
    generalize H1 = H at hR hS ⊢
    obtain ⟨f_46, ef_46⟩ : ∃ z, z = upd f_29 ((3 : Int32)).toNatClampNeg ((0 : Int32)) := ⟨_, rfl⟩
    rw [← ef_46] at hR
    have h := h f_46 ef_46
    have hR : Rp κ w y X [(q_1, .inl (kT κ 0, (5, .inl (f_46))))] H := hR
    refine lv_dup hx hb dX8_lawNow_47 rfl ?_
    refine lv_iconst (v := (4 : Int32)) hx hb dX8_lawNow_48 (by decide) ?_
    refine lv_aload_n hx hb dX8_lawNow_49 rfl (lv_at hl 0 rfl) ?_
    refine g20_11 hx hb hts hown hK hR l0 q1956 dX8_lawNow_50 ?_
    refine lv_iload_n hx hb dX8_lawNow_53 rfl (lv_at hl 1 rfl) ?_
    have o_54 := h.1
    have h := h.2
    refine a35 hx hb hK hR hM.r35 o_54 dX8_lawNow_54 ?_
    have o_55 := h.1
    have h := h.2
    refine xa_iast hx hb hK.1 hS (hR.LD.2 0 _ rfl) (hR.L 0 _ rfl) 0 rfl o_55 dX8_lawNow_55 (fun H1 locs h1 hz ho hS => ?_)
    have hR := hR.putL (t := 0) rfl h1 hz ho
    clear h1 hz ho
    generalize H1 = H at hR hS ⊢
    obtain ⟨f_55, ef_55⟩ : ∃ z, z = upd f_46 ((4 : Int32)).toNatClampNeg (gv w 35 0 (p1).toNatClampNeg) := ⟨_, rfl⟩
    rw [← ef_55] at hR
    have h := h f_55 ef_55
    have hR : Rp κ w y X [(q_1, .inl (kT κ 0, (5, .inl (f_55))))] H := hR
    refine lv_astore_n (lv' := [(3, .ref (q_1)), (0, .ref (y.2 20 0)), (1, .int (p1)), (2, .int (p2))]) hx hb dX8_lawNow_56 rfl hl (by decide) rfl (fun ls hl => ?_)
    refine lv_aload_n hx hb dX8_lawNow_57 rfl (lv_at hl 0 rfl) ?_
    refine lv_iload_n hx hb dX8_lawNow_58 rfl (lv_at hl 3 rfl) ?_
    have o_59 := h.1
    have h := h.2
    refine xa_iald hx hb hK.1 (hR.L 0 _ rfl) 0 rfl o_59 dX8_lawNow_59 ?_
    have hR := hR.sub (L' := []) [] rfl rfl
    refine W.widen (k := 1) (n := 5) (Nat.le_of_ble_eq_true rfl) (Nat.le_of_ble_eq_true rfl) ?_
    exact W.iret (v := f_55 (p2).toNatClampNeg) hx hb hr (fun t ht hW9 => ⟨⟨f_55 (p2).toNatClampNeg, w, rfl, h, rpt ht hR⟩, hS.F ht⟩) hS.2.2 dX8_lawNow_60
  · have h := h.2 c_38
    refine lv_iconst (v := (1 : Int32)) hx hb dX8_lawNow_41 (by decide) ?_
    refine lv_goto (tgt := 46) hx hb dX8_lawNow_42 (by decide) ?_
    have o_46_a := h.1
    have h := h.2
    refine xa_iast hx hb hK.1 hS (hR.LD.2 0 _ rfl) (hR.L 0 _ rfl) 0 rfl o_46_a dX8_lawNow_46 (fun H1 locs h1 hz ho hS => ?_)
    have hR := hR.putL (t := 0) rfl h1 hz ho
    clear h1 hz ho
    generalize H1 = H at hR hS ⊢
    obtain ⟨f_46_a, ef_46_a⟩ : ∃ z, z = upd f_29 ((3 : Int32)).toNatClampNeg ((1 : Int32)) := ⟨_, rfl⟩
    rw [← ef_46_a] at hR
    have h := h f_46_a ef_46_a
    have hR : Rp κ w y X [(q_1, .inl (kT κ 0, (5, .inl (f_46_a))))] H := hR
    refine lv_dup hx hb dX8_lawNow_47 rfl ?_
    refine lv_iconst (v := (4 : Int32)) hx hb dX8_lawNow_48 (by decide) ?_
    refine lv_aload_n hx hb dX8_lawNow_49 rfl (lv_at hl 0 rfl) ?_
    refine g20_11 hx hb hts hown hK hR l0 q1956 dX8_lawNow_50 ?_
    refine lv_iload_n hx hb dX8_lawNow_53 rfl (lv_at hl 1 rfl) ?_
    have o_54_a := h.1
    have h := h.2
    refine a35 hx hb hK hR hM.r35 o_54_a dX8_lawNow_54 ?_
    have o_55_a := h.1
    have h := h.2
    refine xa_iast hx hb hK.1 hS (hR.LD.2 0 _ rfl) (hR.L 0 _ rfl) 0 rfl o_55_a dX8_lawNow_55 (fun H1 locs h1 hz ho hS => ?_)
    have hR := hR.putL (t := 0) rfl h1 hz ho
    clear h1 hz ho
    generalize H1 = H at hR hS ⊢
    obtain ⟨f_55_a, ef_55_a⟩ : ∃ z, z = upd f_46_a ((4 : Int32)).toNatClampNeg (gv w 35 0 (p1).toNatClampNeg) := ⟨_, rfl⟩
    rw [← ef_55_a] at hR
    have h := h f_55_a ef_55_a
    have hR : Rp κ w y X [(q_1, .inl (kT κ 0, (5, .inl (f_55_a))))] H := hR
    refine lv_astore_n (lv' := [(3, .ref (q_1)), (0, .ref (y.2 20 0)), (1, .int (p1)), (2, .int (p2))]) hx hb dX8_lawNow_56 rfl hl (by decide) rfl (fun ls hl => ?_)
    refine lv_aload_n hx hb dX8_lawNow_57 rfl (lv_at hl 0 rfl) ?_
    refine lv_iload_n hx hb dX8_lawNow_58 rfl (lv_at hl 3 rfl) ?_
    have o_59_a := h.1
    have h := h.2
    refine xa_iald hx hb hK.1 (hR.L 0 _ rfl) 0 rfl o_59_a dX8_lawNow_59 ?_
    have hR := hR.sub (L' := []) [] rfl rfl
    refine W.widen (k := 1) (n := 5) (Nat.le_of_ble_eq_true rfl) (Nat.le_of_ble_eq_true rfl) ?_
    exact W.iret (v := f_55_a (p2).toNatClampNeg) hx hb hr (fun t ht hW9 => ⟨⟨f_55_a (p2).toNatClampNeg, w, rfl, h, rpt ht hR⟩, hS.F ht⟩) hS.2.2 dX8_lawNow_60
abbrev rm_X8_ofCompanyNow : Room := { frames := 4, cells := 4, slots := 25, locals := 93 }
def st_X8_ofCompanyNow_24 (κ : Kx) (y : Ly) (post : Int32 → Wd → Prop) (ex : Wd → (Int32) → Prop) (rec : Wd → Int32 → Nat → Int32 → Prop) (v1 : Int32) (v2 : Int32) (i3 : Nat) (w : Wd) (v4 : Int32) (c5 : Nat) (z5 : Int32) : Prop := ((¬ (¬ c5 = mL y)) → (ex w v4)) ∧ (((¬ c5 = mL y)) → (((¬ gv w 27 c5 4 = (1 : Int32)) → (∀ x_72 : Int32, x_72 = v4 + (0 : Int32) → rec w x_72 (c5 + 1) (nI c5))) ∧ ((gv w 27 c5 4 = (1 : Int32)) → (((¬ gv w 27 c5 5 = v1) → (∀ x_72_a : Int32, x_72_a = v4 + (0 : Int32) → rec w x_72_a (c5 + 1) (nI c5))) ∧ ((gv w 27 c5 5 = v1) → (∀ x_72_b : Int32, x_72_b = v4 + (1 : Int32) → rec w x_72_b (c5 + 1) (nI c5)))))))
def sp_X8_ofCompanyNow_24 (κ : Kx) (y : Ly) (post : Int32 → Wd → Prop) (ex : Wd → (Int32) → Prop) (v1 : Int32) (v2 : Int32) (i3 : Nat) : Nat → Wd → Int32 → Nat → Int32 → Prop
  | 0 => fun _ _ _ _ => False
  | n + 1 => fun w v4 c5 z5 => st_X8_ofCompanyNow_24 κ y post ex (sp_X8_ofCompanyNow_24 κ y post ex v1 v2 i3 n) v1 v2 i3 w v4 c5 z5
set_option maxHeartbeats 4000000 in
theorem lp_X8_ofCompanyNow_24 {p : Program} {l : Launch} {e : Env} {s : State} {m : MethodId} {args : Array Value} {below : List Frame} {meth : Method} {c : Code} {κ : Kx} {y : Ly} {X : XR} {post : Int32 → Wd → Prop} {q5 : Nat} {v1 : Int32} {v2 : Int32} {i3 : Nat} (hx : p.tables.exec = Jvm.exec) (hb : c.code = cX8_ofCompanyNow) (hr : meth.sig.returnType = (Option.some Jvm.ClassFile.FieldType.int)) (hml : c.maxLocals = 7) (hown : s.vm.findClass RX8 = some m.cls) (hts : ∀ w ∈ lw_all, w.before args s = true) (hlocks : meth.locks = false) (hK : KK κ s) (hM : WFm κ y) (l0 : live y 20 0) (l3 : live y 26 i3) {C1 S1 : Nat} (hC : C1 ≤ 4) (hSl : S1 ≤ 25) {ex : Wd → (Int32) → Prop}
    (kx : ∀ (w : Wd) (v4 : Int32) (H : Heap) (locs : List Loc) (ls : Array Slot) (cells slots : Nat) , ex w v4 → Rp κ w y X [] H → va_S (Af κ) s.heap H locs → lv_has ls 7 [(0, .ref (y.2 20 0)), (1, .int (v1)), (2, .int (v2)), (3, .ref (y.2 26 i3)), (4, .int (v4))] → cells ≤ C1 → slots ≤ S1 → W p l e (headSpec (ws_ yX8_ofCompanyNow cX8_ofCompanyNow 7 (Option.some Jvm.ClassFile.FieldType.int)) rm_X8_ofCompanyNow).room s m args below meth c H locs cells slots (MQ below (va_Qi post (fun w t => Rp κ w y X [] t.heap) (Af κ)) args s 4 25 (Af κ)) (F0 m 77 ls [])) :
    ∀ (f : Nat) (w : Wd) (v4 : Int32) (c5 : Nat) (z5 : Int32) (H : Heap) (locs : List Loc) (ls : Array Slot) (cells slots : Nat)  (hc5 : c5 ≤ mL y), sp_X8_ofCompanyNow_24 κ y post ex v1 v2 i3 f w v4 c5 z5 → Rp κ w y X [(q5, itC y 54 0 c5 z5)] H → va_S (Af κ) s.heap H locs → lv_has ls 7 [(0, .ref (y.2 20 0)), (1, .int (v1)), (2, .int (v2)), (3, .ref (y.2 26 i3)), (4, .int (v4)), (5, .ref (q5))] → cells + f * 0 ≤ C1 → slots + f * 0 ≤ S1 → W p l e (headSpec (ws_ yX8_ofCompanyNow cX8_ofCompanyNow 7 (Option.some Jvm.ClassFile.FieldType.int)) rm_X8_ofCompanyNow).room s m args below meth c H locs cells slots (MQ below (va_Qi post (fun w t => Rp κ w y X [] t.heap) (Af κ)) args s 4 25 (Af κ)) (F0 m 24 ls []) := by
  intro f
  induction f with
  | zero =>
    intro w v4 c5 z5 H locs ls cells slots hc5 h
    exact False.elim h
  | succ f ih =>
    intro w v4 c5 z5 H locs ls cells slots hc5 h hR hS hl hc hs
    have h : st_X8_ofCompanyNow_24 κ y post ex (sp_X8_ofCompanyNow_24 κ y post ex v1 v2 i3 f) v1 v2 i3 w v4 c5 z5 := h
    unfold st_X8_ofCompanyNow_24 at h
    refine lv_aload hx hb dX8_ofCompanyNow_24 (lv_at hl 5 rfl) ?_
    refine jr_hasNext (t := 0) ⟨hx, hb, hml, hown, hts⟩ hK hR rfl ⟨fun _ _ _ _ _ => rfl, fun _ _ _ _ _ => rfl⟩ hM.lsL (by omega) (Nat.le_trans hM.mL8 (by decide)) q2250 ⟨Nat.le_of_ble_eq_true rfl, Nat.le_of_ble_eq_true rfl⟩ hl.1 (Nat.le_of_ble_eq_true rfl) dX8_ofCompanyNow_26 ⟨(Nat.le_trans (show cells + 0 ≤ C1 from by omega) hC), (Nat.le_trans (show slots + 0 ≤ S1 from by omega) hSl)⟩ ?_
    refine lv_if_eq (tgt := 77) hx hb dX8_ofCompanyNow_31 (by decide) (fun c_31 => ?_) (fun c_31 => ?_)
    · replace c_31 : ¬ (¬ c5 = mL y) := bi_0.mp c_31
      have h := h.1 c_31
      have hR := hR.sub (L' := []) [] rfl rfl
      exact kx w v4 _ _ _ _ _ h hR hS (lv_sub hl [0, 1, 2, 3, 4] rfl) (by omega) (by omega)
    · replace c_31 : (¬ c5 = mL y) := bi_n0.mp c_31
      have h := h.2 c_31
      refine lv_aload hx hb dX8_ofCompanyNow_34 (lv_at hl 5 rfl) ?_
      have hn_36 : c5 < mL y := by omega
      refine jr_next (t := 0) (a := y.2 27 c5) ⟨hx, hb, hml, hown, hts⟩ hK hR hS rfl ⟨fun _ _ _ _ _ => rfl, fun _ _ _ _ _ => rfl⟩ hM.lsL ⟨hM.arL (Nat.lt_of_le_of_lt (Nat.zero_le _) hn_36), (Nat.le_trans hM.mL8 (by decide))⟩ hn_36 (hM.elL hn_36) q2252 ⟨Nat.le_of_ble_eq_true rfl, Nat.le_of_ble_eq_true rfl⟩ hl.1 (Nat.le_of_ble_eq_true rfl) dX8_ofCompanyNow_36 ⟨(Nat.le_trans (show cells + 0 ≤ C1 from by omega) hC), (Nat.le_trans (show slots + 0 ≤ S1 from by omega) hSl)⟩ (fun H locs hR hS => ?_)
      have hR : Rp κ w y X [(q5, itC y 54 0 (c5 + 1) (nI c5))] H := hR
      refine jr_castS (ci := 14) hx hb hown hK hts (hR.role (hM.lot hn_36)) rfl q2253 dX8_ofCompanyNow_41 ?_
      refine lv_astore (lv' := [(6, .ref (y.2 27 c5)), (0, .ref (y.2 20 0)), (1, .int (v1)), (2, .int (v2)), (3, .ref (y.2 26 i3)), (4, .int (v4)), (5, .ref (q5))]) hx hb dX8_ofCompanyNow_44 hl (by decide) rfl (fun ls hl => ?_)
      refine lv_iload hx hb dX8_ofCompanyNow_46 (lv_at hl 5 rfl) ?_
      refine lv_aload hx hb dX8_ofCompanyNow_48 (lv_at hl 0 rfl) ?_
      refine g27_4 hx hb hts hown hK hR (hM.lot hn_36) q2264 dX8_ofCompanyNow_50 ?_
      refine lv_iconst (v := (1 : Int32)) hx hb dX8_ofCompanyNow_53 (by decide) ?_
      refine lv_icmp_ne (tgt := 70) hx hb dX8_ofCompanyNow_54 (by decide) (fun c_54 => ?_) (fun c_54 => ?_)
      · have h := h.1 c_54
        refine lv_iconst (v := (0 : Int32)) hx hb dX8_ofCompanyNow_70 (by decide) ?_
        refine lv_iadd hx hb dX8_ofCompanyNow_71 ?_
        refine lv_topi (fun x_72 ex_72 => ?_)
        have h := h x_72 ex_72
        refine lv_istore (lv' := [(4, .int (x_72)), (6, .ref (y.2 27 c5)), (0, .ref (y.2 20 0)), (1, .int (v1)), (2, .int (v2)), (3, .ref (y.2 26 i3)), (5, .ref (q5))]) hx hb dX8_ofCompanyNow_72 hl (by decide) rfl (fun ls hl => ?_)
        refine lv_goto (tgt := 24) hx hb dX8_ofCompanyNow_74 (by decide) ?_
        exact ih w x_72 (c5 + 1) (nI c5) _ _ _ _ _ (by omega) h hR hS (lv_sub hl [2, 3, 4, 5, 0, 6] rfl) (by omega) (by omega)
      · have h := h.2 c_54
        refine lv_aload hx hb dX8_ofCompanyNow_57 (lv_at hl 0 rfl) ?_
        refine g27_5 hx hb hts hown hK hR (hM.lot hn_36) q2266 dX8_ofCompanyNow_59 ?_
        refine lv_iload_n hx hb dX8_ofCompanyNow_62 rfl (lv_at hl 2 rfl) ?_
        refine lv_icmp_ne (tgt := 70) hx hb dX8_ofCompanyNow_63 (by decide) (fun c_63 => ?_) (fun c_63 => ?_)
        · have h := h.1 c_63
          refine lv_iconst (v := (0 : Int32)) hx hb dX8_ofCompanyNow_70 (by decide) ?_
          refine lv_iadd hx hb dX8_ofCompanyNow_71 ?_
          refine lv_topi (fun x_72_a ex_72_a => ?_)
          have h := h x_72_a ex_72_a
          refine lv_istore (lv' := [(4, .int (x_72_a)), (6, .ref (y.2 27 c5)), (0, .ref (y.2 20 0)), (1, .int (v1)), (2, .int (v2)), (3, .ref (y.2 26 i3)), (5, .ref (q5))]) hx hb dX8_ofCompanyNow_72 hl (by decide) rfl (fun ls hl => ?_)
          refine lv_goto (tgt := 24) hx hb dX8_ofCompanyNow_74 (by decide) ?_
          exact ih w x_72_a (c5 + 1) (nI c5) _ _ _ _ _ (by omega) h hR hS (lv_sub hl [2, 3, 4, 5, 0, 6] rfl) (by omega) (by omega)
        · have h := h.2 c_63
          refine lv_iconst (v := (1 : Int32)) hx hb dX8_ofCompanyNow_66 (by decide) ?_
          refine lv_goto (tgt := 71) hx hb dX8_ofCompanyNow_67 (by decide) ?_
          refine lv_iadd hx hb dX8_ofCompanyNow_71 ?_
          refine lv_topi (fun x_72_b ex_72_b => ?_)
          have h := h x_72_b ex_72_b
          refine lv_istore (lv' := [(4, .int (x_72_b)), (6, .ref (y.2 27 c5)), (0, .ref (y.2 20 0)), (1, .int (v1)), (2, .int (v2)), (3, .ref (y.2 26 i3)), (5, .ref (q5))]) hx hb dX8_ofCompanyNow_72 hl (by decide) rfl (fun ls hl => ?_)
          refine lv_goto (tgt := 24) hx hb dX8_ofCompanyNow_74 (by decide) ?_
          exact ih w x_72_b (c5 + 1) (nI c5) _ _ _ _ _ (by omega) h hR hS (lv_sub hl [2, 3, 4, 5, 0, 6] rfl) (by omega) (by omega)
def sp_X8_ofCompanyNow (κ : Kx) (y : Ly) (post : Int32 → Wd → Prop) (w : Wd) (p1 : Int32) (p2 : Int32) : Prop := (vp_in (p1) (mC y)) ∧ (sp_X8_ofCompanyNow_24 κ y post (fun w_24 y4_24 => (vp_in ((0 : Int32)) 13) ∧ (∀ f_87 : Nat → Int32, f_87 = upd ((fun _ => 0)) ((0 : Int32)).toNatClampNeg (gv w_24 26 (((p1).toNatClampNeg)) 0) → sp_X8_pledged κ y (fun r_92 w_92 => (vp_in ((1 : Int32)) 13) ∧ (∀ f_95 : Nat → Int32, f_95 = upd f_87 ((1 : Int32)).toNatClampNeg (r_92) → (vp_in ((2 : Int32)) 13) ∧ (∀ f_102 : Nat → Int32, f_102 = upd f_95 ((2 : Int32)).toNatClampNeg (gv w_92 26 (((p1).toNatClampNeg)) 1) → (vp_in ((3 : Int32)) 13) ∧ (∀ f_109 : Nat → Int32, f_109 = upd f_102 ((3 : Int32)).toNatClampNeg (gv w_92 26 (((p1).toNatClampNeg)) 2) → (vp_in ((4 : Int32)) 13) ∧ (∀ f_116 : Nat → Int32, f_116 = upd f_109 ((4 : Int32)).toNatClampNeg (gv w_92 26 (((p1).toNatClampNeg)) 3) → ((gv w_92 26 (((p1).toNatClampNeg)) 4 = 0) → ((vp_in ((5 : Int32)) 13) ∧ (∀ f_131 : Nat → Int32, f_131 = upd f_116 ((5 : Int32)).toNatClampNeg ((0 : Int32)) → (vp_in ((6 : Int32)) 13) ∧ (∀ f_142 : Nat → Int32, f_142 = upd f_131 ((6 : Int32)).toNatClampNeg (nI (mS y (((((p1).toNatClampNeg)))))) → sp_X13_allShares κ y (fun r_147 w_147 => (vp_in ((7 : Int32)) 13) ∧ (∀ f_150 : Nat → Int32, f_150 = upd f_142 ((7 : Int32)).toNatClampNeg (r_147) → (vp_in ((8 : Int32)) 13) ∧ (∀ f_158 : Nat → Int32, f_158 = upd f_150 ((8 : Int32)).toNatClampNeg (gv w_147 26 (((p1).toNatClampNeg)) 5) → (vp_in ((9 : Int32)) 13) ∧ (∀ f_166 : Nat → Int32, f_166 = upd f_158 ((9 : Int32)).toNatClampNeg (gv w_147 26 (((p1).toNatClampNeg)) 6) → (vp_in ((10 : Int32)) 13) ∧ (∀ f_172 : Nat → Int32, f_172 = upd f_166 ((10 : Int32)).toNatClampNeg (y4_24) → (vp_in ((11 : Int32)) 13) ∧ (∀ f_180 : Nat → Int32, f_180 = upd f_172 ((11 : Int32)).toNatClampNeg (gv w_147 26 (((p1).toNatClampNeg)) 7) → (vp_in ((12 : Int32)) 13) ∧ (∀ f_188 : Nat → Int32, f_188 = upd f_180 ((12 : Int32)).toNatClampNeg (gv w_147 26 (((p1).toNatClampNeg)) 8) → (vp_in (p2) 13) ∧ (post (f_188 (p2).toNatClampNeg) w_147)))))))) w_92 (((p1).toNatClampNeg)))))) ∧ ((¬ (gv w_92 26 (((p1).toNatClampNeg)) 4 = 0)) → ((vp_in ((5 : Int32)) 13) ∧ (∀ f_131_a : Nat → Int32, f_131_a = upd f_116 ((5 : Int32)).toNatClampNeg ((1 : Int32)) → (vp_in ((6 : Int32)) 13) ∧ (∀ f_142_a : Nat → Int32, f_142_a = upd f_131_a ((6 : Int32)).toNatClampNeg (nI (mS y (((((p1).toNatClampNeg)))))) → sp_X13_allShares κ y (fun r_147_a w_147_a => (vp_in ((7 : Int32)) 13) ∧ (∀ f_150_a : Nat → Int32, f_150_a = upd f_142_a ((7 : Int32)).toNatClampNeg (r_147_a) → (vp_in ((8 : Int32)) 13) ∧ (∀ f_158_a : Nat → Int32, f_158_a = upd f_150_a ((8 : Int32)).toNatClampNeg (gv w_147_a 26 (((p1).toNatClampNeg)) 5) → (vp_in ((9 : Int32)) 13) ∧ (∀ f_166_a : Nat → Int32, f_166_a = upd f_158_a ((9 : Int32)).toNatClampNeg (gv w_147_a 26 (((p1).toNatClampNeg)) 6) → (vp_in ((10 : Int32)) 13) ∧ (∀ f_172_a : Nat → Int32, f_172_a = upd f_166_a ((10 : Int32)).toNatClampNeg (y4_24) → (vp_in ((11 : Int32)) 13) ∧ (∀ f_180_a : Nat → Int32, f_180_a = upd f_172_a ((11 : Int32)).toNatClampNeg (gv w_147_a 26 (((p1).toNatClampNeg)) 7) → (vp_in ((12 : Int32)) 13) ∧ (∀ f_188_a : Nat → Int32, f_188_a = upd f_180_a ((12 : Int32)).toNatClampNeg (gv w_147_a 26 (((p1).toNatClampNeg)) 8) → (vp_in (p2) 13) ∧ (post (f_188_a (p2).toNatClampNeg) w_147_a)))))))) w_92 (((p1).toNatClampNeg))))))))))) w_24 p1)) p1 p2 (((p1).toNatClampNeg)) 9 w (0 : Int32) 0 (-1))
theorem hd_X8_ofCompanyNow : yX8_ofCompanyNow.cls = RX8 ∧ yX8_ofCompanyNow.cls ≠ "java/lang/invoke/MethodHandle" ∧ yX8_ofCompanyNow.cls ≠ "java/lang/invoke/VarHandle" ∧ (parseMethodDescriptor yX8_ofCompanyNow.desc).map (fun d => d.parameters.length) = some 2 := by decide +kernel
set_option maxHeartbeats 4000000 in
theorem m_X8_ofCompanyNow {l : Launch} {κ : Kx} {y : Ly} {X : XR} {post : Int32 → Wd → Prop} {w : Wd} {p1 : Int32} {p2 : Int32}  (hM : WFm κ y) (l0 : live y 20 0) (h : sp_X8_ofCompanyNow κ y post w p1 p2) : Met l yX8_ofCompanyNow (ws_ yX8_ofCompanyNow cX8_ofCompanyNow 7 (Option.some Jvm.ClassFile.FieldType.int)) rm_X8_ofCompanyNow (va_Pc [.ref (y.2 20 0), .int (p1), .int (p2)] (RC κ w y X)) (va_Qi post (fun w t => Rp κ w y X [] t.heap) (Af κ)) 4 25 (Af κ) := by
  unfold sp_X8_ofCompanyNow at h
  refine Met.ofW (cc := cX8_ofCompanyNow) (maxL := 7) (ret := (Option.some Jvm.ClassFile.FieldType.int)) (by decide) rfl ?_
  intro p e s m args below meth c s₁ B hml hv
  obtain ⟨rfl, hR, hK⟩ := hv
  have hx := B.exec
  have hb := B.bytes
  have hr := B.returns
  have hts := atoms_spec (ws := ws_ yX8_ofCompanyNow cX8_ofCompanyNow 7 (Option.some Jvm.ClassFile.FieldType.int)) B.pre
  have hts : ∀ w ∈ lw_all, w.before _ s = true := fun w h => hts w (List.mem_cons_of_mem _ h)
  have hown : s.vm.findClass RX8 = some m.cls := findClass_of_methodNamed B.named
  have hlocks := B.notSynchronized
  have hS : va_S (Af κ) s.heap s.heap [] := va_S.rf
  have hl := lv_entry ([.ref (y.2 20 0), .int (p1), .int (p2)]) (n := 7) (Nat.le_of_ble_eq_true rfl)
  rw [lg_entry_eq]
  generalize (lg_sl ([.ref (y.2 20 0), .int (p1), .int (p2)]) ++ List.replicate (7 - (lg_sl ([.ref (y.2 20 0), .int (p1), .int (p2)])).length) Slot.unset).toArray = ls at hl ⊢
  have hl : lv_has ls 7 [(0, .ref (y.2 20 0)), (1, .int (p1)), (2, .int (p2))] := hl
  refine lv_aload_n hx hb dX8_ofCompanyNow_0 rfl (lv_at hl 0 rfl) ?_
  refine g20_4 hx hb hts hown hK hR l0 q1949 dX8_ofCompanyNow_1 ?_
  refine lv_iload_n hx hb dX8_ofCompanyNow_4 rfl (lv_at hl 1 rfl) ?_
  have o_5 := h.1
  have h := h.2
  refine jr_get (a := y.2 26 ((p1).toNatClampNeg)) ⟨hx, hb, hml, hown, hts⟩ hK hR ⟨fun _ _ _ _ _ => rfl, fun _ _ _ _ _ => rfl⟩ hM.lsC ⟨hM.arC (Nat.lt_of_le_of_lt (Nat.zero_le _) (vp_lt o_5)), (Nat.le_trans hM.mC4 (by decide))⟩ o_5 (hM.elC (vp_lt o_5)) q2101 ⟨Nat.le_of_ble_eq_true rfl, Nat.le_of_ble_eq_true rfl⟩ hl.1 (Nat.le_of_ble_eq_true rfl) dX8_ofCompanyNow_5 ⟨(Nat.le_of_ble_eq_true rfl), (Nat.le_of_ble_eq_true rfl)⟩ ?_
  refine jr_castS (ci := 13) hx hb hown hK hts (hR.role (hM.com (vp_lt o_5))) rfl q2141 dX8_ofCompanyNow_8 ?_
  refine lv_astore_n (lv' := [(3, .ref (y.2 26 ((p1).toNatClampNeg))), (0, .ref (y.2 20 0)), (1, .int (p1)), (2, .int (p2))]) hx hb dX8_ofCompanyNow_11 rfl hl (by decide) rfl (fun ls hl => ?_)
  refine lv_iconst (v := (0 : Int32)) hx hb dX8_ofCompanyNow_12 (by decide) ?_
  refine lv_istore (lv' := [(4, .int ((0 : Int32))), (3, .ref (y.2 26 ((p1).toNatClampNeg))), (0, .ref (y.2 20 0)), (1, .int (p1)), (2, .int (p2))]) hx hb dX8_ofCompanyNow_13 hl (by decide) rfl (fun ls hl => ?_)
  refine lv_aload_n hx hb dX8_ofCompanyNow_15 rfl (lv_at hl 2 rfl) ?_
  refine g20_5 hx hb hts hown hK hR l0 q1950 dX8_ofCompanyNow_16 ?_
  refine jr_iter ⟨hx, hb, hml, hown, hts⟩ hK hR hS ⟨fun _ _ _ _ _ => rfl, fun _ _ _ _ _ => rfl⟩ hM.lsL q2248 ⟨Nat.le_of_ble_eq_true rfl, Nat.le_of_ble_eq_true rfl⟩ hl.1 (Nat.le_of_ble_eq_true rfl) dX8_ofCompanyNow_19 ⟨(Nat.le_of_ble_eq_true rfl), (Nat.le_of_ble_eq_true rfl)⟩ (fun q_19 H locs hR hS => ?_)
  have hR : Rp κ w y X [(q_19, itC y 54 0 0 (-1))] H := hR
  refine lv_astore (lv' := [(5, .ref (q_19)), (4, .int ((0 : Int32))), (3, .ref (y.2 26 ((p1).toNatClampNeg))), (0, .ref (y.2 20 0)), (1, .int (p1)), (2, .int (p2))]) hx hb dX8_ofCompanyNow_22 hl (by decide) rfl (fun ls hl => ?_)
  refine lp_X8_ofCompanyNow_24 (C1 := 1) (S1 := 4) hx hb hr hml hown hts hlocks hK hM l0 (hM.com (vp_lt o_5)) (Nat.le_of_ble_eq_true rfl) (Nat.le_of_ble_eq_true rfl) (fun w_24 y4_24 H locs ls cells9 slots9 h hR hS hl hc9 hs9 => ?_) 9 w (0 : Int32) 0 (-1) _ _ _ _ _ (by omega) h hR hS (lv_sub hl [3, 4, 5, 2, 1, 0] rfl) (by omega) (by omega)
  refine W.widen (k := 1) (n := 4) hc9 hs9 ?_
  refine lv_bipush (v := (13 : Int32)) hx hb dX8_ofCompanyNow_77 (by decide) ?_
  refine xa_newa (ty := .int) (N' := 13) (a0 := (13, .inl (fun _ => 0))) hx hb hts q995 rfl hK.1 0 rfl (by intro C h9; cases h9) hS rfl (by decide) (by decide) (by decide) (Nat.le_of_ble_eq_true rfl) (Nat.le_of_ble_eq_true rfl) dX8_ofCompanyNow_79 (fun q_79 H1 hq h1 hz ho hS => ?_)
  have hR := hR.newL hq h1 (by omega) ho
  clear hq h1 hz ho
  generalize H1 = H at hR hS ⊢
  have hR : Rp κ w_24 y X [(q_79, .inl (kT κ 0, (13, .inl ((fun _ => 0)))))] H := hR
  refine lv_dup hx hb dX8_ofCompanyNow_81 rfl ?_
  refine lv_iconst (v := (0 : Int32)) hx hb dX8_ofCompanyNow_82 (by decide) ?_
  refine lv_aload_n hx hb dX8_ofCompanyNow_83 rfl (lv_at hl 3 rfl) ?_
  refine g26_0 hx hb hts hown hK hR (hM.com (vp_lt o_5)) q2149 dX8_ofCompanyNow_84 ?_
  have o_87 := h.1
  have h := h.2
  refine xa_iast hx hb hK.1 hS (hR.LD.2 0 _ rfl) (hR.L 0 _ rfl) 0 rfl o_87 dX8_ofCompanyNow_87 (fun H1 locs h1 hz ho hS => ?_)
  have hR := hR.putL (t := 0) rfl h1 hz ho
  clear h1 hz ho
  generalize H1 = H at hR hS ⊢
  obtain ⟨f_87, ef_87⟩ : ∃ z, z = upd ((fun _ => 0)) ((0 : Int32)).toNatClampNeg (gv w_24 26 (((p1).toNatClampNeg)) 0) := ⟨_, rfl⟩
  rw [← ef_87] at hR
  have h := h f_87 ef_87
  have hR : Rp κ w_24 y X [(q_79, .inl (kT κ 0, (13, .inl (f_87))))] H := hR
  refine lv_dup hx hb dX8_ofCompanyNow_88 rfl ?_
  refine lv_iconst (v := (1 : Int32)) hx hb dX8_ofCompanyNow_89 (by decide) ?_
  refine lv_aload_n hx hb dX8_ofCompanyNow_90 rfl (lv_at hl 0 rfl) ?_
  refine lv_iload_n hx hb dX8_ofCompanyNow_91 rfl (lv_at hl 1 rfl) ?_
  refine ce_qi (fw := fun u => u) (fy := fun _ => y) (cr_V (n := 1) (As := [.int (p1)]) (rest := [.int ((1 : Int32)), .ref (q_79), .ref (q_79)]) ⟨hx, hb, hml, hown, hts⟩ hK hR (m_X8_pledged hM l0 h) q2316 q2318 qs46 q85 q2319 rfl rfl hd_X8_pledged ⟨Nat.le_of_ble_eq_true rfl, Nat.le_of_ble_eq_true rfl⟩ (rv hK hR l0 (ci := 11) rfl rfl) rfl rfl hl.1 rfl (lv_room (Nat.le_of_ble_eq_true rfl)) dX8_ofCompanyNow_92 ⟨(Nat.le_of_ble_eq_true rfl), (Nat.le_of_ble_eq_true rfl)⟩) hR hS (fun r_92 w_92 H locs h hR _ hS => ?_)
  have o_95 := h.1
  have h := h.2
  refine xa_iast hx hb hK.1 hS (hR.LD.2 0 _ rfl) (hR.L 0 _ rfl) 0 rfl o_95 dX8_ofCompanyNow_95 (fun H1 locs h1 hz ho hS => ?_)
  have hR := hR.putL (t := 0) rfl h1 hz ho
  clear h1 hz ho
  generalize H1 = H at hR hS ⊢
  obtain ⟨f_95, ef_95⟩ : ∃ z, z = upd f_87 ((1 : Int32)).toNatClampNeg (r_92) := ⟨_, rfl⟩
  rw [← ef_95] at hR
  have h := h f_95 ef_95
  have hR : Rp κ w_92 y X [(q_79, .inl (kT κ 0, (13, .inl (f_95))))] H := hR
  refine lv_dup hx hb dX8_ofCompanyNow_96 rfl ?_
  refine lv_iconst (v := (2 : Int32)) hx hb dX8_ofCompanyNow_97 (by decide) ?_
  refine lv_aload_n hx hb dX8_ofCompanyNow_98 rfl (lv_at hl 3 rfl) ?_
  refine g26_1 hx hb hts hown hK hR (hM.com (vp_lt o_5)) q2150 dX8_ofCompanyNow_99 ?_
  have o_102 := h.1
  have h := h.2
  refine xa_iast hx hb hK.1 hS (hR.LD.2 0 _ rfl) (hR.L 0 _ rfl) 0 rfl o_102 dX8_ofCompanyNow_102 (fun H1 locs h1 hz ho hS => ?_)
  have hR := hR.putL (t := 0) rfl h1 hz ho
  clear h1 hz ho
  generalize H1 = H at hR hS ⊢
  obtain ⟨f_102, ef_102⟩ : ∃ z, z = upd f_95 ((2 : Int32)).toNatClampNeg (gv w_92 26 (((p1).toNatClampNeg)) 1) := ⟨_, rfl⟩
  rw [← ef_102] at hR
  have h := h f_102 ef_102
  have hR : Rp κ w_92 y X [(q_79, .inl (kT κ 0, (13, .inl (f_102))))] H := hR
  refine lv_dup hx hb dX8_ofCompanyNow_103 rfl ?_
  refine lv_iconst (v := (3 : Int32)) hx hb dX8_ofCompanyNow_104 (by decide) ?_
  refine lv_aload_n hx hb dX8_ofCompanyNow_105 rfl (lv_at hl 3 rfl) ?_
  refine g26_2 hx hb hts hown hK hR (hM.com (vp_lt o_5)) q2151 dX8_ofCompanyNow_106 ?_
  have o_109 := h.1
  have h := h.2
  refine xa_iast hx hb hK.1 hS (hR.LD.2 0 _ rfl) (hR.L 0 _ rfl) 0 rfl o_109 dX8_ofCompanyNow_109 (fun H1 locs h1 hz ho hS => ?_)
  have hR := hR.putL (t := 0) rfl h1 hz ho
  clear h1 hz ho
  generalize H1 = H at hR hS ⊢
  obtain ⟨f_109, ef_109⟩ : ∃ z, z = upd f_102 ((3 : Int32)).toNatClampNeg (gv w_92 26 (((p1).toNatClampNeg)) 2) := ⟨_, rfl⟩
  rw [← ef_109] at hR
  have h := h f_109 ef_109
  have hR : Rp κ w_92 y X [(q_79, .inl (kT κ 0, (13, .inl (f_109))))] H := hR
  refine lv_dup hx hb dX8_ofCompanyNow_110 rfl ?_
  refine lv_iconst (v := (4 : Int32)) hx hb dX8_ofCompanyNow_111 (by decide) ?_
  refine lv_aload_n hx hb dX8_ofCompanyNow_112 rfl (lv_at hl 3 rfl) ?_
  refine g26_3 hx hb hts hown hK hR (hM.com (vp_lt o_5)) q2152 dX8_ofCompanyNow_113 ?_
  have o_116 := h.1
  have h := h.2
  refine xa_iast hx hb hK.1 hS (hR.LD.2 0 _ rfl) (hR.L 0 _ rfl) 0 rfl o_116 dX8_ofCompanyNow_116 (fun H1 locs h1 hz ho hS => ?_)
  have hR := hR.putL (t := 0) rfl h1 hz ho
  clear h1 hz ho
  generalize H1 = H at hR hS ⊢
  obtain ⟨f_116, ef_116⟩ : ∃ z, z = upd f_109 ((4 : Int32)).toNatClampNeg (gv w_92 26 (((p1).toNatClampNeg)) 3) := ⟨_, rfl⟩
  rw [← ef_116] at hR
  have h := h f_116 ef_116
  have hR : Rp κ w_92 y X [(q_79, .inl (kT κ 0, (13, .inl (f_116))))] H := hR
  refine lv_dup hx hb dX8_ofCompanyNow_117 rfl ?_
  refine lv_iconst (v := (5 : Int32)) hx hb dX8_ofCompanyNow_118 (by decide) ?_
  refine lv_aload_n hx hb dX8_ofCompanyNow_119 rfl (lv_at hl 3 rfl) ?_
  refine g26_4 hx hb hts hown hK hR (hM.com (vp_lt o_5)) q2153 dX8_ofCompanyNow_120 ?_
  refine lv_if_eq (tgt := 130) hx hb dX8_ofCompanyNow_123 (by decide) (fun c_123 => ?_) (fun c_123 => ?_)
  · have h := h.1 c_123
    refine lv_iconst (v := (0 : Int32)) hx hb dX8_ofCompanyNow_130 (by decide) ?_
    have o_131 := h.1
    have h := h.2
    refine xa_iast hx hb hK.1 hS (hR.LD.2 0 _ rfl) (hR.L 0 _ rfl) 0 rfl o_131 dX8_ofCompanyNow_131 (fun H1 locs h1 hz ho hS => ?_)
    have hR := hR.putL (t := 0) rfl h1 hz ho
    clear h1 hz ho
    generalize H1 = H at hR hS ⊢
    obtain ⟨f_131, ef_131⟩ : ∃ z, z = upd f_116 ((5 : Int32)).toNatClampNeg ((0 : Int32)) := ⟨_, rfl⟩
    rw [← ef_131] at hR
    have h := h f_131 ef_131
    have hR : Rp κ w_92 y X [(q_79, .inl (kT κ 0, (13, .inl (f_131))))] H := hR
    refine lv_dup hx hb dX8_ofCompanyNow_132 rfl ?_
    refine lv_bipush (v := (6 : Int32)) hx hb dX8_ofCompanyNow_133 (by decide) ?_
    refine lv_aload_n hx hb dX8_ofCompanyNow_135 rfl (lv_at hl 3 rfl) ?_
    refine g26_9 hx hb hts hown hK hR (hM.com (vp_lt o_5)) q2159 dX8_ofCompanyNow_136 ?_
    refine jr_size ⟨hx, hb, hml, hown, hts⟩ hK hR ⟨fun _ _ _ _ _ => rfl, fun _ _ _ _ _ => rfl⟩ (hM.csh (hM.com (vp_lt o_5))) q2031 ⟨Nat.le_of_ble_eq_true rfl, Nat.le_of_ble_eq_true rfl⟩ hl.1 (Nat.le_of_ble_eq_true rfl) dX8_ofCompanyNow_139 ⟨(Nat.le_of_ble_eq_true rfl), (Nat.le_of_ble_eq_true rfl)⟩ ?_
    have o_142 := h.1
    have h := h.2
    refine xa_iast hx hb hK.1 hS (hR.LD.2 0 _ rfl) (hR.L 0 _ rfl) 0 rfl o_142 dX8_ofCompanyNow_142 (fun H1 locs h1 hz ho hS => ?_)
    have hR := hR.putL (t := 0) rfl h1 hz ho
    clear h1 hz ho
    generalize H1 = H at hR hS ⊢
    obtain ⟨f_142, ef_142⟩ : ∃ z, z = upd f_131 ((6 : Int32)).toNatClampNeg (nI (mS y (((((p1).toNatClampNeg)))))) := ⟨_, rfl⟩
    rw [← ef_142] at hR
    have h := h f_142 ef_142
    have hR : Rp κ w_92 y X [(q_79, .inl (kT κ 0, (13, .inl (f_142))))] H := hR
    refine lv_dup hx hb dX8_ofCompanyNow_143 rfl ?_
    refine lv_bipush (v := (7 : Int32)) hx hb dX8_ofCompanyNow_144 (by decide) ?_
    refine lv_aload_n hx hb dX8_ofCompanyNow_146 rfl (lv_at hl 3 rfl) ?_
    refine ce_qi (fw := fun u => u) (fy := fun _ => y) (cr_V (n := 0) (As := []) (rest := [.int ((7 : Int32)), .ref (q_79), .ref (q_79)]) ⟨hx, hb, hml, hown, hts⟩ hK hR (m_X13_allShares hM (hM.com (vp_lt o_5)) h) q2218 q2219 q2220 q107 q2221 rfl rfl hd_X13_allShares ⟨Nat.le_of_ble_eq_true rfl, Nat.le_of_ble_eq_true rfl⟩ (rv hK hR (hM.com (vp_lt o_5)) (ci := 13) rfl rfl) rfl rfl hl.1 rfl (lv_room (Nat.le_of_ble_eq_true rfl)) dX8_ofCompanyNow_147 ⟨(Nat.le_of_ble_eq_true rfl), (Nat.le_of_ble_eq_true rfl)⟩) hR hS (fun r_147 w_147 H locs h hR _ hS => ?_)
    have o_150 := h.1
    have h := h.2
    refine xa_iast hx hb hK.1 hS (hR.LD.2 0 _ rfl) (hR.L 0 _ rfl) 0 rfl o_150 dX8_ofCompanyNow_150 (fun H1 locs h1 hz ho hS => ?_)
    have hR := hR.putL (t := 0) rfl h1 hz ho
    clear h1 hz ho
    generalize H1 = H at hR hS ⊢
    obtain ⟨f_150, ef_150⟩ : ∃ z, z = upd f_142 ((7 : Int32)).toNatClampNeg (r_147) := ⟨_, rfl⟩
    rw [← ef_150] at hR
    have h := h f_150 ef_150
    have hR : Rp κ w_147 y X [(q_79, .inl (kT κ 0, (13, .inl (f_150))))] H := hR
    refine lv_dup hx hb dX8_ofCompanyNow_151 rfl ?_
    refine lv_bipush (v := (8 : Int32)) hx hb dX8_ofCompanyNow_152 (by decide) ?_
    refine lv_aload_n hx hb dX8_ofCompanyNow_154 rfl (lv_at hl 3 rfl) ?_
    refine g26_5 hx hb hts hown hK hR (hM.com (vp_lt o_5)) q2154 dX8_ofCompanyNow_155 ?_
    have o_158 := h.1
    have h := h.2
    refine xa_iast hx hb hK.1 hS (hR.LD.2 0 _ rfl) (hR.L 0 _ rfl) 0 rfl o_158 dX8_ofCompanyNow_158 (fun H1 locs h1 hz ho hS => ?_)
    have hR := hR.putL (t := 0) rfl h1 hz ho
    clear h1 hz ho
    generalize H1 = H at hR hS ⊢
    obtain ⟨f_158, ef_158⟩ : ∃ z, z = upd f_150 ((8 : Int32)).toNatClampNeg (gv w_147 26 (((p1).toNatClampNeg)) 5) := ⟨_, rfl⟩
    rw [← ef_158] at hR
    have h := h f_158 ef_158
    have hR : Rp κ w_147 y X [(q_79, .inl (kT κ 0, (13, .inl (f_158))))] H := hR
    refine lv_dup hx hb dX8_ofCompanyNow_159 rfl ?_
    refine lv_bipush (v := (9 : Int32)) hx hb dX8_ofCompanyNow_160 (by decide) ?_
    refine lv_aload_n hx hb dX8_ofCompanyNow_162 rfl (lv_at hl 3 rfl) ?_
    refine g26_6 hx hb hts hown hK hR (hM.com (vp_lt o_5)) q2155 dX8_ofCompanyNow_163 ?_
    have o_166 := h.1
    have h := h.2
    refine xa_iast hx hb hK.1 hS (hR.LD.2 0 _ rfl) (hR.L 0 _ rfl) 0 rfl o_166 dX8_ofCompanyNow_166 (fun H1 locs h1 hz ho hS => ?_)
    have hR := hR.putL (t := 0) rfl h1 hz ho
    clear h1 hz ho
    generalize H1 = H at hR hS ⊢
    obtain ⟨f_166, ef_166⟩ : ∃ z, z = upd f_158 ((9 : Int32)).toNatClampNeg (gv w_147 26 (((p1).toNatClampNeg)) 6) := ⟨_, rfl⟩
    rw [← ef_166] at hR
    have h := h f_166 ef_166
    have hR : Rp κ w_147 y X [(q_79, .inl (kT κ 0, (13, .inl (f_166))))] H := hR
    refine lv_dup hx hb dX8_ofCompanyNow_167 rfl ?_
    refine lv_bipush (v := (10 : Int32)) hx hb dX8_ofCompanyNow_168 (by decide) ?_
    refine lv_iload hx hb dX8_ofCompanyNow_170 (lv_at hl 4 rfl) ?_
    have o_172 := h.1
    have h := h.2
    refine xa_iast hx hb hK.1 hS (hR.LD.2 0 _ rfl) (hR.L 0 _ rfl) 0 rfl o_172 dX8_ofCompanyNow_172 (fun H1 locs h1 hz ho hS => ?_)
    have hR := hR.putL (t := 0) rfl h1 hz ho
    clear h1 hz ho
    generalize H1 = H at hR hS ⊢
    obtain ⟨f_172, ef_172⟩ : ∃ z, z = upd f_166 ((10 : Int32)).toNatClampNeg (y4_24) := ⟨_, rfl⟩
    rw [← ef_172] at hR
    have h := h f_172 ef_172
    have hR : Rp κ w_147 y X [(q_79, .inl (kT κ 0, (13, .inl (f_172))))] H := hR
    refine lv_dup hx hb dX8_ofCompanyNow_173 rfl ?_
    refine lv_bipush (v := (11 : Int32)) hx hb dX8_ofCompanyNow_174 (by decide) ?_
    refine lv_aload_n hx hb dX8_ofCompanyNow_176 rfl (lv_at hl 3 rfl) ?_
    refine g26_7 hx hb hts hown hK hR (hM.com (vp_lt o_5)) q2156 dX8_ofCompanyNow_177 ?_
    have o_180 := h.1
    have h := h.2
    refine xa_iast hx hb hK.1 hS (hR.LD.2 0 _ rfl) (hR.L 0 _ rfl) 0 rfl o_180 dX8_ofCompanyNow_180 (fun H1 locs h1 hz ho hS => ?_)
    have hR := hR.putL (t := 0) rfl h1 hz ho
    clear h1 hz ho
    generalize H1 = H at hR hS ⊢
    obtain ⟨f_180, ef_180⟩ : ∃ z, z = upd f_172 ((11 : Int32)).toNatClampNeg (gv w_147 26 (((p1).toNatClampNeg)) 7) := ⟨_, rfl⟩
    rw [← ef_180] at hR
    have h := h f_180 ef_180
    have hR : Rp κ w_147 y X [(q_79, .inl (kT κ 0, (13, .inl (f_180))))] H := hR
    refine lv_dup hx hb dX8_ofCompanyNow_181 rfl ?_
    refine lv_bipush (v := (12 : Int32)) hx hb dX8_ofCompanyNow_182 (by decide) ?_
    refine lv_aload_n hx hb dX8_ofCompanyNow_184 rfl (lv_at hl 3 rfl) ?_
    refine g26_8 hx hb hts hown hK hR (hM.com (vp_lt o_5)) q2157 dX8_ofCompanyNow_185 ?_
    have o_188 := h.1
    have h := h.2
    refine xa_iast hx hb hK.1 hS (hR.LD.2 0 _ rfl) (hR.L 0 _ rfl) 0 rfl o_188 dX8_ofCompanyNow_188 (fun H1 locs h1 hz ho hS => ?_)
    have hR := hR.putL (t := 0) rfl h1 hz ho
    clear h1 hz ho
    generalize H1 = H at hR hS ⊢
    obtain ⟨f_188, ef_188⟩ : ∃ z, z = upd f_180 ((12 : Int32)).toNatClampNeg (gv w_147 26 (((p1).toNatClampNeg)) 8) := ⟨_, rfl⟩
    rw [← ef_188] at hR
    have h := h f_188 ef_188
    have hR : Rp κ w_147 y X [(q_79, .inl (kT κ 0, (13, .inl (f_188))))] H := hR
    refine lv_astore (lv' := [(5, .ref (q_79)), (0, .ref (y.2 20 0)), (1, .int (p1)), (2, .int (p2)), (3, .ref (y.2 26 ((p1).toNatClampNeg))), (4, .int (y4_24))]) hx hb dX8_ofCompanyNow_189 hl (by decide) rfl (fun ls hl => ?_)
    refine lv_aload hx hb dX8_ofCompanyNow_191 (lv_at hl 0 rfl) ?_
    refine lv_iload_n hx hb dX8_ofCompanyNow_193 rfl (lv_at hl 3 rfl) ?_
    have o_194 := h.1
    have h := h.2
    refine xa_iald hx hb hK.1 (hR.L 0 _ rfl) 0 rfl o_194 dX8_ofCompanyNow_194 ?_
    have hR := hR.sub (L' := []) [] rfl rfl
    refine W.widen (k := 4) (n := 25) (Nat.le_of_ble_eq_true rfl) (Nat.le_of_ble_eq_true rfl) ?_
    exact W.iret (v := f_188 (p2).toNatClampNeg) hx hb hr (fun t ht hW9 => ⟨⟨f_188 (p2).toNatClampNeg, w_147, rfl, h, rpt ht hR⟩, hS.F ht⟩) hS.2.2 dX8_ofCompanyNow_195
  · have h := h.2 c_123
    refine lv_iconst (v := (1 : Int32)) hx hb dX8_ofCompanyNow_126 (by decide) ?_
    refine lv_goto (tgt := 131) hx hb dX8_ofCompanyNow_127 (by decide) ?_
    have o_131_a := h.1
    have h := h.2
    refine xa_iast hx hb hK.1 hS (hR.LD.2 0 _ rfl) (hR.L 0 _ rfl) 0 rfl o_131_a dX8_ofCompanyNow_131 (fun H1 locs h1 hz ho hS => ?_)
    have hR := hR.putL (t := 0) rfl h1 hz ho
    clear h1 hz ho
    generalize H1 = H at hR hS ⊢
    obtain ⟨f_131_a, ef_131_a⟩ : ∃ z, z = upd f_116 ((5 : Int32)).toNatClampNeg ((1 : Int32)) := ⟨_, rfl⟩
    rw [← ef_131_a] at hR
    have h := h f_131_a ef_131_a
    have hR : Rp κ w_92 y X [(q_79, .inl (kT κ 0, (13, .inl (f_131_a))))] H := hR
    refine lv_dup hx hb dX8_ofCompanyNow_132 rfl ?_
    refine lv_bipush (v := (6 : Int32)) hx hb dX8_ofCompanyNow_133 (by decide) ?_
    refine lv_aload_n hx hb dX8_ofCompanyNow_135 rfl (lv_at hl 3 rfl) ?_
    refine g26_9 hx hb hts hown hK hR (hM.com (vp_lt o_5)) q2159 dX8_ofCompanyNow_136 ?_
    refine jr_size ⟨hx, hb, hml, hown, hts⟩ hK hR ⟨fun _ _ _ _ _ => rfl, fun _ _ _ _ _ => rfl⟩ (hM.csh (hM.com (vp_lt o_5))) q2031 ⟨Nat.le_of_ble_eq_true rfl, Nat.le_of_ble_eq_true rfl⟩ hl.1 (Nat.le_of_ble_eq_true rfl) dX8_ofCompanyNow_139 ⟨(Nat.le_of_ble_eq_true rfl), (Nat.le_of_ble_eq_true rfl)⟩ ?_
    have o_142_a := h.1
    have h := h.2
    refine xa_iast hx hb hK.1 hS (hR.LD.2 0 _ rfl) (hR.L 0 _ rfl) 0 rfl o_142_a dX8_ofCompanyNow_142 (fun H1 locs h1 hz ho hS => ?_)
    have hR := hR.putL (t := 0) rfl h1 hz ho
    clear h1 hz ho
    generalize H1 = H at hR hS ⊢
    obtain ⟨f_142_a, ef_142_a⟩ : ∃ z, z = upd f_131_a ((6 : Int32)).toNatClampNeg (nI (mS y (((((p1).toNatClampNeg)))))) := ⟨_, rfl⟩
    rw [← ef_142_a] at hR
    have h := h f_142_a ef_142_a
    have hR : Rp κ w_92 y X [(q_79, .inl (kT κ 0, (13, .inl (f_142_a))))] H := hR
    refine lv_dup hx hb dX8_ofCompanyNow_143 rfl ?_
    refine lv_bipush (v := (7 : Int32)) hx hb dX8_ofCompanyNow_144 (by decide) ?_
    refine lv_aload_n hx hb dX8_ofCompanyNow_146 rfl (lv_at hl 3 rfl) ?_
    refine ce_qi (fw := fun u => u) (fy := fun _ => y) (cr_V (n := 0) (As := []) (rest := [.int ((7 : Int32)), .ref (q_79), .ref (q_79)]) ⟨hx, hb, hml, hown, hts⟩ hK hR (m_X13_allShares hM (hM.com (vp_lt o_5)) h) q2218 q2219 q2220 q107 q2221 rfl rfl hd_X13_allShares ⟨Nat.le_of_ble_eq_true rfl, Nat.le_of_ble_eq_true rfl⟩ (rv hK hR (hM.com (vp_lt o_5)) (ci := 13) rfl rfl) rfl rfl hl.1 rfl (lv_room (Nat.le_of_ble_eq_true rfl)) dX8_ofCompanyNow_147 ⟨(Nat.le_of_ble_eq_true rfl), (Nat.le_of_ble_eq_true rfl)⟩) hR hS (fun r_147_a w_147_a H locs h hR _ hS => ?_)
    have o_150_a := h.1
    have h := h.2
    refine xa_iast hx hb hK.1 hS (hR.LD.2 0 _ rfl) (hR.L 0 _ rfl) 0 rfl o_150_a dX8_ofCompanyNow_150 (fun H1 locs h1 hz ho hS => ?_)
    have hR := hR.putL (t := 0) rfl h1 hz ho
    clear h1 hz ho
    generalize H1 = H at hR hS ⊢
    obtain ⟨f_150_a, ef_150_a⟩ : ∃ z, z = upd f_142_a ((7 : Int32)).toNatClampNeg (r_147_a) := ⟨_, rfl⟩
    rw [← ef_150_a] at hR
    have h := h f_150_a ef_150_a
    have hR : Rp κ w_147_a y X [(q_79, .inl (kT κ 0, (13, .inl (f_150_a))))] H := hR
    refine lv_dup hx hb dX8_ofCompanyNow_151 rfl ?_
    refine lv_bipush (v := (8 : Int32)) hx hb dX8_ofCompanyNow_152 (by decide) ?_
    refine lv_aload_n hx hb dX8_ofCompanyNow_154 rfl (lv_at hl 3 rfl) ?_
    refine g26_5 hx hb hts hown hK hR (hM.com (vp_lt o_5)) q2154 dX8_ofCompanyNow_155 ?_
    have o_158_a := h.1
    have h := h.2
    refine xa_iast hx hb hK.1 hS (hR.LD.2 0 _ rfl) (hR.L 0 _ rfl) 0 rfl o_158_a dX8_ofCompanyNow_158 (fun H1 locs h1 hz ho hS => ?_)
    have hR := hR.putL (t := 0) rfl h1 hz ho
    clear h1 hz ho
    generalize H1 = H at hR hS ⊢
    obtain ⟨f_158_a, ef_158_a⟩ : ∃ z, z = upd f_150_a ((8 : Int32)).toNatClampNeg (gv w_147_a 26 (((p1).toNatClampNeg)) 5) := ⟨_, rfl⟩
    rw [← ef_158_a] at hR
    have h := h f_158_a ef_158_a
    have hR : Rp κ w_147_a y X [(q_79, .inl (kT κ 0, (13, .inl (f_158_a))))] H := hR
    refine lv_dup hx hb dX8_ofCompanyNow_159 rfl ?_
    refine lv_bipush (v := (9 : Int32)) hx hb dX8_ofCompanyNow_160 (by decide) ?_
    refine lv_aload_n hx hb dX8_ofCompanyNow_162 rfl (lv_at hl 3 rfl) ?_
    refine g26_6 hx hb hts hown hK hR (hM.com (vp_lt o_5)) q2155 dX8_ofCompanyNow_163 ?_
    have o_166_a := h.1
    have h := h.2
    refine xa_iast hx hb hK.1 hS (hR.LD.2 0 _ rfl) (hR.L 0 _ rfl) 0 rfl o_166_a dX8_ofCompanyNow_166 (fun H1 locs h1 hz ho hS => ?_)
    have hR := hR.putL (t := 0) rfl h1 hz ho
    clear h1 hz ho
    generalize H1 = H at hR hS ⊢
    obtain ⟨f_166_a, ef_166_a⟩ : ∃ z, z = upd f_158_a ((9 : Int32)).toNatClampNeg (gv w_147_a 26 (((p1).toNatClampNeg)) 6) := ⟨_, rfl⟩
    rw [← ef_166_a] at hR
    have h := h f_166_a ef_166_a
    have hR : Rp κ w_147_a y X [(q_79, .inl (kT κ 0, (13, .inl (f_166_a))))] H := hR
    refine lv_dup hx hb dX8_ofCompanyNow_167 rfl ?_
    refine lv_bipush (v := (10 : Int32)) hx hb dX8_ofCompanyNow_168 (by decide) ?_
    refine lv_iload hx hb dX8_ofCompanyNow_170 (lv_at hl 4 rfl) ?_
    have o_172_a := h.1
    have h := h.2
    refine xa_iast hx hb hK.1 hS (hR.LD.2 0 _ rfl) (hR.L 0 _ rfl) 0 rfl o_172_a dX8_ofCompanyNow_172 (fun H1 locs h1 hz ho hS => ?_)
    have hR := hR.putL (t := 0) rfl h1 hz ho
    clear h1 hz ho
    generalize H1 = H at hR hS ⊢
    obtain ⟨f_172_a, ef_172_a⟩ : ∃ z, z = upd f_166_a ((10 : Int32)).toNatClampNeg (y4_24) := ⟨_, rfl⟩
    rw [← ef_172_a] at hR
    have h := h f_172_a ef_172_a
    have hR : Rp κ w_147_a y X [(q_79, .inl (kT κ 0, (13, .inl (f_172_a))))] H := hR
    refine lv_dup hx hb dX8_ofCompanyNow_173 rfl ?_
    refine lv_bipush (v := (11 : Int32)) hx hb dX8_ofCompanyNow_174 (by decide) ?_
    refine lv_aload_n hx hb dX8_ofCompanyNow_176 rfl (lv_at hl 3 rfl) ?_
    refine g26_7 hx hb hts hown hK hR (hM.com (vp_lt o_5)) q2156 dX8_ofCompanyNow_177 ?_
    have o_180_a := h.1
    have h := h.2
    refine xa_iast hx hb hK.1 hS (hR.LD.2 0 _ rfl) (hR.L 0 _ rfl) 0 rfl o_180_a dX8_ofCompanyNow_180 (fun H1 locs h1 hz ho hS => ?_)
    have hR := hR.putL (t := 0) rfl h1 hz ho
    clear h1 hz ho
    generalize H1 = H at hR hS ⊢
    obtain ⟨f_180_a, ef_180_a⟩ : ∃ z, z = upd f_172_a ((11 : Int32)).toNatClampNeg (gv w_147_a 26 (((p1).toNatClampNeg)) 7) := ⟨_, rfl⟩
    rw [← ef_180_a] at hR
    have h := h f_180_a ef_180_a
    have hR : Rp κ w_147_a y X [(q_79, .inl (kT κ 0, (13, .inl (f_180_a))))] H := hR
    refine lv_dup hx hb dX8_ofCompanyNow_181 rfl ?_
    refine lv_bipush (v := (12 : Int32)) hx hb dX8_ofCompanyNow_182 (by decide) ?_
    refine lv_aload_n hx hb dX8_ofCompanyNow_184 rfl (lv_at hl 3 rfl) ?_
    refine g26_8 hx hb hts hown hK hR (hM.com (vp_lt o_5)) q2157 dX8_ofCompanyNow_185 ?_
    have o_188_a := h.1
    have h := h.2
    refine xa_iast hx hb hK.1 hS (hR.LD.2 0 _ rfl) (hR.L 0 _ rfl) 0 rfl o_188_a dX8_ofCompanyNow_188 (fun H1 locs h1 hz ho hS => ?_)
    have hR := hR.putL (t := 0) rfl h1 hz ho
    clear h1 hz ho
    generalize H1 = H at hR hS ⊢
    obtain ⟨f_188_a, ef_188_a⟩ : ∃ z, z = upd f_180_a ((12 : Int32)).toNatClampNeg (gv w_147_a 26 (((p1).toNatClampNeg)) 8) := ⟨_, rfl⟩
    rw [← ef_188_a] at hR
    have h := h f_188_a ef_188_a
    have hR : Rp κ w_147_a y X [(q_79, .inl (kT κ 0, (13, .inl (f_188_a))))] H := hR
    refine lv_astore (lv' := [(5, .ref (q_79)), (0, .ref (y.2 20 0)), (1, .int (p1)), (2, .int (p2)), (3, .ref (y.2 26 ((p1).toNatClampNeg))), (4, .int (y4_24))]) hx hb dX8_ofCompanyNow_189 hl (by decide) rfl (fun ls hl => ?_)
    refine lv_aload hx hb dX8_ofCompanyNow_191 (lv_at hl 0 rfl) ?_
    refine lv_iload_n hx hb dX8_ofCompanyNow_193 rfl (lv_at hl 3 rfl) ?_
    have o_194_a := h.1
    have h := h.2
    refine xa_iald hx hb hK.1 (hR.L 0 _ rfl) 0 rfl o_194_a dX8_ofCompanyNow_194 ?_
    have hR := hR.sub (L' := []) [] rfl rfl
    refine W.widen (k := 4) (n := 25) (Nat.le_of_ble_eq_true rfl) (Nat.le_of_ble_eq_true rfl) ?_
    exact W.iret (v := f_188_a (p2).toNatClampNeg) hx hb hr (fun t ht hW9 => ⟨⟨f_188_a (p2).toNatClampNeg, w_147_a, rfl, h, rpt ht hR⟩, hS.F ht⟩) hS.2.2 dX8_ofCompanyNow_195
