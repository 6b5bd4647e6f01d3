/-! printed by wip gen: X1_clerks_2, X1_due_2, X1_ofCompany, X1_wouldBring, X1_bestForce, X1_direct_2, X1_wouldWin, X1_isSound, X1_addCompany, X1_award, X1_autumn, X1_due, X1_begin -/
set_option maxRecDepth 100000
abbrev rm_X1_clerks_2 : Room := { frames := 4, cells := 10, slots := 40, locals := 94 }
def st_X1_clerks_2_18 (κ : Kx) (y : Ly) (post : Wd → Prop) (ex : Wd → Prop) (rec : Wd → Nat → Int32 → Prop) (i1 : Nat) (i2 : Nat) (w : Wd) (c3 : Nat) (z3 : Int32) : Prop := ((¬ (¬ c3 = nV y)) → (ex w )) ∧ (((¬ c3 = nV y)) → (((gv w 4 i2 4 = 0) → (rec w (c3 + 1) (nI c3))) ∧ ((¬ (gv w 4 i2 4 = 0)) → (sp_X1_isLet κ y (fun r_49 w_49 => ((¬ r_49 = 0) → (rec w_49 (c3 + 1) (nI c3))) ∧ ((r_49 = 0) → (((¬ gv w_49 6 c3 16 = 0) → (rec w_49 (c3 + 1) (nI c3))) ∧ ((gv w_49 6 c3 16 = 0) → (sp_X2_hasAll κ y (fun r_68 w_68 => ((¬ r_68 = 0) → (sp_X2_pay κ y (fun r_86 w_86 => sp_X1_dueByLaw κ y (fun r_105 w_105 => sp_X10_shown κ y (fun r_109 w_109 => sp_D_got κ y (fun r_122 w_122 => sp_D_worth κ y (fun r_125 w_125 => ∀ w_129 : Wd, w_129 = sv w_125 4 i2 5 ((gv w_86 4 i2 5) + r_125) → rec w_129 (c3 + 1) (nI c3)) w_122 i1 r_122) w_109 i1 c3 r_109 (0 : Int32) 1 (1 : Int32)) w_105 c3 r_105 (1 : Int32)) w_86 c3 i1) w_68 1 0 (4 : Int32))) ∧ ((r_68 = 0) → (rec w_68 (c3 + 1) (nI c3)))) w_49 1 (4 : Int32)))))) w c3 i1))))
def sp_X1_clerks_2_18 (κ : Kx) (y : Ly) (post : Wd → Prop) (ex : Wd → Prop) (i1 : Nat) (i2 : Nat) : Nat → Wd → Nat → Int32 → Prop
  | 0 => fun _ _ _ => False
  | n + 1 => fun w c3 z3 => st_X1_clerks_2_18 κ y post ex (sp_X1_clerks_2_18 κ y post ex i1 i2 n) i1 i2 w c3 z3
set_option maxHeartbeats 4000000 in
theorem lp_X1_clerks_2_18 {p : Program} {l : Launch} {e : Env} {s : State} {m : MethodId} {args : Array Value} {below : List Frame} {meth : Method} {c : Code} {κ : Kx} {y : Ly} {X : XR} {post : Wd → Prop} {q3 : Nat} {i1 : Nat} {i2 : Nat} (hx : p.tables.exec = Jvm.exec) (hb : c.code = cX1_clerks_2) (hr : meth.sig.returnType = (Option.none : Option Jvm.ClassFile.FieldType)) (hml : c.maxLocals = 5) (hown : s.vm.findClass RX1 = some m.cls) (hts : ∀ w ∈ lw_all, w.before args s = true) (hlocks : meth.locks = false) (hK : KK κ s) (hW : WFc κ y) (l0 : live y 0 0) (l1 : i1 < 3) (l2 : live y 4 i2) {C1 S1 : Nat} (hC : C1 ≤ 10) (hSl : S1 ≤ 40) {ex : Wd → Prop}
    (kx : ∀ (w : Wd)  (H : Heap) (locs : List Loc) (ls : Array Slot) (cells slots : Nat) , ex w  → Rp κ w y X [] H → va_S (Af κ) s.heap H locs → lv_has ls 5 [] → cells ≤ C1 → slots ≤ S1 → W p l e (headSpec (ws_ yX1_clerks_2 cX1_clerks_2 5 (Option.none : Option Jvm.ClassFile.FieldType)) rm_X1_clerks_2).room s m args below meth c H locs cells slots (MQ below (va_Qv post (fun w t => Rp κ w y X [] t.heap) (Af κ)) args s 10 40 (Af κ)) (F0 m 135 ls [])) :
    ∀ (f : Nat) (w : Wd) (c3 : Nat) (z3 : Int32) (H : Heap) (locs : List Loc) (ls : Array Slot) (cells slots : Nat)  (hc3 : c3 ≤ nV y), sp_X1_clerks_2_18 κ y post ex i1 i2 f w c3 z3 → Rp κ w y X [(q3, itC y 40 0 c3 z3)] H → va_S (Af κ) s.heap H locs → lv_has ls 5 [(0, .ref (y.2 0 0)), (1, .ref (kA κ (20 + i1))), (2, .ref (y.2 4 i2)), (3, .ref (q3))] → cells + f * 1 ≤ C1 → slots + f * 4 ≤ S1 → W p l e (headSpec (ws_ yX1_clerks_2 cX1_clerks_2 5 (Option.none : Option Jvm.ClassFile.FieldType)) rm_X1_clerks_2).room s m args below meth c H locs cells slots (MQ below (va_Qv post (fun w t => Rp κ w y X [] t.heap) (Af κ)) args s 10 40 (Af κ)) (F0 m 18 ls []) := by
  intro f
  induction f with
  | zero =>
    intro w c3 z3 H locs ls cells slots hc3 h
    exact False.elim h
  | succ f ih =>
    intro w c3 z3 H locs ls cells slots hc3 h hR hS hl hc hs
    have h : st_X1_clerks_2_18 κ y post ex (sp_X1_clerks_2_18 κ y post ex i1 i2 f) i1 i2 w c3 z3 := h
    unfold st_X1_clerks_2_18 at h
    refine lv_aload_n hx hb dX1_clerks_2_18 rfl (lv_at hl 3 rfl) ?_
    refine jr_hasNext (t := 0) ⟨hx, hb, hml, hown, hts⟩ hK hR rfl ⟨fun _ _ _ _ _ => rfl, fun _ _ _ _ _ => rfl⟩ hW.lsV (by omega) (Nat.le_trans hW.nV8 (by decide)) q349 ⟨Nat.le_of_ble_eq_true rfl, Nat.le_of_ble_eq_true rfl⟩ hl.1 (Nat.le_of_ble_eq_true rfl) dX1_clerks_2_19 ⟨(Nat.le_trans (show cells + 0 ≤ C1 from by omega) hC), (Nat.le_trans (show slots + 0 ≤ S1 from by omega) hSl)⟩ ?_
    refine lv_if_eq (tgt := 135) hx hb dX1_clerks_2_24 (by decide) (fun c_24 => ?_) (fun c_24 => ?_)
    · replace c_24 : ¬ (¬ c3 = nV y) := bi_0.mp c_24
      have h := h.1 c_24
      have hR := hR.sub (L' := []) [] rfl rfl
      exact kx w  _ _ _ _ _ h hR hS (lv_sub hl [] rfl) (by omega) (by omega)
    · replace c_24 : (¬ c3 = nV y) := bi_n0.mp c_24
      have h := h.2 c_24
      refine lv_aload_n hx hb dX1_clerks_2_27 rfl (lv_at hl 3 rfl) ?_
      have hn_28 : c3 < nV y := by omega
      refine jr_next (t := 0) (a := y.2 6 c3) ⟨hx, hb, hml, hown, hts⟩ hK hR hS rfl ⟨fun _ _ _ _ _ => rfl, fun _ _ _ _ _ => rfl⟩ hW.lsV ⟨hW.arV (Nat.lt_of_le_of_lt (Nat.zero_le _) hn_28), (Nat.le_trans hW.nV8 (by decide))⟩ hn_28 (hW.elV hn_28) q359 ⟨Nat.le_of_ble_eq_true rfl, Nat.le_of_ble_eq_true rfl⟩ hl.1 (Nat.le_of_ble_eq_true rfl) dX1_clerks_2_28 ⟨(Nat.le_trans (show cells + 0 ≤ C1 from by omega) hC), (Nat.le_trans (show slots + 0 ≤ S1 from by omega) hSl)⟩ (fun H locs hR hS => ?_)
      have hR : Rp κ w y X [(q3, itC y 40 0 (c3 + 1) (nI c3))] H := hR
      refine jr_castS (ci := 6) hx hb hown hK hts (hR.role (hW.vil hn_28)) rfl q496 dX1_clerks_2_33 ?_
      refine lv_astore (lv' := [(4, .ref (y.2 6 c3)), (0, .ref (y.2 0 0)), (1, .ref (kA κ (20 + i1))), (2, .ref (y.2 4 i2)), (3, .ref (q3))]) hx hb dX1_clerks_2_36 hl (by decide) rfl (fun ls hl => ?_)
      refine lv_aload_n hx hb dX1_clerks_2_38 rfl (lv_at hl 3 rfl) ?_
      refine g4_4 hx hb hts hown hK hR l2 q232 dX1_clerks_2_39 ?_
      refine lv_if_eq (tgt := 18) hx hb dX1_clerks_2_42 (by decide) (fun c_42 => ?_) (fun c_42 => ?_)
      · have h := h.1 c_42
        exact ih w (c3 + 1) (nI c3) _ _ _ _ _ (by omega) h hR hS (lv_sub hl [1, 2, 3, 4] rfl) (by omega) (by omega)
      · have h := h.2 c_42
        refine lv_aload_n hx hb dX1_clerks_2_45 rfl (lv_at hl 1 rfl) ?_
        refine lv_aload hx hb dX1_clerks_2_46 (lv_at hl 0 rfl) ?_
        refine lv_aload_n hx hb dX1_clerks_2_48 rfl (lv_at hl 2 rfl) ?_
        refine ce_qi (fw := fun u => u) (fy := fun _ => y) (cr_V (n := 2) (As := [.ref (y.2 6 c3), .ref (kA κ (20 + i1))]) (rest := []) ⟨hx, hb, hml, hown, hts⟩ hK hR (m_X1_isLet hW l0 (hW.vil hn_28) l1 h) q610 q612 qs9 q74 q613 rfl rfl hd_X1_isLet ⟨Nat.le_of_ble_eq_true rfl, Nat.le_of_ble_eq_true rfl⟩ (rv hK hR l0 (ci := 0) rfl rfl) rfl rfl hl.1 rfl (lv_room (Nat.le_of_ble_eq_true rfl)) dX1_clerks_2_49 ⟨(Nat.le_trans (show cells + 1 ≤ C1 from by omega) hC), (Nat.le_trans (show slots + 4 ≤ S1 from by omega) hSl)⟩) hR hS (fun r_49 w_49 H locs h hR _ hS => ?_)
        refine lv_if_ne (tgt := 18) hx hb dX1_clerks_2_52 (by decide) (fun c_52 => ?_) (fun c_52 => ?_)
        · have h := h.1 c_52
          exact ih w_49 (c3 + 1) (nI c3) _ _ _ _ _ (by omega) h hR hS (lv_sub hl [1, 2, 3, 4] rfl) (by omega) (by omega)
        · have h := h.2 c_52
          refine lv_aload hx hb dX1_clerks_2_55 (lv_at hl 0 rfl) ?_
          refine g6_16 hx hb hts hown hK hR (hW.vil hn_28) q955 dX1_clerks_2_57 ?_
          refine lv_if_ne (tgt := 18) hx hb dX1_clerks_2_60 (by decide) (fun c_60 => ?_) (fun c_60 => ?_)
          · have h := h.1 c_60
            exact ih w_49 (c3 + 1) (nI c3) _ _ _ _ _ (by omega) h hR hS (lv_sub hl [1, 2, 3, 4] rfl) (by omega) (by omega)
          · have h := h.2 c_60
            refine lv_aload_n hx hb dX1_clerks_2_63 rfl (lv_at hl 1 rfl) ?_
            refine g0_5 hx hb hts hown hK hR l0 q252 dX1_clerks_2_64 ?_
            refine lv_iconst (v := (4 : Int32)) hx hb dX1_clerks_2_67 (by decide) ?_
            refine ce_qi (fw := fun u => u) (fy := fun _ => y) (cr_V (n := 1) (As := [.int ((4 : Int32))]) (rest := []) ⟨hx, hb, hml, hown, hts⟩ hK hR (m_X2_hasAll hW hW.tre h) q1208 q1209 q1210 q78 q1215 rfl rfl hd_X2_hasAll ⟨Nat.le_of_ble_eq_true rfl, Nat.le_of_ble_eq_true rfl⟩ (rv_ch1 hK hR hW.tre (by omega)) rfl rfl hl.1 rfl (lv_room (Nat.le_of_ble_eq_true rfl)) dX1_clerks_2_68 ⟨(Nat.le_trans (show cells + 1 + 0 ≤ C1 from by omega) hC), (Nat.le_trans (show slots + 4 + 0 ≤ S1 from by omega) hSl)⟩) hR hS (fun r_68 w_68 H locs h hR _ hS => ?_)
            refine lv_if_ne (tgt := 77) hx hb dX1_clerks_2_71 (by decide) (fun c_71 => ?_) (fun c_71 => ?_)
            · have h := h.1 c_71
              refine lv_aload_n hx hb dX1_clerks_2_77 rfl (lv_at hl 1 rfl) ?_
              refine g0_5 hx hb hts hown hK hR l0 q252 dX1_clerks_2_78 ?_
              refine lv_aload_n hx hb dX1_clerks_2_81 rfl (lv_at hl 1 rfl) ?_
              refine g0_4 hx hb hts hown hK hR l0 q251 dX1_clerks_2_82 ?_
              refine lv_iconst (v := (4 : Int32)) hx hb dX1_clerks_2_85 (by decide) ?_
              refine ce_qi (fw := fun u => u) (fy := fun _ => y) (cr_V (n := 2) (As := [.ref (y.2 1 0), .int ((4 : Int32))]) (rest := []) ⟨hx, hb, hml, hown, hts⟩ hK hR (m_X2_pay hW hW.tre hW.wor (by first | omega | assumption) h) q306 q307 q308 q78 q320 rfl rfl hd_X2_pay ⟨Nat.le_of_ble_eq_true rfl, Nat.le_of_ble_eq_true rfl⟩ (rv_ch1 hK hR hW.tre (by omega)) rfl rfl hl.1 rfl (lv_room (Nat.le_of_ble_eq_true rfl)) dX1_clerks_2_86 ⟨(Nat.le_trans (show cells + 1 + 0 ≤ C1 from by omega) hC), (Nat.le_trans (show slots + 4 + 0 ≤ S1 from by omega) hSl)⟩) hR hS (fun r_86 w_86 H locs h hR _ hS => ?_)
              refine lv_pop hx hb dX1_clerks_2_89 rfl ?_
              refine lv_aload_n hx hb dX1_clerks_2_90 rfl (lv_at hl 3 rfl) ?_
              refine lv_dup hx hb dX1_clerks_2_91 rfl ?_
              refine g4_5 hx hb hts hown hK hR l2 q233 dX1_clerks_2_92 ?_
              refine lv_aload_n hx hb dX1_clerks_2_95 rfl (lv_at hl 2 rfl) ?_
              refine lv_aload_n hx hb dX1_clerks_2_96 rfl (lv_at hl 2 rfl) ?_
              refine lv_aload hx hb dX1_clerks_2_97 (lv_at hl 0 rfl) ?_
              refine lv_aload hx hb dX1_clerks_2_99 (lv_at hl 0 rfl) ?_
              refine lv_aload_n hx hb dX1_clerks_2_101 rfl (lv_at hl 1 rfl) ?_
              refine lv_aload hx hb dX1_clerks_2_102 (lv_at hl 0 rfl) ?_
              refine lv_aload_n hx hb dX1_clerks_2_104 rfl (lv_at hl 2 rfl) ?_
              refine ce_qi (fw := fun u => u) (fy := fun _ => y) (cr_V (n := 2) (As := [.ref (y.2 6 c3), .ref (kA κ (20 + i1))]) (rest := [.ref (y.2 6 c3), .ref (y.2 6 c3), .ref (kA κ (20 + i1)), .ref (kA κ (20 + i1)), .int (gv w_86 4 i2 5), .ref (y.2 4 i2)]) ⟨hx, hb, hml, hown, hts⟩ hK hR (m_X1_dueByLaw hW l0 (hW.vil hn_28) l1 h) q617 q619 qs10 q74 q620 rfl rfl hd_X1_dueByLaw ⟨Nat.le_of_ble_eq_true rfl, Nat.le_of_ble_eq_true rfl⟩ (rv hK hR l0 (ci := 0) rfl rfl) rfl rfl hl.1 rfl (lv_room (Nat.le_of_ble_eq_true rfl)) dX1_clerks_2_105 ⟨(Nat.le_trans (show cells + 1 + 0 ≤ C1 from by omega) hC), (Nat.le_trans (show slots + 4 + 0 ≤ S1 from by omega) hSl)⟩) hR hS (fun r_105 w_105 H locs h hR _ hS => ?_)
              refine lv_iconst (v := (1 : Int32)) hx hb dX1_clerks_2_108 (by decide) ?_
              refine ce_qi (fw := fun u => u) (fy := fun _ => y) (cr_V (n := 2) (As := [.int (r_105), .int ((1 : Int32))]) (rest := [.ref (y.2 6 c3), .ref (kA κ (20 + i1)), .ref (kA κ (20 + i1)), .int (gv w_86 4 i2 5), .ref (y.2 4 i2)]) ⟨hx, hb, hml, hown, hts⟩ hK hR (m_X10_shown hW (hW.vil hn_28) h) q633 q634 q635 q92 q636 rfl rfl hd_X10_shown ⟨Nat.le_of_ble_eq_true rfl, Nat.le_of_ble_eq_true rfl⟩ (rv hK hR (hW.vil hn_28) (ci := 6) rfl rfl) rfl rfl hl.1 rfl (lv_room (Nat.le_of_ble_eq_true rfl)) dX1_clerks_2_109 ⟨(Nat.le_trans (show cells + 1 + 0 ≤ C1 from by omega) hC), (Nat.le_trans (show slots + 4 + 0 ≤ S1 from by omega) hSl)⟩) hR hS (fun r_109 w_109 H locs h hR _ hS => ?_)
              refine lv_iconst (v := (0 : Int32)) hx hb dX1_clerks_2_112 (by decide) ?_
              refine lv_aload_n hx hb dX1_clerks_2_113 rfl (lv_at hl 1 rfl) ?_
              refine g0_5 hx hb hts hown hK hR l0 q252 dX1_clerks_2_114 ?_
              refine lv_aload_n hx hb dX1_clerks_2_117 rfl (lv_at hl 1 rfl) ?_
              refine g0_4 hx hb hts hown hK hR l0 q251 dX1_clerks_2_118 ?_
              refine lv_iconst (v := (1 : Int32)) hx hb dX1_clerks_2_121 (by decide) ?_
              refine ce_qi (fw := fun u => u) (fy := fun _ => y) (cr_got (As := [.ref (y.2 6 c3), .int (r_109), .int ((0 : Int32)), .ref (y.2 1 1), .ref (y.2 1 0), .int ((1 : Int32))]) (rest := [.ref (kA κ (20 + i1)), .int (gv w_86 4 i2 5), .ref (y.2 4 i2)]) ⟨hx, hb, hml, hown, hts⟩ hK hR l1 qi_ret (fun e9 => m_X18_got hW l1 (hW.vil hn_28) hW.tre hW.wor (h.1 e9)) ⟨rfl, rfl⟩ ⟨Nat.le_of_ble_eq_true rfl, Nat.le_of_ble_eq_true rfl⟩ (fun e9 => m_X7_got hW l1 (hW.vil hn_28) hW.tre hW.wor (h.2.1 e9)) ⟨rfl, rfl⟩ ⟨Nat.le_of_ble_eq_true rfl, Nat.le_of_ble_eq_true rfl⟩ (fun e9 => m_X7_got hW l1 (hW.vil hn_28) hW.tre hW.wor (h.2.2 e9)) ⟨rfl, rfl⟩ ⟨Nat.le_of_ble_eq_true rfl, Nat.le_of_ble_eq_true rfl⟩ q644 rfl rfl hl.1 rfl (lv_room (Nat.le_of_ble_eq_true rfl)) dX1_clerks_2_122 ⟨(Nat.le_trans (show cells + 1 + 0 ≤ C1 from by omega) hC), (Nat.le_trans (show slots + 4 + 0 ≤ S1 from by omega) hSl)⟩) hR hS (fun r_122 w_122 H locs h hR _ hS => ?_)
              refine ce_qi (fw := fun u => u) (fy := fun _ => y) (cr_worth (As := [.int (r_122)]) (rest := [.int (gv w_86 4 i2 5), .ref (y.2 4 i2)]) ⟨hx, hb, hml, hown, hts⟩ hK hR l1 qi_ret (fun e9 => m_X18_worth hW l1 (h.1 e9)) ⟨rfl, rfl⟩ ⟨Nat.le_of_ble_eq_true rfl, Nat.le_of_ble_eq_true rfl⟩ (fun e9 => m_X7_worth hW l1 (h.2.1 e9)) ⟨rfl, rfl⟩ ⟨Nat.le_of_ble_eq_true rfl, Nat.le_of_ble_eq_true rfl⟩ (fun e9 => m_X7_worth hW l1 (h.2.2 e9)) ⟨rfl, rfl⟩ ⟨Nat.le_of_ble_eq_true rfl, Nat.le_of_ble_eq_true rfl⟩ q663 rfl rfl hl.1 rfl (lv_room (Nat.le_of_ble_eq_true rfl)) dX1_clerks_2_125 ⟨(Nat.le_trans (show cells + 1 + 0 ≤ C1 from by omega) hC), (Nat.le_trans (show slots + 4 + 0 ≤ S1 from by omega) hSl)⟩) hR hS (fun r_125 w_125 H locs h hR _ hS => ?_)
              refine lv_iadd hx hb dX1_clerks_2_128 ?_
              refine p4_5 hx hb hts hown hK hR hS l2 q233 dX1_clerks_2_129 (fun H locs w_129 ew_129 hR hS => ?_)
              have h := h w_129 ew_129
              refine lv_goto (tgt := 18) hx hb dX1_clerks_2_132 (by decide) ?_
              exact ih w_129 (c3 + 1) (nI c3) _ _ _ _ _ (by omega) h hR hS (lv_sub hl [1, 2, 3, 4] rfl) (by omega) (by omega)
            · have h := h.2 c_71
              refine lv_goto (tgt := 18) hx hb dX1_clerks_2_74 (by decide) ?_
              exact ih w_68 (c3 + 1) (nI c3) _ _ _ _ _ (by omega) h hR hS (lv_sub hl [1, 2, 3, 4] rfl) (by omega) (by omega)
def sp_X1_clerks_2 (κ : Kx) (y : Ly) (post : Wd → Prop) (w : Wd) (a1 : Nat) : Prop := (vp_in (nI a1) 3) ∧ (sp_X1_clerks_2_18 κ y post (fun w_18  => post w_18) a1 (((nI a1).toNatClampNeg)) 9 w 0 (-1))
theorem hd_X1_clerks_2 : yX1_clerks_2.cls = RX1 ∧ yX1_clerks_2.cls ≠ "java/lang/invoke/MethodHandle" ∧ yX1_clerks_2.cls ≠ "java/lang/invoke/VarHandle" ∧ (parseMethodDescriptor yX1_clerks_2.desc).map (fun d => d.parameters.length) = some 1 := by decide +kernel
set_option maxHeartbeats 4000000 in
theorem m_X1_clerks_2 {l : Launch} {κ : Kx} {y : Ly} {X : XR} {post : Wd → Prop} {w : Wd} {a1 : Nat}  (hW : WFc κ y) (l0 : live y 0 0) (l1 : a1 < 3) (h : sp_X1_clerks_2 κ y post w a1) : Met l yX1_clerks_2 (ws_ yX1_clerks_2 cX1_clerks_2 5 (Option.none : Option Jvm.ClassFile.FieldType)) rm_X1_clerks_2 (va_Pc [.ref (y.2 0 0), .ref (kA κ (20 + a1))] (RC κ w y X)) (va_Qv post (fun w t => Rp κ w y X [] t.heap) (Af κ)) 10 40 (Af κ) := by
  unfold sp_X1_clerks_2 at h
  refine Met.ofW (cc := cX1_clerks_2) (maxL := 5) (ret := (Option.none : Option Jvm.ClassFile.FieldType)) (by decide) rfl ?_
  intro p e s m args below meth c s₁ B hml hv
  obtain ⟨rfl, hR, hK⟩ := hv
  have hx := B.exec
  have hb := B.bytes
  have hr := B.returns
  have hts := atoms_spec (ws := ws_ yX1_clerks_2 cX1_clerks_2 5 (Option.none : Option Jvm.ClassFile.FieldType)) B.pre
  have hts : ∀ w ∈ lw_all, w.before _ s = true := fun w h => hts w (List.mem_cons_of_mem _ h)
  have hown : s.vm.findClass RX1 = some m.cls := findClass_of_methodNamed B.named
  have hlocks := B.notSynchronized
  have hS : va_S (Af κ) s.heap s.heap [] := va_S.rf
  have hl := lv_entry ([.ref (y.2 0 0), .ref (kA κ (20 + a1))]) (n := 5) (Nat.le_of_ble_eq_true rfl)
  rw [lg_entry_eq]
  generalize (lg_sl ([.ref (y.2 0 0), .ref (kA κ (20 + a1))]) ++ List.replicate (5 - (lg_sl ([.ref (y.2 0 0), .ref (kA κ (20 + a1))])).length) Slot.unset).toArray = ls at hl ⊢
  have hl : lv_has ls 5 [(0, .ref (y.2 0 0)), (1, .ref (kA κ (20 + a1)))] := hl
  refine lv_aload_n hx hb dX1_clerks_2_0 rfl (lv_at hl 0 rfl) ?_
  refine g0_3 hx hb hts hown hK hR l0 q250 dX1_clerks_2_1 ?_
  refine lv_aload_n hx hb dX1_clerks_2_4 rfl (lv_at hl 1 rfl) ?_
  refine ce_s (cr_oD (rest := [.ref (y.2 5 0)]) ⟨hx, hb, hml, hown, hts⟩ hK hR l1 q595 ⟨Nat.le_of_ble_eq_true rfl, Nat.le_of_ble_eq_true rfl⟩ rfl hl.1 rfl (lv_room (Nat.le_of_ble_eq_true rfl)) dX1_clerks_2_5 ⟨(Nat.le_of_ble_eq_true rfl), (Nat.le_of_ble_eq_true rfl)⟩) ?_
  have o_8 := h.1
  have h := h.2
  refine a5 hx hb hK hR hW.rla o_8 dX1_clerks_2_8 ?_
  refine lv_astore_n (lv' := [(2, .ref (y.2 4 ((nI a1).toNatClampNeg))), (0, .ref (y.2 0 0)), (1, .ref (kA κ (20 + a1)))]) hx hb dX1_clerks_2_9 rfl hl (by decide) rfl (fun ls hl => ?_)
  refine lv_aload_n hx hb dX1_clerks_2_10 rfl (lv_at hl 1 rfl) ?_
  refine g0_0 hx hb hts hown hK hR l0 q247 dX1_clerks_2_11 ?_
  refine jr_iter ⟨hx, hb, hml, hown, hts⟩ hK hR hS ⟨fun _ _ _ _ _ => rfl, fun _ _ _ _ _ => rfl⟩ hW.lsV q325 ⟨Nat.le_of_ble_eq_true rfl, Nat.le_of_ble_eq_true rfl⟩ hl.1 (Nat.le_of_ble_eq_true rfl) dX1_clerks_2_14 ⟨(Nat.le_of_ble_eq_true rfl), (Nat.le_of_ble_eq_true rfl)⟩ (fun q_14 H locs hR hS => ?_)
  have hR : Rp κ w y X [(q_14, itC y 40 0 0 (-1))] H := hR
  refine lv_astore_n (lv' := [(3, .ref (q_14)), (2, .ref (y.2 4 ((nI a1).toNatClampNeg))), (0, .ref (y.2 0 0)), (1, .ref (kA κ (20 + a1)))]) hx hb dX1_clerks_2_17 rfl hl (by decide) rfl (fun ls hl => ?_)
  refine lp_X1_clerks_2_18 (C1 := 10) (S1 := 40) hx hb hr hml hown hts hlocks hK hW l0 l1 (hW.rul (vp_lt o_8)) (Nat.le_of_ble_eq_true rfl) (Nat.le_of_ble_eq_true rfl) (fun w_18  H locs ls cells9 slots9 h hR hS hl hc9 hs9 => ?_) 9 w 0 (-1) _ _ _ _ _ (by omega) h hR hS (lv_sub hl [2, 3, 1, 0] rfl) (by omega) (by omega)
  refine W.widen (k := 10) (n := 40) hc9 hs9 ?_
  refine W.widen (k := 10) (n := 40) (Nat.le_of_ble_eq_true rfl) (Nat.le_of_ble_eq_true rfl) ?_
  exact W.vret hx hb hr (fun t ht hW9 => ⟨⟨w_18, rfl, h, rpt ht hR⟩, hS.F ht⟩) hS.2.2 dX1_clerks_2_135
abbrev rm_X1_due_2 : Room := { frames := 2, cells := 0, slots := 0, locals := 45 }
def sp_X1_due_2 (κ : Kx) (y : Ly) (post : Int32 → Wd → Prop) (w : Wd) (a1 : Nat) (a2 : Nat) (p3 : Int32) : Prop := ((p3 = 0) → (sp_X10_due κ y (fun r_15 w_15 => post (r_15) w_15) w a1 a2)) ∧ ((¬ (p3 = 0)) → (sp_X1_dueByLaw κ y (fun r_7 w_7 => post (r_7) w_7) w a1 a2))
theorem hd_X1_due_2 : yX1_due_2.cls = RX1 ∧ yX1_due_2.cls ≠ "java/lang/invoke/MethodHandle" ∧ yX1_due_2.cls ≠ "java/lang/invoke/VarHandle" ∧ (parseMethodDescriptor yX1_due_2.desc).map (fun d => d.parameters.length) = some 3 := by decide +kernel
set_option maxHeartbeats 4000000 in
theorem m_X1_due_2 {l : Launch} {κ : Kx} {y : Ly} {X : XR} {post : Int32 → Wd → Prop} {w : Wd} {a1 : Nat} {a2 : Nat} {p3 : Int32}  (hW : WFc κ y) (l0 : live y 0 0) (l1 : live y 6 a1) (l2 : a2 < 3) (h : sp_X1_due_2 κ y post w a1 a2 p3) : Met l yX1_due_2 (ws_ yX1_due_2 cX1_due_2 4 (Option.some Jvm.ClassFile.FieldType.int)) rm_X1_due_2 (va_Pc [.ref (y.2 0 0), .ref (y.2 6 a1), .ref (kA κ (20 + a2)), .int (p3)] (RC κ w y X)) (va_Qi post (fun w t => Rp κ w y X [] t.heap) (Af κ)) 0 0 (Af κ) := by
  unfold sp_X1_due_2 at h
  refine Met.ofW (cc := cX1_due_2) (maxL := 4) (ret := (Option.some Jvm.ClassFile.FieldType.int)) (by decide) rfl ?_
  intro p e s m args below meth c s₁ B hml hv
  obtain ⟨rfl, hR, hK⟩ := hv
  have hx := B.exec
  have hb := B.bytes
  have hr := B.returns
  have hts := atoms_spec (ws := ws_ yX1_due_2 cX1_due_2 4 (Option.some Jvm.ClassFile.FieldType.int)) B.pre
  have hts : ∀ w ∈ lw_all, w.before _ s = true := fun w h => hts w (List.mem_cons_of_mem _ h)
  have hown : s.vm.findClass RX1 = some m.cls := findClass_of_methodNamed B.named
  have hlocks := B.notSynchronized
  have hS : va_S (Af κ) s.heap s.heap [] := va_S.rf
  have hl := lv_entry ([.ref (y.2 0 0), .ref (y.2 6 a1), .ref (kA κ (20 + a2)), .int (p3)]) (n := 4) (Nat.le_of_ble_eq_true rfl)
  rw [lg_entry_eq]
  generalize (lg_sl ([.ref (y.2 0 0), .ref (y.2 6 a1), .ref (kA κ (20 + a2)), .int (p3)]) ++ List.replicate (4 - (lg_sl ([.ref (y.2 0 0), .ref (y.2 6 a1), .ref (kA κ (20 + a2)), .int (p3)])).length) Slot.unset).toArray = ls at hl ⊢
  have hl : lv_has ls 4 [(0, .ref (y.2 0 0)), (1, .ref (y.2 6 a1)), (2, .ref (kA κ (20 + a2))), (3, .int (p3))] := hl
  refine lv_iload_n hx hb dX1_due_2_0 rfl (lv_at hl 3 rfl) ?_
  refine lv_if_eq (tgt := 13) hx hb dX1_due_2_1 (by decide) (fun c_1 => ?_) (fun c_1 => ?_)
  · have h := h.1 c_1
    refine lv_aload_n hx hb dX1_due_2_13 rfl (lv_at hl 1 rfl) ?_
    refine lv_aload_n hx hb dX1_due_2_14 rfl (lv_at hl 2 rfl) ?_
    refine ce_qi (fw := fun u => u) (fy := fun _ => y) (cr_V (n := 1) (As := [.ref (kA κ (20 + a2))]) (rest := []) ⟨hx, hb, hml, hown, hts⟩ hK hR (m_X10_due hW l1 l2 h) q679 q680 q681 q92 q682 rfl rfl hd_X10_due ⟨Nat.le_of_ble_eq_true rfl, Nat.le_of_ble_eq_true rfl⟩ (rv hK hR l1 (ci := 6) rfl rfl) rfl rfl hl.1 rfl (lv_room (Nat.le_of_ble_eq_true rfl)) dX1_due_2_15 ⟨(Nat.le_of_ble_eq_true rfl), (Nat.le_of_ble_eq_true rfl)⟩) hR hS (fun r_15 w_15 H locs h hR _ hS => ?_)
    refine W.widen (k := 0) (n := 0) (Nat.le_of_ble_eq_true rfl) (Nat.le_of_ble_eq_true rfl) ?_
    exact W.iret (v := r_15) hx hb hr (fun t ht hW9 => ⟨⟨r_15, w_15, rfl, h, rpt ht hR⟩, hS.F ht⟩) hS.2.2 dX1_due_2_18
  · have h := h.2 c_1
    refine lv_aload_n hx hb dX1_due_2_4 rfl (lv_at hl 0 rfl) ?_
    refine lv_aload_n hx hb dX1_due_2_5 rfl (lv_at hl 1 rfl) ?_
    refine lv_aload_n hx hb dX1_due_2_6 rfl (lv_at hl 2 rfl) ?_
    refine ce_qi (fw := fun u => u) (fy := fun _ => y) (cr_V (n := 2) (As := [.ref (y.2 6 a1), .ref (kA κ (20 + a2))]) (rest := []) ⟨hx, hb, hml, hown, hts⟩ hK hR (m_X1_dueByLaw hW l0 l1 l2 h) q617 q619 qs10 q74 q620 rfl rfl hd_X1_dueByLaw ⟨Nat.le_of_ble_eq_true rfl, Nat.le_of_ble_eq_true rfl⟩ (rv hK hR l0 (ci := 0) rfl rfl) rfl rfl hl.1 rfl (lv_room (Nat.le_of_ble_eq_true rfl)) dX1_due_2_7 ⟨(Nat.le_of_ble_eq_true rfl), (Nat.le_of_ble_eq_true rfl)⟩) hR hS (fun r_7 w_7 H locs h hR _ hS => ?_)
    refine lv_goto (tgt := 18) hx hb dX1_due_2_10 (by decide) ?_
    refine W.widen (k := 0) (n := 0) (Nat.le_of_ble_eq_true rfl) (Nat.le_of_ble_eq_true rfl) ?_
    exact W.iret (v := r_7) hx hb hr (fun t ht hW9 => ⟨⟨r_7, w_7, rfl, h, rpt ht hR⟩, hS.F ht⟩) hS.2.2 dX1_due_2_18
abbrev rm_X1_ofCompany : Room := { frames := 8, cells := 3, slots := 16, locals := 133 }
def sp_X1_ofCompany (κ : Kx) (y : Ly) (post : Int32 → Wd → Prop) (px : String → Wd → Prop) (w : Wd) (p1 : Int32) (p2 : Int32) : Prop := sp_X1_companyOf κ y (fun i_2 w_2 => sp_X1_isIn κ y (fun r_10 w_10 => sp_X1_check κ y (fun w_16 => sp_X1_told_5 κ y (fun r_22 w_22 => post (r_22) w_22) w_16 i_2 p2) px w_10 r_10) w_2 p2 (0 : Int32) (12 : Int32)) px w p1
theorem hd_X1_ofCompany : yX1_ofCompany.cls = RX1 ∧ yX1_ofCompany.cls ≠ "java/lang/invoke/MethodHandle" ∧ yX1_ofCompany.cls ≠ "java/lang/invoke/VarHandle" ∧ (parseMethodDescriptor yX1_ofCompany.desc).map (fun d => d.parameters.length) = some 2 := by decide +kernel
set_option maxHeartbeats 4000000 in
theorem m_X1_ofCompany {l : Launch} {κ : Kx} {y : Ly} {X : XR} {post : Int32 → Wd → Prop} {px : String → Wd → Prop} {w : Wd} {p1 : Int32} {p2 : Int32}  (hfl : l.stackTraces = false) (hW : WFc κ y) (l0 : live y 0 0) (h : sp_X1_ofCompany κ y post px w p1 p2) : vx_Met l yX1_ofCompany (ws_ yX1_ofCompany cX1_ofCompany 4 (Option.some Jvm.ClassFile.FieldType.int)) rm_X1_ofCompany (va_Pc [.ref (y.2 0 0), .int (p1), .int (p2)] (RC κ w y X)) (va_Qi post (fun w t => Rp κ w y X [] t.heap) (Af κ)) (XCk κ y X px) 3 16 (Af κ) := by
  unfold sp_X1_ofCompany at h
  refine vx_ofW (cc := cX1_ofCompany) (maxL := 4) (ret := (Option.some Jvm.ClassFile.FieldType.int)) (by decide) rfl ?_
  intro p e s m args below meth c s₁ B hml ht hv
  obtain ⟨rfl, hR, hK⟩ := hv
  have hx := B.exec
  have hb := B.bytes
  have hr := B.returns
  have hts := atoms_spec (ws := ws_ yX1_ofCompany cX1_ofCompany 4 (Option.some Jvm.ClassFile.FieldType.int)) B.pre
  have hts : ∀ w ∈ lw_all, w.before _ s = true := fun w h => hts w (List.mem_cons_of_mem _ h)
  have hown : s.vm.findClass RX1 = some m.cls := findClass_of_methodNamed B.named
  have hlocks := B.notSynchronized
  have hR0 := hR
  have hS : va_S (Af κ) s.heap s.heap [] := va_S.rf
  have hl := lv_entry ([.ref (y.2 0 0), .int (p1), .int (p2)]) (n := 4) (Nat.le_of_ble_eq_true rfl)
  rw [lg_entry_eq]
  generalize (lg_sl ([.ref (y.2 0 0), .int (p1), .int (p2)]) ++ List.replicate (4 - (lg_sl ([.ref (y.2 0 0), .int (p1), .int (p2)])).length) Slot.unset).toArray = ls at hl ⊢
  have hl : lv_has ls 4 [(0, .ref (y.2 0 0)), (1, .int (p1)), (2, .int (p2))] := hl
  refine lv_aload_n hx hb dX1_ofCompany_0 rfl (lv_at hl 0 rfl) ?_
  refine lv_iload_n hx hb dX1_ofCompany_1 rfl (lv_at hl 1 rfl) ?_
  refine cex_qr (fw := fun u : Nat × Wd => u.2) (fy := fun _ => y) (P := (fun (u : Nat × Wd) ra => ra = y.2 9 u.1 ∧ live y 9 u.1)) (crx_V (n := 1) (As := [.int (p1)]) (rest := []) ⟨hx, hb, hml, hown, hts⟩ hK hR (m_X1_companyOf hfl hW l0 h) q1176 q1178 qs22 q74 q1179 rfl rfl hd_X1_companyOf ⟨Nat.le_of_ble_eq_true rfl, Nat.le_of_ble_eq_true rfl⟩ (rv hK hR l0 (ci := 0) rfl rfl) rfl rfl hl.1 rfl (lv_room (Nat.le_of_ble_eq_true rfl)) dX1_ofCompany_2 ⟨(Nat.le_of_ble_eq_true rfl), (Nat.le_of_ble_eq_true rfl)⟩) hR hS ht hlocks (Nat.le_of_ble_eq_true rfl) (Nat.le_of_ble_eq_true rfl) (fun u9 a_2 H locs h p9 hR _ hS => ?_)
  obtain ⟨i_2, w_2⟩ := u9
  obtain ⟨e9, lv_2⟩ := p9
  dsimp only at e9 lv_2
  subst e9
  refine lv_astore_n (lv' := [(3, .ref (y.2 9 i_2)), (0, .ref (y.2 0 0)), (1, .int (p1)), (2, .int (p2))]) hx hb dX1_ofCompany_5 rfl hl (by decide) rfl (fun ls hl => ?_)
  refine lv_iload_n hx hb dX1_ofCompany_6 rfl (lv_at hl 3 rfl) ?_
  refine lv_iconst (v := (0 : Int32)) hx hb dX1_ofCompany_7 (by decide) ?_
  refine lv_bipush (v := (12 : Int32)) hx hb dX1_ofCompany_8 (by decide) ?_
  refine ce_qi (fw := fun u => u) (fy := fun _ => y) (cr_S (n := 3) (As := [.int (p2), .int ((0 : Int32)), .int ((12 : Int32))]) (rest := []) ⟨hx, hb, hml, hown, hts⟩ hK hR (m_X1_isIn hW h) q790 q791 q74 q792 rfl rfl hds_X1_isIn ⟨Nat.le_of_ble_eq_true rfl, Nat.le_of_ble_eq_true rfl⟩ rfl rfl hl.1 rfl (lv_room (Nat.le_of_ble_eq_true rfl)) dX1_ofCompany_10 ⟨(Nat.le_of_ble_eq_true rfl), (Nat.le_of_ble_eq_true rfl)⟩) hR hS (fun r_10 w_10 H locs h hR _ hS => ?_)
  refine jr_ldcwS (own := "Publicanry") (k := 578) (tx := "what") (n := 1578) hx hb hown hK (List.mem_of_getElem? (i := 22) rfl) dX1_ofCompany_13 ?_
  refine cex_qv (fw := fun u => u) (fy := fun _ => y) (crx_S (n := 2) (As := [.int (r_10), .ref (kA κ 1578)]) (rest := []) ⟨hx, hb, hml, hown, hts⟩ hK hR (m_X1_check hfl hW h) q794 q795 q74 q796 rfl rfl hds_X1_check ⟨Nat.le_of_ble_eq_true rfl, Nat.le_of_ble_eq_true rfl⟩ rfl rfl hl.1 rfl (lv_room (Nat.le_of_ble_eq_true rfl)) dX1_ofCompany_16 ⟨(Nat.le_of_ble_eq_true rfl), (Nat.le_of_ble_eq_true rfl)⟩) hR hS ht hlocks (Nat.le_of_ble_eq_true rfl) (Nat.le_of_ble_eq_true rfl) (fun w_16 H locs h hR _ hS => ?_)
  refine lv_aload_n hx hb dX1_ofCompany_19 rfl (lv_at hl 1 rfl) ?_
  refine lv_aload_n hx hb dX1_ofCompany_20 rfl (lv_at hl 0 rfl) ?_
  refine lv_iload_n hx hb dX1_ofCompany_21 rfl (lv_at hl 3 rfl) ?_
  refine ce_qi (fw := fun u => u) (fy := fun _ => y) (cr_V (n := 2) (As := [.ref (y.2 9 i_2), .int (p2)]) (rest := []) ⟨hx, hb, hml, hown, hts⟩ hK hR (m_X1_told_5 hW l0 lv_2 h) q717 q719 qs13 q74 q720 rfl rfl hd_X1_told_5 ⟨Nat.le_of_ble_eq_true rfl, Nat.le_of_ble_eq_true rfl⟩ (rv hK hR l0 (ci := 0) rfl rfl) rfl rfl hl.1 rfl (lv_room (Nat.le_of_ble_eq_true rfl)) dX1_ofCompany_22 ⟨(Nat.le_of_ble_eq_true rfl), (Nat.le_of_ble_eq_true rfl)⟩) hR hS (fun r_22 w_22 H locs h hR _ hS => ?_)
  refine W.widen (k := 3) (n := 16) (Nat.le_of_ble_eq_true rfl) (Nat.le_of_ble_eq_true rfl) ?_
  refine vx_ret ?_; exact W.iret (v := r_22) hx hb hr (fun t ht hW9 => ⟨⟨r_22, w_22, rfl, h, rpt ht hR⟩, hS.F ht⟩) hS.2.2 dX1_ofCompany_25
abbrev rm_X1_wouldBring : Room := { frames := 8, cells := 3, slots := 16, locals := 133 }
def sp_X1_wouldBring (κ : Kx) (y : Ly) (post : Int32 → Wd → Prop) (px : String → Wd → Prop) (w : Wd) (p1 : Int32) (p2 : Int32) : Prop := sp_X1_lotOf κ y (fun i_2 w_2 => sp_X1_isIn κ y (fun r_9 w_9 => sp_X1_check κ y (fun w_15 => sp_X1_bring κ y (fun r_21 w_21 => post (r_21) w_21) w_15 i_2 p2) px w_9 r_9) w_2 p2 (0 : Int32) (3 : Int32)) px w p1
theorem hd_X1_wouldBring : yX1_wouldBring.cls = RX1 ∧ yX1_wouldBring.cls ≠ "java/lang/invoke/MethodHandle" ∧ yX1_wouldBring.cls ≠ "java/lang/invoke/VarHandle" ∧ (parseMethodDescriptor yX1_wouldBring.desc).map (fun d => d.parameters.length) = some 2 := by decide +kernel
set_option maxHeartbeats 4000000 in
theorem m_X1_wouldBring {l : Launch} {κ : Kx} {y : Ly} {X : XR} {post : Int32 → Wd → Prop} {px : String → Wd → Prop} {w : Wd} {p1 : Int32} {p2 : Int32}  (hfl : l.stackTraces = false) (hW : WFc κ y) (l0 : live y 0 0) (h : sp_X1_wouldBring κ y post px w p1 p2) : vx_Met l yX1_wouldBring (ws_ yX1_wouldBring cX1_wouldBring 4 (Option.some Jvm.ClassFile.FieldType.int)) rm_X1_wouldBring (va_Pc [.ref (y.2 0 0), .int (p1), .int (p2)] (RC κ w y X)) (va_Qi post (fun w t => Rp κ w y X [] t.heap) (Af κ)) (XCk κ y X px) 3 16 (Af κ) := by
  unfold sp_X1_wouldBring at h
  refine vx_ofW (cc := cX1_wouldBring) (maxL := 4) (ret := (Option.some Jvm.ClassFile.FieldType.int)) (by decide) rfl ?_
  intro p e s m args below meth c s₁ B hml ht hv
  obtain ⟨rfl, hR, hK⟩ := hv
  have hx := B.exec
  have hb := B.bytes
  have hr := B.returns
  have hts := atoms_spec (ws := ws_ yX1_wouldBring cX1_wouldBring 4 (Option.some Jvm.ClassFile.FieldType.int)) B.pre
  have hts : ∀ w ∈ lw_all, w.before _ s = true := fun w h => hts w (List.mem_cons_of_mem _ h)
  have hown : s.vm.findClass RX1 = some m.cls := findClass_of_methodNamed B.named
  have hlocks := B.notSynchronized
  have hR0 := hR
  have hS : va_S (Af κ) s.heap s.heap [] := va_S.rf
  have hl := lv_entry ([.ref (y.2 0 0), .int (p1), .int (p2)]) (n := 4) (Nat.le_of_ble_eq_true rfl)
  rw [lg_entry_eq]
  generalize (lg_sl ([.ref (y.2 0 0), .int (p1), .int (p2)]) ++ List.replicate (4 - (lg_sl ([.ref (y.2 0 0), .int (p1), .int (p2)])).length) Slot.unset).toArray = ls at hl ⊢
  have hl : lv_has ls 4 [(0, .ref (y.2 0 0)), (1, .int (p1)), (2, .int (p2))] := hl
  refine lv_aload_n hx hb dX1_wouldBring_0 rfl (lv_at hl 0 rfl) ?_
  refine lv_iload_n hx hb dX1_wouldBring_1 rfl (lv_at hl 1 rfl) ?_
  refine cex_qr (fw := fun u : Nat × Wd => u.2) (fy := fun _ => y) (P := (fun (u : Nat × Wd) ra => ra = y.2 11 u.1 ∧ live y 11 u.1)) (crx_V (n := 1) (As := [.int (p1)]) (rest := []) ⟨hx, hb, hml, hown, hts⟩ hK hR (m_X1_lotOf hfl hW l0 h) q1317 q1319 qs24 q74 q1320 rfl rfl hd_X1_lotOf ⟨Nat.le_of_ble_eq_true rfl, Nat.le_of_ble_eq_true rfl⟩ (rv hK hR l0 (ci := 0) rfl rfl) rfl rfl hl.1 rfl (lv_room (Nat.le_of_ble_eq_true rfl)) dX1_wouldBring_2 ⟨(Nat.le_of_ble_eq_true rfl), (Nat.le_of_ble_eq_true rfl)⟩) hR hS ht hlocks (Nat.le_of_ble_eq_true rfl) (Nat.le_of_ble_eq_true rfl) (fun u9 a_2 H locs h p9 hR _ hS => ?_)
  obtain ⟨i_2, w_2⟩ := u9
  obtain ⟨e9, lv_2⟩ := p9
  dsimp only at e9 lv_2
  subst e9
  refine lv_astore_n (lv' := [(3, .ref (y.2 11 i_2)), (0, .ref (y.2 0 0)), (1, .int (p1)), (2, .int (p2))]) hx hb dX1_wouldBring_5 rfl hl (by decide) rfl (fun ls hl => ?_)
  refine lv_iload_n hx hb dX1_wouldBring_6 rfl (lv_at hl 3 rfl) ?_
  refine lv_iconst (v := (0 : Int32)) hx hb dX1_wouldBring_7 (by decide) ?_
  refine lv_iconst (v := (3 : Int32)) hx hb dX1_wouldBring_8 (by decide) ?_
  refine ce_qi (fw := fun u => u) (fy := fun _ => y) (cr_S (n := 3) (As := [.int (p2), .int ((0 : Int32)), .int ((3 : Int32))]) (rest := []) ⟨hx, hb, hml, hown, hts⟩ hK hR (m_X1_isIn hW h) q790 q791 q74 q792 rfl rfl hds_X1_isIn ⟨Nat.le_of_ble_eq_true rfl, Nat.le_of_ble_eq_true rfl⟩ rfl rfl hl.1 rfl (lv_room (Nat.le_of_ble_eq_true rfl)) dX1_wouldBring_9 ⟨(Nat.le_of_ble_eq_true rfl), (Nat.le_of_ble_eq_true rfl)⟩) hR hS (fun r_9 w_9 H locs h hR _ hS => ?_)
  refine jr_ldcwS (own := "Publicanry") (k := 367) (tx := "force") (n := 1367) hx hb hown hK (List.mem_of_getElem? (i := 14) rfl) dX1_wouldBring_12 ?_
  refine cex_qv (fw := fun u => u) (fy := fun _ => y) (crx_S (n := 2) (As := [.int (r_9), .ref (kA κ 1367)]) (rest := []) ⟨hx, hb, hml, hown, hts⟩ hK hR (m_X1_check hfl hW h) q794 q795 q74 q796 rfl rfl hds_X1_check ⟨Nat.le_of_ble_eq_true rfl, Nat.le_of_ble_eq_true rfl⟩ rfl rfl hl.1 rfl (lv_room (Nat.le_of_ble_eq_true rfl)) dX1_wouldBring_15 ⟨(Nat.le_of_ble_eq_true rfl), (Nat.le_of_ble_eq_true rfl)⟩) hR hS ht hlocks (Nat.le_of_ble_eq_true rfl) (Nat.le_of_ble_eq_true rfl) (fun w_15 H locs h hR _ hS => ?_)
  refine lv_aload_n hx hb dX1_wouldBring_18 rfl (lv_at hl 1 rfl) ?_
  refine lv_aload_n hx hb dX1_wouldBring_19 rfl (lv_at hl 0 rfl) ?_
  refine lv_iload_n hx hb dX1_wouldBring_20 rfl (lv_at hl 3 rfl) ?_
  refine ce_qi (fw := fun u => u) (fy := fun _ => y) (cr_V (n := 2) (As := [.ref (y.2 11 i_2), .int (p2)]) (rest := []) ⟨hx, hb, hml, hown, hts⟩ hK hR (m_X1_bring hW l0 lv_2 h) q757 q759 qs15 q74 q760 rfl rfl hd_X1_bring ⟨Nat.le_of_ble_eq_true rfl, Nat.le_of_ble_eq_true rfl⟩ (rv hK hR l0 (ci := 0) rfl rfl) rfl rfl hl.1 rfl (lv_room (Nat.le_of_ble_eq_true rfl)) dX1_wouldBring_21 ⟨(Nat.le_of_ble_eq_true rfl), (Nat.le_of_ble_eq_true rfl)⟩) hR hS (fun r_21 w_21 H locs h hR _ hS => ?_)
  refine W.widen (k := 3) (n := 16) (Nat.le_of_ble_eq_true rfl) (Nat.le_of_ble_eq_true rfl) ?_
  refine vx_ret ?_; exact W.iret (v := r_21) hx hb hr (fun t ht hW9 => ⟨⟨r_21, w_21, rfl, h, rpt ht hR⟩, hS.F ht⟩) hS.2.2 dX1_wouldBring_24
abbrev rm_X1_bestForce : Room := { frames := 8, cells := 9, slots := 38, locals := 144 }
def sp_X1_bestForce (κ : Kx) (y : Ly) (post : Int32 → Wd → Prop) (px : String → Wd → Prop) (w : Wd) (p1 : Int32) : Prop := sp_X1_lotOf κ y (fun i_3 w_3 => sp_X1_best κ y (fun r_6 w_6 => post (r_6) w_6) w_3 i_3) px w p1
theorem hd_X1_bestForce : yX1_bestForce.cls = RX1 ∧ yX1_bestForce.cls ≠ "java/lang/invoke/MethodHandle" ∧ yX1_bestForce.cls ≠ "java/lang/invoke/VarHandle" ∧ (parseMethodDescriptor yX1_bestForce.desc).map (fun d => d.parameters.length) = some 1 := by decide +kernel
set_option maxHeartbeats 4000000 in
theorem m_X1_bestForce {l : Launch} {κ : Kx} {y : Ly} {X : XR} {post : Int32 → Wd → Prop} {px : String → Wd → Prop} {w : Wd} {p1 : Int32}  (hfl : l.stackTraces = false) (hW : WFc κ y) (l0 : live y 0 0) (h : sp_X1_bestForce κ y post px w p1) : vx_Met l yX1_bestForce (ws_ yX1_bestForce cX1_bestForce 2 (Option.some Jvm.ClassFile.FieldType.int)) rm_X1_bestForce (va_Pc [.ref (y.2 0 0), .int (p1)] (RC κ w y X)) (va_Qi post (fun w t => Rp κ w y X [] t.heap) (Af κ)) (XCk κ y X px) 9 38 (Af κ) := by
  unfold sp_X1_bestForce at h
  refine vx_ofW (cc := cX1_bestForce) (maxL := 2) (ret := (Option.some Jvm.ClassFile.FieldType.int)) (by decide) rfl ?_
  intro p e s m args below meth c s₁ B hml ht hv
  obtain ⟨rfl, hR, hK⟩ := hv
  have hx := B.exec
  have hb := B.bytes
  have hr := B.returns
  have hts := atoms_spec (ws := ws_ yX1_bestForce cX1_bestForce 2 (Option.some Jvm.ClassFile.FieldType.int)) B.pre
  have hts : ∀ w ∈ lw_all, w.before _ s = true := fun w h => hts w (List.mem_cons_of_mem _ h)
  have hown : s.vm.findClass RX1 = some m.cls := findClass_of_methodNamed B.named
  have hlocks := B.notSynchronized
  have hR0 := hR
  have hS : va_S (Af κ) s.heap s.heap [] := va_S.rf
  have hl := lv_entry ([.ref (y.2 0 0), .int (p1)]) (n := 2) (Nat.le_of_ble_eq_true rfl)
  rw [lg_entry_eq]
  generalize (lg_sl ([.ref (y.2 0 0), .int (p1)]) ++ List.replicate (2 - (lg_sl ([.ref (y.2 0 0), .int (p1)])).length) Slot.unset).toArray = ls at hl ⊢
  have hl : lv_has ls 2 [(0, .ref (y.2 0 0)), (1, .int (p1))] := hl
  refine lv_aload_n hx hb dX1_bestForce_0 rfl (lv_at hl 0 rfl) ?_
  refine lv_aload_n hx hb dX1_bestForce_1 rfl (lv_at hl 0 rfl) ?_
  refine lv_iload_n hx hb dX1_bestForce_2 rfl (lv_at hl 1 rfl) ?_
  refine cex_qr (fw := fun u : Nat × Wd => u.2) (fy := fun _ => y) (P := (fun (u : Nat × Wd) ra => ra = y.2 11 u.1 ∧ live y 11 u.1)) (crx_V (n := 1) (As := [.int (p1)]) (rest := [.ref (y.2 0 0)]) ⟨hx, hb, hml, hown, hts⟩ hK hR (m_X1_lotOf hfl hW l0 h) q1317 q1319 qs24 q74 q1320 rfl rfl hd_X1_lotOf ⟨Nat.le_of_ble_eq_true rfl, Nat.le_of_ble_eq_true rfl⟩ (rv hK hR l0 (ci := 0) rfl rfl) rfl rfl hl.1 rfl (lv_room (Nat.le_of_ble_eq_true rfl)) dX1_bestForce_3 ⟨(Nat.le_of_ble_eq_true rfl), (Nat.le_of_ble_eq_true rfl)⟩) hR hS ht hlocks (Nat.le_of_ble_eq_true rfl) (Nat.le_of_ble_eq_true rfl) (fun u9 a_3 H locs h p9 hR _ hS => ?_)
  obtain ⟨i_3, w_3⟩ := u9
  obtain ⟨e9, lv_3⟩ := p9
  dsimp only at e9 lv_3
  subst e9
  refine ce_qi (fw := fun u => u) (fy := fun _ => y) (cr_V (n := 1) (As := [.ref (y.2 11 i_3)]) (rest := []) ⟨hx, hb, hml, hown, hts⟩ hK hR (m_X1_best hW l0 lv_3 h) q761 q763 qs16 q74 q764 rfl rfl hd_X1_best ⟨Nat.le_of_ble_eq_true rfl, Nat.le_of_ble_eq_true rfl⟩ (rv hK hR l0 (ci := 0) rfl rfl) rfl rfl hl.1 rfl (lv_room (Nat.le_of_ble_eq_true rfl)) dX1_bestForce_6 ⟨(Nat.le_of_ble_eq_true rfl), (Nat.le_of_ble_eq_true rfl)⟩) hR hS (fun r_6 w_6 H locs h hR _ hS => ?_)
  refine W.widen (k := 9) (n := 38) (Nat.le_of_ble_eq_true rfl) (Nat.le_of_ble_eq_true rfl) ?_
  refine vx_ret ?_; exact W.iret (v := r_6) hx hb hr (fun t ht hW9 => ⟨⟨r_6, w_6, rfl, h, rpt ht hR⟩, hS.F ht⟩) hS.2.2 dX1_bestForce_9
abbrev rm_X1_direct_2 : Room := { frames := 8, cells := 12, slots := 49, locals := 132 }
def sp_X1_direct_2 (κ : Kx) (y : Ly) (post : Int32 → Wd → Prop) (px : String → Wd → Prop) (w : Wd) (p1 : Int32) : Prop := sp_X1_dutyOf κ y (fun i_2 w_2 => sp_X1_direct κ y (fun r_5 w_5 => post (r_5) w_5) w_2 i_2) px w p1
theorem hd_X1_direct_2 : yX1_direct_2.cls = RX1 ∧ yX1_direct_2.cls ≠ "java/lang/invoke/MethodHandle" ∧ yX1_direct_2.cls ≠ "java/lang/invoke/VarHandle" ∧ (parseMethodDescriptor yX1_direct_2.desc).map (fun d => d.parameters.length) = some 1 := by decide +kernel
set_option maxHeartbeats 4000000 in
theorem m_X1_direct_2 {l : Launch} {κ : Kx} {y : Ly} {X : XR} {post : Int32 → Wd → Prop} {px : String → Wd → Prop} {w : Wd} {p1 : Int32}  (hfl : l.stackTraces = false) (hW : WFc κ y) (l0 : live y 0 0) (h : sp_X1_direct_2 κ y post px w p1) : vx_Met l yX1_direct_2 (ws_ yX1_direct_2 cX1_direct_2 2 (Option.some Jvm.ClassFile.FieldType.int)) rm_X1_direct_2 (va_Pc [.ref (y.2 0 0), .int (p1)] (RC κ w y X)) (va_Qi post (fun w t => Rp κ w y X [] t.heap) (Af κ)) (XCk κ y X px) 12 49 (Af κ) := by
  unfold sp_X1_direct_2 at h
  refine vx_ofW (cc := cX1_direct_2) (maxL := 2) (ret := (Option.some Jvm.ClassFile.FieldType.int)) (by decide) rfl ?_
  intro p e s m args below meth c s₁ B hml ht hv
  obtain ⟨rfl, hR, hK⟩ := hv
  have hx := B.exec
  have hb := B.bytes
  have hr := B.returns
  have hts := atoms_spec (ws := ws_ yX1_direct_2 cX1_direct_2 2 (Option.some Jvm.ClassFile.FieldType.int)) B.pre
  have hts : ∀ w ∈ lw_all, w.before _ s = true := fun w h => hts w (List.mem_cons_of_mem _ h)
  have hown : s.vm.findClass RX1 = some m.cls := findClass_of_methodNamed B.named
  have hlocks := B.notSynchronized
  have hR0 := hR
  have hS : va_S (Af κ) s.heap s.heap [] := va_S.rf
  have hl := lv_entry ([.ref (y.2 0 0), .int (p1)]) (n := 2) (Nat.le_of_ble_eq_true rfl)
  rw [lg_entry_eq]
  generalize (lg_sl ([.ref (y.2 0 0), .int (p1)]) ++ List.replicate (2 - (lg_sl ([.ref (y.2 0 0), .int (p1)])).length) Slot.unset).toArray = ls at hl ⊢
  have hl : lv_has ls 2 [(0, .ref (y.2 0 0)), (1, .int (p1))] := hl
  refine lv_aload_n hx hb dX1_direct_2_0 rfl (lv_at hl 0 rfl) ?_
  refine lv_iload_n hx hb dX1_direct_2_1 rfl (lv_at hl 1 rfl) ?_
  refine cex_qr (fw := fun u : Nat × Wd => u.2) (fy := fun _ => y) (P := (fun (u : Nat × Wd) ra => ra = kA κ (20 + u.1) ∧ u.1 < 3)) (crx_S (n := 1) (As := [.int (p1)]) (rest := [.ref (y.2 0 0)]) ⟨hx, hb, hml, hown, hts⟩ hK hR (m_X1_dutyOf hfl hW h) q1075 q1076 q74 q1077 rfl rfl hds_X1_dutyOf ⟨Nat.le_of_ble_eq_true rfl, Nat.le_of_ble_eq_true rfl⟩ rfl rfl hl.1 rfl (lv_room (Nat.le_of_ble_eq_true rfl)) dX1_direct_2_2 ⟨(Nat.le_of_ble_eq_true rfl), (Nat.le_of_ble_eq_true rfl)⟩) hR hS ht hlocks (Nat.le_of_ble_eq_true rfl) (Nat.le_of_ble_eq_true rfl) (fun u9 a_2 H locs h p9 hR _ hS => ?_)
  obtain ⟨i_2, w_2⟩ := u9
  obtain ⟨e9, lv_2⟩ := p9
  dsimp only at e9 lv_2
  subst e9
  refine ce_qi (fw := fun u => u) (fy := fun _ => y) (cr_V (n := 1) (As := [.ref (kA κ (20 + i_2))]) (rest := []) ⟨hx, hb, hml, hown, hts⟩ hK hR (m_X1_direct hW l0 lv_2 h) q606 q608 qs8 q74 q609 rfl rfl hd_X1_direct ⟨Nat.le_of_ble_eq_true rfl, Nat.le_of_ble_eq_true rfl⟩ (rv hK hR l0 (ci := 0) rfl rfl) rfl rfl hl.1 rfl (lv_room (Nat.le_of_ble_eq_true rfl)) dX1_direct_2_5 ⟨(Nat.le_of_ble_eq_true rfl), (Nat.le_of_ble_eq_true rfl)⟩) hR hS (fun r_5 w_5 H locs h hR _ hS => ?_)
  refine W.widen (k := 12) (n := 49) (Nat.le_of_ble_eq_true rfl) (Nat.le_of_ble_eq_true rfl) ?_
  refine vx_ret ?_; exact W.iret (v := r_5) hx hb hr (fun t ht hW9 => ⟨⟨r_5, w_5, rfl, h, rpt ht hR⟩, hS.F ht⟩) hS.2.2 dX1_direct_2_8
abbrev rm_X1_wouldWin : Room := { frames := 8, cells := 6, slots := 22, locals := 133 }
def sp_X1_wouldWin (κ : Kx) (y : Ly) (post : Int32 → Wd → Prop) (px : String → Wd → Prop) (w : Wd) (p1 : Int32) : Prop := sp_X1_lotOf κ y (fun i_2 w_2 => ((gv w_2 11 i_2 7).toNatClampNeg < 4) ∧ (((¬ ((gv w_2 11 i_2 7).toNatClampNeg = 0)) → (sp_X1_state κ y (fun w_24 => sp_X1_winner κ y (fun ow_29 w_29 => (ow_29 = none → (post ((-1 : Int32)) w_29)) ∧ (∀ i_29 : Nat, ow_29 = some i_29 → (sp_X1_winner κ y (fun ow_40 w_40 => (ow_40 = none → (False)) ∧ (∀ i_40 : Nat, ow_40 = some i_40 → (post (nI i_40) w_40))) w_29 i_2))) w_24 i_2) px w_2 (0 : Int32))) ∧ (((gv w_2 11 i_2 7).toNatClampNeg = 0) → (sp_X1_state κ y (fun w_24_a => sp_X1_winner κ y (fun ow_29_a w_29_a => (ow_29_a = none → (post ((-1 : Int32)) w_29_a)) ∧ (∀ i_29_a : Nat, ow_29_a = some i_29_a → (sp_X1_winner κ y (fun ow_40_a w_40_a => (ow_40_a = none → (False)) ∧ (∀ i_40_a : Nat, ow_40_a = some i_40_a → (post (nI i_40_a) w_40_a))) w_29_a i_2))) w_24_a i_2) px w_2 (1 : Int32))))) px w p1
theorem hd_X1_wouldWin : yX1_wouldWin.cls = RX1 ∧ yX1_wouldWin.cls ≠ "java/lang/invoke/MethodHandle" ∧ yX1_wouldWin.cls ≠ "java/lang/invoke/VarHandle" ∧ (parseMethodDescriptor yX1_wouldWin.desc).map (fun d => d.parameters.length) = some 1 := by decide +kernel
set_option maxHeartbeats 4000000 in
theorem m_X1_wouldWin {l : Launch} {κ : Kx} {y : Ly} {X : XR} {post : Int32 → Wd → Prop} {px : String → Wd → Prop} {w : Wd} {p1 : Int32}  (hfl : l.stackTraces = false) (hW : WFc κ y) (l0 : live y 0 0) (h : sp_X1_wouldWin κ y post px w p1) : vx_Met l yX1_wouldWin (ws_ yX1_wouldWin cX1_wouldWin 3 (Option.some Jvm.ClassFile.FieldType.int)) rm_X1_wouldWin (va_Pc [.ref (y.2 0 0), .int (p1)] (RC κ w y X)) (va_Qi post (fun w t => Rp κ w y X [] t.heap) (Af κ)) (XCk κ y X px) 6 22 (Af κ) := by
  unfold sp_X1_wouldWin at h
  refine vx_ofW (cc := cX1_wouldWin) (maxL := 3) (ret := (Option.some Jvm.ClassFile.FieldType.int)) (by decide) rfl ?_
  intro p e s m args below meth c s₁ B hml ht hv
  obtain ⟨rfl, hR, hK⟩ := hv
  have hx := B.exec
  have hb := B.bytes
  have hr := B.returns
  have hts := atoms_spec (ws := ws_ yX1_wouldWin cX1_wouldWin 3 (Option.some Jvm.ClassFile.FieldType.int)) B.pre
  have hts : ∀ w ∈ lw_all, w.before _ s = true := fun w h => hts w (List.mem_cons_of_mem _ h)
  have hown : s.vm.findClass RX1 = some m.cls := findClass_of_methodNamed B.named
  have hlocks := B.notSynchronized
  have hR0 := hR
  have hS : va_S (Af κ) s.heap s.heap [] := va_S.rf
  have hl := lv_entry ([.ref (y.2 0 0), .int (p1)]) (n := 3) (Nat.le_of_ble_eq_true rfl)
  rw [lg_entry_eq]
  generalize (lg_sl ([.ref (y.2 0 0), .int (p1)]) ++ List.replicate (3 - (lg_sl ([.ref (y.2 0 0), .int (p1)])).length) Slot.unset).toArray = ls at hl ⊢
  have hl : lv_has ls 3 [(0, .ref (y.2 0 0)), (1, .int (p1))] := hl
  refine lv_aload_n hx hb dX1_wouldWin_0 rfl (lv_at hl 0 rfl) ?_
  refine lv_iload_n hx hb dX1_wouldWin_1 rfl (lv_at hl 1 rfl) ?_
  refine cex_qr (fw := fun u : Nat × Wd => u.2) (fy := fun _ => y) (P := (fun (u : Nat × Wd) ra => ra = y.2 11 u.1 ∧ live y 11 u.1)) (crx_V (n := 1) (As := [.int (p1)]) (rest := []) ⟨hx, hb, hml, hown, hts⟩ hK hR (m_X1_lotOf hfl hW l0 h) q1317 q1319 qs24 q74 q1320 rfl rfl hd_X1_lotOf ⟨Nat.le_of_ble_eq_true rfl, Nat.le_of_ble_eq_true rfl⟩ (rv hK hR l0 (ci := 0) rfl rfl) rfl rfl hl.1 rfl (lv_room (Nat.le_of_ble_eq_true rfl)) dX1_wouldWin_2 ⟨(Nat.le_of_ble_eq_true rfl), (Nat.le_of_ble_eq_true rfl)⟩) hR hS ht hlocks (Nat.le_of_ble_eq_true rfl) (Nat.le_of_ble_eq_true rfl) (fun u9 a_2 H locs h p9 hR _ hS => ?_)
  obtain ⟨i_2, w_2⟩ := u9
  obtain ⟨e9, lv_2⟩ := p9
  dsimp only at e9 lv_2
  subst e9
  refine lv_astore_n (lv' := [(2, .ref (y.2 11 i_2)), (0, .ref (y.2 0 0)), (1, .int (p1))]) hx hb dX1_wouldWin_5 rfl hl (by decide) rfl (fun ls hl => ?_)
  refine lv_aload_n hx hb dX1_wouldWin_6 rfl (lv_at hl 0 rfl) ?_
  refine g11_7 hx hb hts hown hK hR lv_2 q1267 dX1_wouldWin_7 ?_
  refine jr_gets (C := "Publicanry$Stand") (n := "OFFERED") (d := "LPublicanry$Stand;") (j := 10) hx hb hown hK hR hS (List.mem_of_getElem? (i := 2) rfl) q1321 hts dX1_wouldWin_10 ?_
  have o_13 := h.1
  have h := h.2
  refine lv_acmp_ne (rx := some (kA κ (10 + (gv w_2 11 i_2 7).toNatClampNeg))) (ry := some (kA κ (10 + 0))) (tgt := 20) hx hb dX1_wouldWin_13 (by decide) (fun c_13 => ?_) (fun c_13 => ?_)
  · replace c_13 : ¬ ((gv w_2 11 i_2 7).toNatClampNeg = 0) := fun q9 => c_13 (congrArg some (congrArg (fun z => kA κ (10 + z)) q9))
    have h := h.1 c_13
    refine lv_iconst (v := (0 : Int32)) hx hb dX1_wouldWin_20 (by decide) ?_
    refine jr_ldcwS (own := "Publicanry") (k := 315) (tx := "not offered") (n := 1315) hx hb hown hK (List.mem_of_getElem? (i := 13) rfl) dX1_wouldWin_21 ?_
    refine cex_qv (fw := fun u => u) (fy := fun _ => y) (crx_S (n := 2) (As := [.int ((0 : Int32)), .ref (kA κ 1315)]) (rest := []) ⟨hx, hb, hml, hown, hts⟩ hK hR (m_X1_state hfl hW h) q813 q814 q74 q815 rfl rfl hds_X1_state ⟨Nat.le_of_ble_eq_true rfl, Nat.le_of_ble_eq_true rfl⟩ rfl rfl hl.1 rfl (lv_room (Nat.le_of_ble_eq_true rfl)) dX1_wouldWin_24 ⟨(Nat.le_of_ble_eq_true rfl), (Nat.le_of_ble_eq_true rfl)⟩) hR hS ht hlocks (Nat.le_of_ble_eq_true rfl) (Nat.le_of_ble_eq_true rfl) (fun w_24 H locs h hR _ hS => ?_)
    refine lv_aload_n hx hb dX1_wouldWin_27 rfl (lv_at hl 1 rfl) ?_
    refine lv_aload_n hx hb dX1_wouldWin_28 rfl (lv_at hl 0 rfl) ?_
    refine ce_wn (cr_V (n := 1) (As := [.ref (y.2 11 i_2)]) (rest := []) ⟨hx, hb, hml, hown, hts⟩ hK hR (m_X1_winner hW l0 lv_2 h) q1335 q1337 qs25 q74 q1338 rfl rfl hd_X1_winner ⟨Nat.le_of_ble_eq_true rfl, Nat.le_of_ble_eq_true rfl⟩ (rv hK hR l0 (ci := 0) rfl rfl) rfl rfl hl.1 rfl (lv_room (Nat.le_of_ble_eq_true rfl)) dX1_wouldWin_29 ⟨(Nat.le_of_ble_eq_true rfl), (Nat.le_of_ble_eq_true rfl)⟩) hR hS (fun u9 a_29 H locs h p9 hR hS => ?_)
    obtain ⟨ow_29, w_29⟩ := u9
    dsimp only at h p9 hR
    rcases ow_29 with _ | i_29
    · have h := h.1 rfl
      replace p9 : a_29 = kA κ 0 := p9
      subst p9
      have hR := hR.sub (L' := []) [] rfl rfl
      refine jr_oisPresent ⟨hx, hb, hml, hown, hts⟩ hK (em_at hK hR) q703 ⟨Nat.le_of_ble_eq_true rfl, Nat.le_of_ble_eq_true rfl⟩ hl.1 (Nat.le_of_ble_eq_true rfl) dX1_wouldWin_32 ⟨(Nat.le_of_ble_eq_true rfl), (Nat.le_of_ble_eq_true rfl)⟩ ?_
      rw [show bi ((none : Option Nat) ≠ none) = (0 : Int32) from by simp [bi]]
      refine lv_if_eq (tgt := 55) hx hb dX1_wouldWin_35 (by decide) (fun c_35 => ?_) (fun c_35 => absurd (by decide) c_35)
      refine lv_iconst (v := (-1 : Int32)) hx hb dX1_wouldWin_55 (by decide) ?_
      refine W.widen (k := 6) (n := 22) (Nat.le_of_ble_eq_true rfl) (Nat.le_of_ble_eq_true rfl) ?_
      refine vx_ret ?_; exact W.iret (v := (-1 : Int32)) hx hb hr (fun t ht hW9 => ⟨⟨(-1 : Int32), w_29, rfl, h, rpt ht hR⟩, hS.F ht⟩) hS.2.2 dX1_wouldWin_56
    · have h := h.2 i_29 rfl
      have lv_29 : live y 9 i_29 := p9
      have hR : Rp κ w_29 y X [(a_29, .inr (18, [.ref (y.2 9 i_29)]))] H := hR
      refine jr_oisPresent ⟨hx, hb, hml, hown, hts⟩ hK (show OptAt κ _ a_29 (some (y.2 9 i_29)) from hR.L 0 _ rfl) q703 ⟨Nat.le_of_ble_eq_true rfl, Nat.le_of_ble_eq_true rfl⟩ hl.1 (Nat.le_of_ble_eq_true rfl) dX1_wouldWin_32 ⟨(Nat.le_of_ble_eq_true rfl), (Nat.le_of_ble_eq_true rfl)⟩ ?_
      rw [show bi ((some (y.2 9 i_29) : Option Nat) ≠ none) = (1 : Int32) from by simp [bi]]
      refine lv_if_eq (tgt := 55) hx hb dX1_wouldWin_35 (by decide) (fun c_35_a => absurd c_35_a (by decide)) (fun c_35_a => ?_)
      refine lv_aload_n hx hb dX1_wouldWin_38 rfl (lv_at hl 1 rfl) ?_
      refine lv_aload_n hx hb dX1_wouldWin_39 rfl (lv_at hl 0 rfl) ?_
      refine ce_wn (cr_V (n := 1) (As := [.ref (y.2 11 i_2)]) (rest := []) ⟨hx, hb, hml, hown, hts⟩ hK hR (m_X1_winner hW l0 lv_2 h) q1335 q1337 qs25 q74 q1338 rfl rfl hd_X1_winner ⟨Nat.le_of_ble_eq_true rfl, Nat.le_of_ble_eq_true rfl⟩ (rv hK hR l0 (ci := 0) rfl rfl) rfl rfl hl.1 rfl (lv_room (Nat.le_of_ble_eq_true rfl)) dX1_wouldWin_40 ⟨(Nat.le_of_ble_eq_true rfl), (Nat.le_of_ble_eq_true rfl)⟩) hR hS (fun u9 a_40 H locs h p9 hR hS => ?_)
      obtain ⟨ow_40, w_40⟩ := u9
      dsimp only at h p9 hR
      rcases ow_40 with _ | i_40
      · have h := h.1 rfl
        replace p9 : a_40 = kA κ 0 := p9
        subst p9
        have hR := hR.sub (L' := [(a_29, .inr (18, [.ref (y.2 9 i_29)]))]) [0] rfl rfl
        exact h.elim
      · have h := h.2 i_40 rfl
        have lv_40 : live y 9 i_40 := p9
        have hR : Rp κ w_40 y X [(a_29, .inr (18, [.ref (y.2 9 i_29)])), (a_40, .inr (18, [.ref (y.2 9 i_40)]))] H := hR
        refine jr_oget (z := y.2 9 i_40) ⟨hx, hb, hml, hown, hts⟩ hK (show OptAt κ _ a_40 (some (y.2 9 i_40)) from hR.L 1 _ rfl) rfl q519 ⟨Nat.le_of_ble_eq_true rfl, Nat.le_of_ble_eq_true rfl⟩ hl.1 (Nat.le_of_ble_eq_true rfl) dX1_wouldWin_43 ⟨(Nat.le_of_ble_eq_true rfl), (Nat.le_of_ble_eq_true rfl)⟩ ?_
        refine jr_castS (ci := 7) hx hb hown hK hts (hR.role lv_40) rfl q371 dX1_wouldWin_46 ?_
        refine g9_0 hx hb hts hown hK hR lv_40 q1122 dX1_wouldWin_49 ?_
        refine lv_goto (tgt := 56) hx hb dX1_wouldWin_52 (by decide) ?_
        have hR := hR.sub (L' := []) [] rfl rfl
        refine W.widen (k := 6) (n := 22) (Nat.le_of_ble_eq_true rfl) (Nat.le_of_ble_eq_true rfl) ?_
        refine vx_ret ?_; exact W.iret (v := nI i_40) hx hb hr (fun t ht hW9 => ⟨⟨nI i_40, w_40, rfl, h, rpt ht hR⟩, hS.F ht⟩) hS.2.2 dX1_wouldWin_56
  · replace c_13 : (gv w_2 11 i_2 7).toNatClampNeg = 0 := hK.2.2.2.2.2.2.1 _ _ o_13 (by decide) ((Option.some.inj c_13))
    have h := h.2 c_13
    refine lv_iconst (v := (1 : Int32)) hx hb dX1_wouldWin_16 (by decide) ?_
    refine lv_goto (tgt := 21) hx hb dX1_wouldWin_17 (by decide) ?_
    refine jr_ldcwS (own := "Publicanry") (k := 315) (tx := "not offered") (n := 1315) hx hb hown hK (List.mem_of_getElem? (i := 13) rfl) dX1_wouldWin_21 ?_
    refine cex_qv (fw := fun u => u) (fy := fun _ => y) (crx_S (n := 2) (As := [.int ((1 : Int32)), .ref (kA κ 1315)]) (rest := []) ⟨hx, hb, hml, hown, hts⟩ hK hR (m_X1_state hfl hW h) q813 q814 q74 q815 rfl rfl hds_X1_state ⟨Nat.le_of_ble_eq_true rfl, Nat.le_of_ble_eq_true rfl⟩ rfl rfl hl.1 rfl (lv_room (Nat.le_of_ble_eq_true rfl)) dX1_wouldWin_24 ⟨(Nat.le_of_ble_eq_true rfl), (Nat.le_of_ble_eq_true rfl)⟩) hR hS ht hlocks (Nat.le_of_ble_eq_true rfl) (Nat.le_of_ble_eq_true rfl) (fun w_24_a H locs h hR _ hS => ?_)
    refine lv_aload_n hx hb dX1_wouldWin_27 rfl (lv_at hl 1 rfl) ?_
    refine lv_aload_n hx hb dX1_wouldWin_28 rfl (lv_at hl 0 rfl) ?_
    refine ce_wn (cr_V (n := 1) (As := [.ref (y.2 11 i_2)]) (rest := []) ⟨hx, hb, hml, hown, hts⟩ hK hR (m_X1_winner hW l0 lv_2 h) q1335 q1337 qs25 q74 q1338 rfl rfl hd_X1_winner ⟨Nat.le_of_ble_eq_true rfl, Nat.le_of_ble_eq_true rfl⟩ (rv hK hR l0 (ci := 0) rfl rfl) rfl rfl hl.1 rfl (lv_room (Nat.le_of_ble_eq_true rfl)) dX1_wouldWin_29 ⟨(Nat.le_of_ble_eq_true rfl), (Nat.le_of_ble_eq_true rfl)⟩) hR hS (fun u9 a_29_a H locs h p9 hR hS => ?_)
    obtain ⟨ow_29_a, w_29_a⟩ := u9
    dsimp only at h p9 hR
    rcases ow_29_a with _ | i_29_a
    · have h := h.1 rfl
      replace p9 : a_29_a = kA κ 0 := p9
      subst p9
      have hR := hR.sub (L' := []) [] rfl rfl
      refine jr_oisPresent ⟨hx, hb, hml, hown, hts⟩ hK (em_at hK hR) q703 ⟨Nat.le_of_ble_eq_true rfl, Nat.le_of_ble_eq_true rfl⟩ hl.1 (Nat.le_of_ble_eq_true rfl) dX1_wouldWin_32 ⟨(Nat.le_of_ble_eq_true rfl), (Nat.le_of_ble_eq_true rfl)⟩ ?_
      rw [show bi ((none : Option Nat) ≠ none) = (0 : Int32) from by simp [bi]]
      refine lv_if_eq (tgt := 55) hx hb dX1_wouldWin_35 (by decide) (fun c_35_b => ?_) (fun c_35_b => absurd (by decide) c_35_b)
      refine lv_iconst (v := (-1 : Int32)) hx hb dX1_wouldWin_55 (by decide) ?_
      refine W.widen (k := 6) (n := 22) (Nat.le_of_ble_eq_true rfl) (Nat.le_of_ble_eq_true rfl) ?_
      refine vx_ret ?_; exact W.iret (v := (-1 : Int32)) hx hb hr (fun t ht hW9 => ⟨⟨(-1 : Int32), w_29_a, rfl, h, rpt ht hR⟩, hS.F ht⟩) hS.2.2 dX1_wouldWin_56
    · have h := h.2 i_29_a rfl
      have lv_29_a : live y 9 i_29_a := p9
      have hR : Rp κ w_29_a y X [(a_29_a, .inr (18, [.ref (y.2 9 i_29_a)]))] H := hR
      refine jr_oisPresent ⟨hx, hb, hml, hown, hts⟩ hK (show OptAt κ _ a_29_a (some (y.2 9 i_29_a)) from hR.L 0 _ rfl) q703 ⟨Nat.le_of_ble_eq_true rfl, Nat.le_of_ble_eq_true rfl⟩ hl.1 (Nat.le_of_ble_eq_true rfl) dX1_wouldWin_32 ⟨(Nat.le_of_ble_eq_true rfl), (Nat.le_of_ble_eq_true rfl)⟩ ?_
      rw [show bi ((some (y.2 9 i_29_a) : Option Nat) ≠ none) = (1 : Int32) from by simp [bi]]
      refine lv_if_eq (tgt := 55) hx hb dX1_wouldWin_35 (by decide) (fun c_35_c => absurd c_35_c (by decide)) (fun c_35_c => ?_)
      refine lv_aload_n hx hb dX1_wouldWin_38 rfl (lv_at hl 1 rfl) ?_
      refine lv_aload_n hx hb dX1_wouldWin_39 rfl (lv_at hl 0 rfl) ?_
      refine ce_wn (cr_V (n := 1) (As := [.ref (y.2 11 i_2)]) (rest := []) ⟨hx, hb, hml, hown, hts⟩ hK hR (m_X1_winner hW l0 lv_2 h) q1335 q1337 qs25 q74 q1338 rfl rfl hd_X1_winner ⟨Nat.le_of_ble_eq_true rfl, Nat.le_of_ble_eq_true rfl⟩ (rv hK hR l0 (ci := 0) rfl rfl) rfl rfl hl.1 rfl (lv_room (Nat.le_of_ble_eq_true rfl)) dX1_wouldWin_40 ⟨(Nat.le_of_ble_eq_true rfl), (Nat.le_of_ble_eq_true rfl)⟩) hR hS (fun u9 a_40_a H locs h p9 hR hS => ?_)
      obtain ⟨ow_40_a, w_40_a⟩ := u9
      dsimp only at h p9 hR
      rcases ow_40_a with _ | i_40_a
      · have h := h.1 rfl
        replace p9 : a_40_a = kA κ 0 := p9
        subst p9
        have hR := hR.sub (L' := [(a_29_a, .inr (18, [.ref (y.2 9 i_29_a)]))]) [0] rfl rfl
        exact h.elim
      · have h := h.2 i_40_a rfl
        have lv_40_a : live y 9 i_40_a := p9
        have hR : Rp κ w_40_a y X [(a_29_a, .inr (18, [.ref (y.2 9 i_29_a)])), (a_40_a, .inr (18, [.ref (y.2 9 i_40_a)]))] H := hR
        refine jr_oget (z := y.2 9 i_40_a) ⟨hx, hb, hml, hown, hts⟩ hK (show OptAt κ _ a_40_a (some (y.2 9 i_40_a)) from hR.L 1 _ rfl) rfl q519 ⟨Nat.le_of_ble_eq_true rfl, Nat.le_of_ble_eq_true rfl⟩ hl.1 (Nat.le_of_ble_eq_true rfl) dX1_wouldWin_43 ⟨(Nat.le_of_ble_eq_true rfl), (Nat.le_of_ble_eq_true rfl)⟩ ?_
        refine jr_castS (ci := 7) hx hb hown hK hts (hR.role lv_40_a) rfl q371 dX1_wouldWin_46 ?_
        refine g9_0 hx hb hts hown hK hR lv_40_a q1122 dX1_wouldWin_49 ?_
        refine lv_goto (tgt := 56) hx hb dX1_wouldWin_52 (by decide) ?_
        have hR := hR.sub (L' := []) [] rfl rfl
        refine W.widen (k := 6) (n := 22) (Nat.le_of_ble_eq_true rfl) (Nat.le_of_ble_eq_true rfl) ?_
        refine vx_ret ?_; exact W.iret (v := nI i_40_a) hx hb hr (fun t ht hW9 => ⟨⟨nI i_40_a, w_40_a, rfl, h, rpt ht hR⟩, hS.F ht⟩) hS.2.2 dX1_wouldWin_56
abbrev rm_X1_isSound : Room := { frames := 5, cells := 12, slots := 48, locals := 115 }
def sp_X1_isSound (κ : Kx) (y : Ly) (post : Int32 → Wd → Prop) (w : Wd)  : Prop := sp_X1_isWhole κ y (fun r_1 w_1 => (nbo (r_1)) ∧ (post (r_1) w_1)) w 
theorem hd_X1_isSound : yX1_isSound.cls = RX1 ∧ yX1_isSound.cls ≠ "java/lang/invoke/MethodHandle" ∧ yX1_isSound.cls ≠ "java/lang/invoke/VarHandle" ∧ (parseMethodDescriptor yX1_isSound.desc).map (fun d => d.parameters.length) = some 0 := by decide +kernel
set_option maxHeartbeats 4000000 in
theorem m_X1_isSound {l : Launch} {κ : Kx} {y : Ly} {X : XR} {post : Int32 → Wd → Prop} {w : Wd}   (hW : WFc κ y) (l0 : live y 0 0) (h : sp_X1_isSound κ y post w ) : Met l yX1_isSound (ws_ yX1_isSound cX1_isSound 1 (Option.some Jvm.ClassFile.FieldType.boolean)) rm_X1_isSound (va_Pc [.ref (y.2 0 0)] (RC κ w y X)) (va_Qi post (fun w t => Rp κ w y X [] t.heap) (Af κ)) 12 48 (Af κ) := by
  unfold sp_X1_isSound at h
  refine Met.ofW (cc := cX1_isSound) (maxL := 1) (ret := (Option.some Jvm.ClassFile.FieldType.boolean)) (by decide) rfl ?_
  intro p e s m args below meth c s₁ B hml hv
  obtain ⟨rfl, hR, hK⟩ := hv
  have hx := B.exec
  have hb := B.bytes
  have hr := B.returns
  have hts := atoms_spec (ws := ws_ yX1_isSound cX1_isSound 1 (Option.some Jvm.ClassFile.FieldType.boolean)) B.pre
  have hts : ∀ w ∈ lw_all, w.before _ s = true := fun w h => hts w (List.mem_cons_of_mem _ h)
  have hown : s.vm.findClass RX1 = some m.cls := findClass_of_methodNamed B.named
  have hlocks := B.notSynchronized
  have hS : va_S (Af κ) s.heap s.heap [] := va_S.rf
  have hl := lv_entry ([.ref (y.2 0 0)]) (n := 1) (Nat.le_of_ble_eq_true rfl)
  rw [lg_entry_eq]
  generalize (lg_sl ([.ref (y.2 0 0)]) ++ List.replicate (1 - (lg_sl ([.ref (y.2 0 0)])).length) Slot.unset).toArray = ls at hl ⊢
  have hl : lv_has ls 1 [(0, .ref (y.2 0 0))] := hl
  refine lv_aload_n hx hb dX1_isSound_0 rfl (lv_at hl 0 rfl) ?_
  refine ce_qi (fw := fun u => u) (fy := fun _ => y) (cr_V (n := 0) (As := []) (rest := []) ⟨hx, hb, hml, hown, hts⟩ hK hR (m_X1_isWhole hW l0 h) q492 q494 qs1 q74 q495 rfl rfl hd_X1_isWhole ⟨Nat.le_of_ble_eq_true rfl, Nat.le_of_ble_eq_true rfl⟩ (rv hK hR l0 (ci := 0) rfl rfl) rfl rfl hl.1 rfl (lv_room (Nat.le_of_ble_eq_true rfl)) dX1_isSound_1 ⟨(Nat.le_of_ble_eq_true rfl), (Nat.le_of_ble_eq_true rfl)⟩) hR hS (fun r_1 w_1 H locs h hR _ hS => ?_)
  have o_4 := h.1
  have h := h.2
  refine W.widen (k := 12) (n := 48) (Nat.le_of_ble_eq_true rfl) (Nat.le_of_ble_eq_true rfl) ?_
  exact W.zret (v := r_1) hx hb hr o_4.n (fun t ht hW9 => ⟨⟨r_1, w_1, rfl, h, rpt ht hR⟩, hS.F ht⟩) hS.2.2 dX1_isSound_4
abbrev rm_X1_addCompany : Room := { frames := 5, cells := 15, slots := 60, locals := 114 }
def st_X1_addCompany_2 (κ : Kx) (y : Ly) (post : Wd → Prop) (ex : Wd → Prop) (rec : Wd → Int32 → Prop) (i1 : Nat) (w : Wd) (v2 : Int32) : Prop := (((13 : Int32) ≤ v2) → (ex w )) ∧ ((¬ ((13 : Int32) ≤ v2)) → (sp_X1_told_5 κ y (fun r_12 w_12 => sp_X1_add κ y (fun w_16 => ∀ x_19 : Int32, x_19 = v2 + (1 : Int32) → rec w_16 x_19) w_12 r_12.toInt64) w i1 v2))
def sp_X1_addCompany_2 (κ : Kx) (y : Ly) (post : Wd → Prop) (ex : Wd → Prop) (i1 : Nat) : Nat → Wd → Int32 → Prop
  | 0 => fun _ _ => False
  | n + 1 => fun w v2 => st_X1_addCompany_2 κ y post ex (sp_X1_addCompany_2 κ y post ex i1 n) i1 w v2
set_option maxHeartbeats 4000000 in
theorem lp_X1_addCompany_2 {p : Program} {l : Launch} {e : Env} {s : State} {m : MethodId} {args : Array Value} {below : List Frame} {meth : Method} {c : Code} {κ : Kx} {y : Ly} {X : XR} {post : Wd → Prop} {i1 : Nat} (hx : p.tables.exec = Jvm.exec) (hb : c.code = cX1_addCompany) (hr : meth.sig.returnType = (Option.none : Option Jvm.ClassFile.FieldType)) (hml : c.maxLocals = 6) (hown : s.vm.findClass RX1 = some m.cls) (hts : ∀ w ∈ lw_all, w.before args s = true) (hlocks : meth.locks = false) (hK : KK κ s) (hW : WFc κ y) (l0 : live y 0 0) (l1 : live y 9 i1) {C1 S1 : Nat} (hC : C1 ≤ 15) (hSl : S1 ≤ 60) {ex : Wd → Prop}
    (kx : ∀ (w : Wd)  (H : Heap) (locs : List Loc) (ls : Array Slot) (cells slots : Nat) , ex w  → Rp κ w y X [] H → va_S (Af κ) s.heap H locs → lv_has ls 6 [(0, .ref (y.2 0 0)), (1, .ref (y.2 9 i1))] → cells ≤ C1 → slots ≤ S1 → W p l e (headSpec (ws_ yX1_addCompany cX1_addCompany 6 (Option.none : Option Jvm.ClassFile.FieldType)) rm_X1_addCompany).room s m args below meth c H locs cells slots (MQ below (va_Qv post (fun w t => Rp κ w y X [] t.heap) (Af κ)) args s 15 60 (Af κ)) (F0 m 25 ls [])) :
    ∀ (f : Nat) (w : Wd) (v2 : Int32) (H : Heap) (locs : List Loc) (ls : Array Slot) (cells slots : Nat)  , sp_X1_addCompany_2 κ y post ex i1 f w v2 → Rp κ w y X [] H → va_S (Af κ) s.heap H locs → lv_has ls 6 [(0, .ref (y.2 0 0)), (1, .ref (y.2 9 i1)), (2, .int (v2))] → cells + f * 1 ≤ C1 → slots + f * 4 ≤ S1 → W p l e (headSpec (ws_ yX1_addCompany cX1_addCompany 6 (Option.none : Option Jvm.ClassFile.FieldType)) rm_X1_addCompany).room s m args below meth c H locs cells slots (MQ below (va_Qv post (fun w t => Rp κ w y X [] t.heap) (Af κ)) args s 15 60 (Af κ)) (F0 m 2 ls []) := by
  intro f
  induction f with
  | zero =>
    intro w v2 H locs ls cells slots  h
    exact False.elim h
  | succ f ih =>
    intro w v2 H locs ls cells slots  h hR hS hl hc hs
    have h : st_X1_addCompany_2 κ y post ex (sp_X1_addCompany_2 κ y post ex i1 f) i1 w v2 := h
    unfold st_X1_addCompany_2 at h
    refine lv_iload_n hx hb dX1_addCompany_2 rfl (lv_at hl 2 rfl) ?_
    refine lv_bipush (v := (13 : Int32)) hx hb dX1_addCompany_3 (by decide) ?_
    refine lv_icmp_ge (tgt := 25) hx hb dX1_addCompany_5 (by decide) (fun c_5 => ?_) (fun c_5 => ?_)
    · have h := h.1 c_5
      exact kx w  _ _ _ _ _ h hR hS (lv_sub hl [0, 1] rfl) (by omega) (by omega)
    · have h := h.2 c_5
      refine lv_aload_n hx hb dX1_addCompany_8 rfl (lv_at hl 0 rfl) ?_
      refine lv_aload_n hx hb dX1_addCompany_9 rfl (lv_at hl 0 rfl) ?_
      refine lv_aload_n hx hb dX1_addCompany_10 rfl (lv_at hl 1 rfl) ?_
      refine lv_iload_n hx hb dX1_addCompany_11 rfl (lv_at hl 2 rfl) ?_
      refine ce_qi (fw := fun u => u) (fy := fun _ => y) (cr_V (n := 2) (As := [.ref (y.2 9 i1), .int (v2)]) (rest := [.ref (y.2 0 0)]) ⟨hx, hb, hml, hown, hts⟩ hK hR (m_X1_told_5 hW l0 l1 h) q717 q719 qs13 q74 q720 rfl rfl hd_X1_told_5 ⟨Nat.le_of_ble_eq_true rfl, Nat.le_of_ble_eq_true rfl⟩ (rv hK hR l0 (ci := 0) rfl rfl) rfl rfl hl.1 rfl (lv_room (Nat.le_of_ble_eq_true rfl)) dX1_addCompany_12 ⟨(Nat.le_trans (show cells + 1 ≤ C1 from by omega) hC), (Nat.le_trans (show slots + 4 ≤ S1 from by omega) hSl)⟩) hR hS (fun r_12 w_12 H locs h hR _ hS => ?_)
      refine lv_i2l hx hb dX1_addCompany_15 rfl ?_
      refine ce_qv (fw := fun u => u) (fy := fun _ => y) (cr_V (n := 1) (As := [.long (r_12.toInt64)]) (rest := []) ⟨hx, hb, hml, hown, hts⟩ hK hR (m_X1_add hW l0 h) q590 q592 qs7 q74 q593 rfl rfl hd_X1_add ⟨Nat.le_of_ble_eq_true rfl, Nat.le_of_ble_eq_true rfl⟩ (rv hK hR l0 (ci := 0) rfl rfl) rfl rfl hl.1 rfl (lv_room (Nat.le_of_ble_eq_true rfl)) dX1_addCompany_16 ⟨(Nat.le_trans (show cells + 1 + 0 ≤ C1 from by omega) hC), (Nat.le_trans (show slots + 4 + 0 ≤ S1 from by omega) hSl)⟩) hR hS (fun w_16 H locs h hR _ hS => ?_)
      obtain ⟨x_19, ex_19⟩ : ∃ z : Int32, z = v2 + (1 : Int32) := ⟨_, rfl⟩
      have h := h x_19 ex_19
      refine lv_iinc (v := x_19) (lv' := [(2, .int (x_19)), (0, .ref (y.2 0 0)), (1, .ref (y.2 9 i1))]) hx hb dX1_addCompany_19 hl (k := 2) rfl (by rw [ex_19]; rfl) (by decide) rfl (fun ls hl => ?_)
      refine lv_goto (tgt := 2) hx hb dX1_addCompany_22 (by decide) ?_
      exact ih w_16 x_19 _ _ _ _ _  h hR hS (lv_sub hl [1, 2, 0] rfl) (by omega) (by omega)
def st_X1_addCompany_49 (κ : Kx) (y : Ly) (post : Wd → Prop) (ex : Wd → Prop) (rec : Wd → Nat → Int32 → Prop) (i4 : Nat) (w : Wd) (c4 : Nat) (z4 : Int32) : Prop := ((¬ (¬ c4 = nP y i4)) → (ex w )) ∧ (((¬ c4 = nP y i4)) → (sp_X1_add κ y (fun w_78 => sp_X1_add κ y (fun w_88 => rec w_88 (c4 + 1) (nI c4)) w_78 ((gv w_78 10 ((5 * i4 + c4)) 1).toInt64)) w ((gv w 10 ((5 * i4 + c4)) 0).toInt64)))
def sp_X1_addCompany_49 (κ : Kx) (y : Ly) (post : Wd → Prop) (ex : Wd → Prop) (i4 : Nat) : Nat → Wd → Nat → Int32 → Prop
  | 0 => fun _ _ _ => False
  | n + 1 => fun w c4 z4 => st_X1_addCompany_49 κ y post ex (sp_X1_addCompany_49 κ y post ex i4 n) i4 w c4 z4
set_option maxHeartbeats 4000000 in
theorem lp_X1_addCompany_49 {p : Program} {l : Launch} {e : Env} {s : State} {m : MethodId} {args : Array Value} {below : List Frame} {meth : Method} {c : Code} {κ : Kx} {y : Ly} {X : XR} {post : Wd → Prop} {q4 : Nat} {i4 : Nat} (hx : p.tables.exec = Jvm.exec) (hb : c.code = cX1_addCompany) (hr : meth.sig.returnType = (Option.none : Option Jvm.ClassFile.FieldType)) (hml : c.maxLocals = 6) (hown : s.vm.findClass RX1 = some m.cls) (hts : ∀ w ∈ lw_all, w.before args s = true) (hlocks : meth.locks = false) (hK : KK κ s) (hW : WFc κ y) (l0 : live y 0 0) (l4 : live y 9 i4) {C1 S1 : Nat} (hC : C1 ≤ 15) (hSl : S1 ≤ 60) {ex : Wd → Prop}
    (kx : ∀ (w : Wd)  (H : Heap) (locs : List Loc) (ls : Array Slot) (cells slots : Nat) , ex w  → Rp κ w y X [] H → va_S (Af κ) s.heap H locs → lv_has ls 6 [] → cells ≤ C1 → slots ≤ S1 → W p l e (headSpec (ws_ yX1_addCompany cX1_addCompany 6 (Option.none : Option Jvm.ClassFile.FieldType)) rm_X1_addCompany).room s m args below meth c H locs cells slots (MQ below (va_Qv post (fun w t => Rp κ w y X [] t.heap) (Af κ)) args s 15 60 (Af κ)) (F0 m 94 ls [])) :
    ∀ (f : Nat) (w : Wd) (c4 : Nat) (z4 : Int32) (H : Heap) (locs : List Loc) (ls : Array Slot) (cells slots : Nat)  (hc4 : c4 ≤ nP y i4), sp_X1_addCompany_49 κ y post ex i4 f w c4 z4 → Rp κ w y X [(q4, itC y 48 i4 c4 z4)] H → va_S (Af κ) s.heap H locs → lv_has ls 6 [(0, .ref (y.2 0 0)), (4, .ref (q4))] → cells + f * 0 ≤ C1 → slots + f * 0 ≤ S1 → W p l e (headSpec (ws_ yX1_addCompany cX1_addCompany 6 (Option.none : Option Jvm.ClassFile.FieldType)) rm_X1_addCompany).room s m args below meth c H locs cells slots (MQ below (va_Qv post (fun w t => Rp κ w y X [] t.heap) (Af κ)) args s 15 60 (Af κ)) (F0 m 49 ls []) := by
  intro f
  induction f with
  | zero =>
    intro w c4 z4 H locs ls cells slots hc4 h
    exact False.elim h
  | succ f ih =>
    intro w c4 z4 H locs ls cells slots hc4 h hR hS hl hc hs
    have h : st_X1_addCompany_49 κ y post ex (sp_X1_addCompany_49 κ y post ex i4 f) i4 w c4 z4 := h
    unfold st_X1_addCompany_49 at h
    refine lv_aload hx hb dX1_addCompany_49 (lv_at hl 1 rfl) ?_
    refine jr_hasNext (t := 0) ⟨hx, hb, hml, hown, hts⟩ hK hR rfl ⟨fun _ _ _ _ _ => rfl, fun _ _ _ _ _ => rfl⟩ (hW.cpa l4) (by omega) (Nat.le_trans (hW.nP5 l4) (by decide)) q349 ⟨Nat.le_of_ble_eq_true rfl, Nat.le_of_ble_eq_true rfl⟩ hl.1 (Nat.le_of_ble_eq_true rfl) dX1_addCompany_51 ⟨(Nat.le_trans (show cells + 0 ≤ C1 from by omega) hC), (Nat.le_trans (show slots + 0 ≤ S1 from by omega) hSl)⟩ ?_
    refine lv_if_eq (tgt := 94) hx hb dX1_addCompany_56 (by decide) (fun c_56 => ?_) (fun c_56 => ?_)
    · replace c_56 : ¬ (¬ c4 = nP y i4) := bi_0.mp c_56
      have h := h.1 c_56
      have hR := hR.sub (L' := []) [] rfl rfl
      exact kx w  _ _ _ _ _ h hR hS (lv_sub hl [] rfl) (by omega) (by omega)
    · replace c_56 : (¬ c4 = nP y i4) := bi_n0.mp c_56
      have h := h.2 c_56
      refine lv_aload hx hb dX1_addCompany_59 (lv_at hl 1 rfl) ?_
      have hn_61 : c4 < nP y i4 := by omega
      refine jr_next (t := 0) (a := y.2 10 (5 * i4 + c4)) ⟨hx, hb, hml, hown, hts⟩ hK hR hS rfl ⟨fun _ _ _ _ _ => rfl, fun _ _ _ _ _ => rfl⟩ (hW.cpa l4) ⟨hW.arP (Nat.lt_of_le_of_lt (Nat.zero_le _) hn_61), (Nat.le_trans (hW.nP5 l4) (by decide))⟩ hn_61 (hW.elP l4 hn_61) q359 ⟨Nat.le_of_ble_eq_true rfl, Nat.le_of_ble_eq_true rfl⟩ hl.1 (Nat.le_of_ble_eq_true rfl) dX1_addCompany_61 ⟨(Nat.le_trans (show cells + 0 ≤ C1 from by omega) hC), (Nat.le_trans (show slots + 0 ≤ S1 from by omega) hSl)⟩ (fun H locs hR hS => ?_)
      have hR : Rp κ w y X [(q4, itC y 48 i4 (c4 + 1) (nI c4))] H := hR
      refine jr_castS (ci := 8) hx hb hown hK hts (hR.role (hW.par l4 hn_61)) rfl q740 dX1_addCompany_66 ?_
      refine lv_astore (lv' := [(5, .ref (y.2 10 (5 * i4 + c4))), (0, .ref (y.2 0 0)), (4, .ref (q4))]) hx hb dX1_addCompany_69 hl (by decide) rfl (fun ls hl => ?_)
      refine lv_aload_n hx hb dX1_addCompany_71 rfl (lv_at hl 1 rfl) ?_
      refine lv_aload hx hb dX1_addCompany_72 (lv_at hl 0 rfl) ?_
      refine g10_0 hx hb hts hown hK hR (hW.par l4 hn_61) q1188 dX1_addCompany_74 ?_
      refine lv_i2l hx hb dX1_addCompany_77 rfl ?_
      refine ce_qv (fw := fun u => u) (fy := fun _ => y) (cr_V (n := 1) (As := [.long ((gv w 10 ((5 * i4 + c4)) 0).toInt64)]) (rest := []) ⟨hx, hb, hml, hown, hts⟩ hK hR (m_X1_add hW l0 h) q590 q592 qs7 q74 q593 rfl rfl hd_X1_add ⟨Nat.le_of_ble_eq_true rfl, Nat.le_of_ble_eq_true rfl⟩ (rv hK hR l0 (ci := 0) rfl rfl) rfl rfl hl.1 rfl (lv_room (Nat.le_of_ble_eq_true rfl)) dX1_addCompany_78 ⟨(Nat.le_trans (show cells + 0 ≤ C1 from by omega) hC), (Nat.le_trans (show slots + 0 ≤ S1 from by omega) hSl)⟩) hR hS (fun w_78 H locs h hR _ hS => ?_)
      refine lv_aload_n hx hb dX1_addCompany_81 rfl (lv_at hl 1 rfl) ?_
      refine lv_aload hx hb dX1_addCompany_82 (lv_at hl 0 rfl) ?_
      refine g10_1 hx hb hts hown hK hR (hW.par l4 hn_61) q1190 dX1_addCompany_84 ?_
      refine lv_i2l hx hb dX1_addCompany_87 rfl ?_
      refine ce_qv (fw := fun u => u) (fy := fun _ => y) (cr_V (n := 1) (As := [.long ((gv w_78 10 ((5 * i4 + c4)) 1).toInt64)]) (rest := []) ⟨hx, hb, hml, hown, hts⟩ hK hR (m_X1_add hW l0 h) q590 q592 qs7 q74 q593 rfl rfl hd_X1_add ⟨Nat.le_of_ble_eq_true rfl, Nat.le_of_ble_eq_true rfl⟩ (rv hK hR l0 (ci := 0) rfl rfl) rfl rfl hl.1 rfl (lv_room (Nat.le_of_ble_eq_true rfl)) dX1_addCompany_88 ⟨(Nat.le_trans (show cells + 0 ≤ C1 from by omega) hC), (Nat.le_trans (show slots + 0 ≤ S1 from by omega) hSl)⟩) hR hS (fun w_88 H locs h hR _ hS => ?_)
      refine lv_goto (tgt := 49) hx hb dX1_addCompany_91 (by decide) ?_
      exact ih w_88 (c4 + 1) (nI c4) _ _ _ _ _ (by omega) h hR hS (lv_sub hl [1, 2] rfl) (by omega) (by omega)
def sp_X1_addCompany (κ : Kx) (y : Ly) (post : Wd → Prop) (w : Wd) (a1 : Nat) : Prop := sp_X1_addCompany_2 κ y post (fun w_2  => sp_X12_gain κ y (fun r_26 w_26 => (vf_n64 (FP.dmul ((4634204016564240384 : UInt64)) r_26)) ∧ (sp_X1_add κ y (fun w_37 => sp_X1_addCompany_49 κ y post (fun w_49  => post w_49) a1 14 w_37 0 (-1)) w_26 (FP.d2l (FP.dmul ((4634204016564240384 : UInt64)) r_26)))) w_2 a1) a1 14 w (0 : Int32)
theorem hd_X1_addCompany : yX1_addCompany.cls = RX1 ∧ yX1_addCompany.cls ≠ "java/lang/invoke/MethodHandle" ∧ yX1_addCompany.cls ≠ "java/lang/invoke/VarHandle" ∧ (parseMethodDescriptor yX1_addCompany.desc).map (fun d => d.parameters.length) = some 1 := by decide +kernel
set_option maxHeartbeats 4000000 in
theorem m_X1_addCompany {l : Launch} {κ : Kx} {y : Ly} {X : XR} {post : Wd → Prop} {w : Wd} {a1 : Nat}  (hW : WFc κ y) (l0 : live y 0 0) (l1 : live y 9 a1) (h : sp_X1_addCompany κ y post w a1) : Met l yX1_addCompany (ws_ yX1_addCompany cX1_addCompany 6 (Option.none : Option Jvm.ClassFile.FieldType)) rm_X1_addCompany (va_Pc [.ref (y.2 0 0), .ref (y.2 9 a1)] (RC κ w y X)) (va_Qv post (fun w t => Rp κ w y X [] t.heap) (Af κ)) 15 60 (Af κ) := by
  unfold sp_X1_addCompany at h
  refine Met.ofW (cc := cX1_addCompany) (maxL := 6) (ret := (Option.none : Option Jvm.ClassFile.FieldType)) (by decide) rfl ?_
  intro p e s m args below meth c s₁ B hml hv
  obtain ⟨rfl, hR, hK⟩ := hv
  have hx := B.exec
  have hb := B.bytes
  have hr := B.returns
  have hts := atoms_spec (ws := ws_ yX1_addCompany cX1_addCompany 6 (Option.none : Option Jvm.ClassFile.FieldType)) B.pre
  have hts : ∀ w ∈ lw_all, w.before _ s = true := fun w h => hts w (List.mem_cons_of_mem _ h)
  have hown : s.vm.findClass RX1 = some m.cls := findClass_of_methodNamed B.named
  have hlocks := B.notSynchronized
  have hS : va_S (Af κ) s.heap s.heap [] := va_S.rf
  have hl := lv_entry ([.ref (y.2 0 0), .ref (y.2 9 a1)]) (n := 6) (Nat.le_of_ble_eq_true rfl)
  rw [lg_entry_eq]
  generalize (lg_sl ([.ref (y.2 0 0), .ref (y.2 9 a1)]) ++ List.replicate (6 - (lg_sl ([.ref (y.2 0 0), .ref (y.2 9 a1)])).length) Slot.unset).toArray = ls at hl ⊢
  have hl : lv_has ls 6 [(0, .ref (y.2 0 0)), (1, .ref (y.2 9 a1))] := hl
  refine lv_iconst (v := (0 : Int32)) hx hb dX1_addCompany_0 (by decide) ?_
  refine lv_istore_n (lv' := [(2, .int ((0 : Int32))), (0, .ref (y.2 0 0)), (1, .ref (y.2 9 a1))]) hx hb dX1_addCompany_1 rfl hl (by decide) rfl (fun ls hl => ?_)
  refine lp_X1_addCompany_2 (C1 := 14) (S1 := 56) hx hb hr hml hown hts hlocks hK hW l0 l1 (Nat.le_of_ble_eq_true rfl) (Nat.le_of_ble_eq_true rfl) (fun w_2  H locs ls cells9 slots9 h hR hS hl hc9 hs9 => ?_) 14 w (0 : Int32) _ _ _ _ _  h hR hS (lv_sub hl [1, 2, 0] rfl) (by omega) (by omega)
  refine W.widen (k := 14) (n := 56) hc9 hs9 ?_
  refine lv_aload_n hx hb dX1_addCompany_25 rfl (lv_at hl 1 rfl) ?_
  refine ce_qd (fw := fun u => u) (fy := fun _ => y) (cr_V (n := 0) (As := []) (rest := []) ⟨hx, hb, hml, hown, hts⟩ hK hR (m_X12_gain hW l1 h) q735 q736 q737 q106 q738 rfl rfl hd_X12_gain ⟨Nat.le_of_ble_eq_true rfl, Nat.le_of_ble_eq_true rfl⟩ (rv hK hR l1 (ci := 7) rfl rfl) rfl rfl hl.1 rfl (lv_room (Nat.le_of_ble_eq_true rfl)) dX1_addCompany_26 ⟨(Nat.le_of_ble_eq_true rfl), (Nat.le_of_ble_eq_true rfl)⟩) hR hS (fun r_26 w_26 H locs h hR _ hS => ?_)
  refine lv_dstore_n (lv' := [(2, .double (r_26)), (0, .ref (y.2 0 0)), (1, .ref (y.2 9 a1))]) hx hb dX1_addCompany_29 rfl hl (by decide) rfl (fun ls hl => ?_)
  refine lv_aload_n hx hb dX1_addCompany_30 rfl (lv_at hl 1 rfl) ?_
  refine lv_ldc2d (v := (4634204016564240384 : UInt64)) hx hb hown (hts _ q739) dX1_addCompany_31 ?_
  refine lv_dload_n hx hb dX1_addCompany_34 rfl (lv_at hl 0 rfl) ?_
  have o_35 := h.1
  have h := h.2
  refine lv_dmul hx hb dX1_addCompany_35 o_35 ?_
  refine lv_d2l hx hb dX1_addCompany_36 ?_
  refine ce_qv (fw := fun u => u) (fy := fun _ => y) (cr_V (n := 1) (As := [.long (FP.d2l (FP.dmul ((4634204016564240384 : UInt64)) r_26))]) (rest := []) ⟨hx, hb, hml, hown, hts⟩ hK hR (m_X1_add hW l0 h) q590 q592 qs7 q74 q593 rfl rfl hd_X1_add ⟨Nat.le_of_ble_eq_true rfl, Nat.le_of_ble_eq_true rfl⟩ (rv hK hR l0 (ci := 0) rfl rfl) rfl rfl hl.1 rfl (lv_room (Nat.le_of_ble_eq_true rfl)) dX1_addCompany_37 ⟨(Nat.le_of_ble_eq_true rfl), (Nat.le_of_ble_eq_true rfl)⟩) hR hS (fun w_37 H locs h hR _ hS => ?_)
  refine lv_aload_n hx hb dX1_addCompany_40 rfl (lv_at hl 2 rfl) ?_
  refine g9_2 hx hb hts hown hK hR l1 q1126 dX1_addCompany_41 ?_
  refine jr_iter ⟨hx, hb, hml, hown, hts⟩ hK hR hS ⟨fun _ _ _ _ _ => rfl, fun _ _ _ _ _ => rfl⟩ (hW.cpa l1) q325 ⟨Nat.le_of_ble_eq_true rfl, Nat.le_of_ble_eq_true rfl⟩ hl.1 (Nat.le_of_ble_eq_true rfl) dX1_addCompany_44 ⟨(Nat.le_of_ble_eq_true rfl), (Nat.le_of_ble_eq_true rfl)⟩ (fun q_44 H locs hR hS => ?_)
  have hR : Rp κ w_37 y X [(q_44, itC y 48 a1 0 (-1))] H := hR
  refine lv_astore (lv' := [(4, .ref (q_44)), (2, .double (r_26)), (0, .ref (y.2 0 0)), (1, .ref (y.2 9 a1))]) hx hb dX1_addCompany_47 hl (by decide) rfl (fun ls hl => ?_)
  refine lp_X1_addCompany_49 (C1 := 15) (S1 := 60) hx hb hr hml hown hts hlocks hK hW l0 l1 (Nat.le_of_ble_eq_true rfl) (Nat.le_of_ble_eq_true rfl) (fun w_49  H locs ls cells9 slots9 h hR hS hl hc9 hs9 => ?_) 14 w_37 0 (-1) _ _ _ _ _ (by omega) h hR hS (lv_sub hl [2, 0] rfl) (by omega) (by omega)
  refine W.widen (k := 15) (n := 60) hc9 hs9 ?_
  refine W.widen (k := 15) (n := 60) (Nat.le_of_ble_eq_true rfl) (Nat.le_of_ble_eq_true rfl) ?_
  exact W.vret hx hb hr (fun t ht hW9 => ⟨⟨w_49, rfl, h, rpt ht hR⟩, hS.F ht⟩) hS.2.2 dX1_addCompany_94
abbrev rm_X1_award : Room := { frames := 8, cells := 7, slots := 29, locals := 133 }
def sp_X1_award (κ : Kx) (y : Ly) (post : Int32 → Wd → Ly → Prop) (px : String → Wd → Prop) (w : Wd) (p1 : Int32) : Prop := sp_X1_lotOf κ y (fun i_2 w_2 => ((gv w_2 11 i_2 7).toNatClampNeg < 4) ∧ (((¬ ((gv w_2 11 i_2 7).toNatClampNeg = 0)) → (sp_X1_state κ y (fun w_24 => sp_X1_winner κ y (fun ow_30 w_30 => (ow_30 = none → (∀ y_33 : Ly, y_33 = seF y 14 i_2 0 → ((¬ (¬ y_33.1 14 i_2 = 1)) → ((y_33.1 14 i_2 = 1 ∧ live y_33 9 (gv w_30 14 i_2 0).toNatClampNeg) ∧ (sp_X1_price κ y_33 (fun r_70 w_70 => ∀ w_73 : Wd, w_73 = sv w_70 11 i_2 9 (r_70) → ∀ w_80 : Wd, w_80 = sv w_73 11 i_2 7 (1 : Int32) → ∀ w_88 : Wd, w_88 = sv w_80 11 i_2 10 (gv w_80 11 i_2 3) → sp_X1_year κ y_33 (fun r_93 w_93 => ∀ w_96 : Wd, w_96 = sv w_93 11 i_2 12 (r_93) → ∀ w_111 : Wd, w_111 = sv w_96 9 (((gv w_30 14 i_2 0).toNatClampNeg)) 4 ((gv w_96 9 (((gv w_30 14 i_2 0).toNatClampNeg)) 4) + ((gv w_96 11 i_2 9) / (4 : Int32))) → sp_X1_fallDue κ y_33 (fun w_116 => post (nI (((gv w_30 14 i_2 0).toNatClampNeg))) w_116 y_33) w_111 i_2) w_88 ) w_30 i_2 (((gv w_30 14 i_2 0).toNatClampNeg))))) ∧ (((¬ y_33.1 14 i_2 = 1)) → (∀ w_50 : Wd, w_50 = sv w_30 11 i_2 7 (3 : Int32) → post ((-1 : Int32)) w_50 y_33)))) ∧ (∀ i_30 : Nat, ow_30 = some i_30 → (∀ w_33 : Wd, w_33 = sv w_30 14 i_2 0 (nI i_30) → ∀ (y_33_a : Ly) (q9 : Nat), y_33_a = seF (seA y 14 i_2 q9) 14 i_2 1 → ((¬ (¬ y_33_a.1 14 i_2 = 1)) → ((y_33_a.1 14 i_2 = 1 ∧ live y_33_a 9 (gv w_33 14 i_2 0).toNatClampNeg) ∧ (sp_X1_price κ y_33_a (fun r_70_a w_70_a => ∀ w_73_a : Wd, w_73_a = sv w_70_a 11 i_2 9 (r_70_a) → ∀ w_80_a : Wd, w_80_a = sv w_73_a 11 i_2 7 (1 : Int32) → ∀ w_88_a : Wd, w_88_a = sv w_80_a 11 i_2 10 (gv w_80_a 11 i_2 3) → sp_X1_year κ y_33_a (fun r_93_a w_93_a => ∀ w_96_a : Wd, w_96_a = sv w_93_a 11 i_2 12 (r_93_a) → ∀ w_111_a : Wd, w_111_a = sv w_96_a 9 (((gv w_33 14 i_2 0).toNatClampNeg)) 4 ((gv w_96_a 9 (((gv w_33 14 i_2 0).toNatClampNeg)) 4) + ((gv w_96_a 11 i_2 9) / (4 : Int32))) → sp_X1_fallDue κ y_33_a (fun w_116_a => post (nI (((gv w_33 14 i_2 0).toNatClampNeg))) w_116_a y_33_a) w_111_a i_2) w_88_a ) w_33 i_2 (((gv w_33 14 i_2 0).toNatClampNeg))))) ∧ (((¬ y_33_a.1 14 i_2 = 1)) → (∀ w_50_a : Wd, w_50_a = sv w_33 11 i_2 7 (3 : Int32) → post ((-1 : Int32)) w_50_a y_33_a))))) w_24 i_2) px w_2 (0 : Int32))) ∧ (((gv w_2 11 i_2 7).toNatClampNeg = 0) → (sp_X1_state κ y (fun w_24_a => sp_X1_winner κ y (fun ow_30_a w_30_a => (ow_30_a = none → (∀ y_33_b : Ly, y_33_b = seF y 14 i_2 0 → ((¬ (¬ y_33_b.1 14 i_2 = 1)) → ((y_33_b.1 14 i_2 = 1 ∧ live y_33_b 9 (gv w_30_a 14 i_2 0).toNatClampNeg) ∧ (sp_X1_price κ y_33_b (fun r_70_b w_70_b => ∀ w_73_b : Wd, w_73_b = sv w_70_b 11 i_2 9 (r_70_b) → ∀ w_80_b : Wd, w_80_b = sv w_73_b 11 i_2 7 (1 : Int32) → ∀ w_88_b : Wd, w_88_b = sv w_80_b 11 i_2 10 (gv w_80_b 11 i_2 3) → sp_X1_year κ y_33_b (fun r_93_b w_93_b => ∀ w_96_b : Wd, w_96_b = sv w_93_b 11 i_2 12 (r_93_b) → ∀ w_111_b : Wd, w_111_b = sv w_96_b 9 (((gv w_30_a 14 i_2 0).toNatClampNeg)) 4 ((gv w_96_b 9 (((gv w_30_a 14 i_2 0).toNatClampNeg)) 4) + ((gv w_96_b 11 i_2 9) / (4 : Int32))) → sp_X1_fallDue κ y_33_b (fun w_116_b => post (nI (((gv w_30_a 14 i_2 0).toNatClampNeg))) w_116_b y_33_b) w_111_b i_2) w_88_b ) w_30_a i_2 (((gv w_30_a 14 i_2 0).toNatClampNeg))))) ∧ (((¬ y_33_b.1 14 i_2 = 1)) → (∀ w_50_b : Wd, w_50_b = sv w_30_a 11 i_2 7 (3 : Int32) → post ((-1 : Int32)) w_50_b y_33_b)))) ∧ (∀ i_30_a : Nat, ow_30_a = some i_30_a → (∀ w_33_a : Wd, w_33_a = sv w_30_a 14 i_2 0 (nI i_30_a) → ∀ (y_33_c : Ly) (q9 : Nat), y_33_c = seF (seA y 14 i_2 q9) 14 i_2 1 → ((¬ (¬ y_33_c.1 14 i_2 = 1)) → ((y_33_c.1 14 i_2 = 1 ∧ live y_33_c 9 (gv w_33_a 14 i_2 0).toNatClampNeg) ∧ (sp_X1_price κ y_33_c (fun r_70_c w_70_c => ∀ w_73_c : Wd, w_73_c = sv w_70_c 11 i_2 9 (r_70_c) → ∀ w_80_c : Wd, w_80_c = sv w_73_c 11 i_2 7 (1 : Int32) → ∀ w_88_c : Wd, w_88_c = sv w_80_c 11 i_2 10 (gv w_80_c 11 i_2 3) → sp_X1_year κ y_33_c (fun r_93_c w_93_c => ∀ w_96_c : Wd, w_96_c = sv w_93_c 11 i_2 12 (r_93_c) → ∀ w_111_c : Wd, w_111_c = sv w_96_c 9 (((gv w_33_a 14 i_2 0).toNatClampNeg)) 4 ((gv w_96_c 9 (((gv w_33_a 14 i_2 0).toNatClampNeg)) 4) + ((gv w_96_c 11 i_2 9) / (4 : Int32))) → sp_X1_fallDue κ y_33_c (fun w_116_c => post (nI (((gv w_33_a 14 i_2 0).toNatClampNeg))) w_116_c y_33_c) w_111_c i_2) w_88_c ) w_33_a i_2 (((gv w_33_a 14 i_2 0).toNatClampNeg))))) ∧ (((¬ y_33_c.1 14 i_2 = 1)) → (∀ w_50_c : Wd, w_50_c = sv w_33_a 11 i_2 7 (3 : Int32) → post ((-1 : Int32)) w_50_c y_33_c))))) w_24_a i_2) px w_2 (1 : Int32))))) px w p1
theorem hd_X1_award : yX1_award.cls = RX1 ∧ yX1_award.cls ≠ "java/lang/invoke/MethodHandle" ∧ yX1_award.cls ≠ "java/lang/invoke/VarHandle" ∧ (parseMethodDescriptor yX1_award.desc).map (fun d => d.parameters.length) = some 1 := by decide +kernel
set_option maxHeartbeats 4000000 in
theorem m_X1_award {l : Launch} {κ : Kx} {y : Ly} {X : XR} {post : Int32 → Wd → Ly → Prop} {px : String → Wd → Prop} {w : Wd} {p1 : Int32}  (hfl : l.stackTraces = false) (hW : WFc κ y) (l0 : live y 0 0) (h : sp_X1_award κ y post px w p1) : vx_Met l yX1_award (ws_ yX1_award cX1_award 4 (Option.some Jvm.ClassFile.FieldType.int)) rm_X1_award (va_Pc [.ref (y.2 0 0), .int (p1)] (RC κ w y X)) (va_Qi (fun r (u : Wd × Ly) => post r u.1 u.2) (fun (u : Wd × Ly) t => Rp κ u.1 u.2 X [] t.heap ∧ WFc κ u.2 ∧ LeS y u.2) (Af κ)) (XCk κ y X px) 7 29 (Af κ) := by
  unfold sp_X1_award at h
  refine vx_ofW (cc := cX1_award) (maxL := 4) (ret := (Option.some Jvm.ClassFile.FieldType.int)) (by decide) rfl ?_
  intro p e s m args below meth c s₁ B hml ht hv
  obtain ⟨rfl, hR, hK⟩ := hv
  have hx := B.exec
  have hb := B.bytes
  have hr := B.returns
  have hts := atoms_spec (ws := ws_ yX1_award cX1_award 4 (Option.some Jvm.ClassFile.FieldType.int)) B.pre
  have hts : ∀ w ∈ lw_all, w.before _ s = true := fun w h => hts w (List.mem_cons_of_mem _ h)
  have hown : s.vm.findClass RX1 = some m.cls := findClass_of_methodNamed B.named
  have hlocks := B.notSynchronized
  have hR0 := hR
  have hLe : LeS y y := LeS.rf
  have hS : va_S (Af κ) s.heap s.heap [] := va_S.rf
  have hl := lv_entry ([.ref (y.2 0 0), .int (p1)]) (n := 4) (Nat.le_of_ble_eq_true rfl)
  rw [lg_entry_eq]
  generalize (lg_sl ([.ref (y.2 0 0), .int (p1)]) ++ List.replicate (4 - (lg_sl ([.ref (y.2 0 0), .int (p1)])).length) Slot.unset).toArray = ls at hl ⊢
  have hl : lv_has ls 4 [(0, .ref (y.2 0 0)), (1, .int (p1))] := hl
  refine lv_aload_n hx hb dX1_award_0 rfl (lv_at hl 0 rfl) ?_
  refine lv_iload_n hx hb dX1_award_1 rfl (lv_at hl 1 rfl) ?_
  refine cex_qr (fw := fun u : Nat × Wd => u.2) (fy := fun _ => y) (P := (fun (u : Nat × Wd) ra => ra = y.2 11 u.1 ∧ live y 11 u.1)) (crx_V (n := 1) (As := [.int (p1)]) (rest := []) ⟨hx, hb, hml, hown, hts⟩ hK hR (m_X1_lotOf hfl hW l0 h) q1317 q1319 qs24 q74 q1320 rfl rfl hd_X1_lotOf ⟨Nat.le_of_ble_eq_true rfl, Nat.le_of_ble_eq_true rfl⟩ (rv hK hR l0 (ci := 0) rfl rfl) rfl rfl hl.1 rfl (lv_room (Nat.le_of_ble_eq_true rfl)) dX1_award_2 ⟨(Nat.le_of_ble_eq_true rfl), (Nat.le_of_ble_eq_true rfl)⟩) hR hS ht hlocks (Nat.le_of_ble_eq_true rfl) (Nat.le_of_ble_eq_true rfl) (fun u9 a_2 H locs h p9 hR _ hS => ?_)
  obtain ⟨i_2, w_2⟩ := u9
  obtain ⟨e9, lv_2⟩ := p9
  dsimp only at e9 lv_2
  subst e9
  refine lv_astore_n (lv' := [(2, .ref (y.2 11 i_2)), (0, .ref (y.2 0 0)), (1, .int (p1))]) hx hb dX1_award_5 rfl hl (by decide) rfl (fun ls hl => ?_)
  refine lv_aload_n hx hb dX1_award_6 rfl (lv_at hl 0 rfl) ?_
  refine g11_7 hx hb hts hown hK hR lv_2 q1267 dX1_award_7 ?_
  refine jr_gets (C := "Publicanry$Stand") (n := "OFFERED") (d := "LPublicanry$Stand;") (j := 10) hx hb hown hK hR hS (List.mem_of_getElem? (i := 2) rfl) q1321 hts dX1_award_10 ?_
  have o_13 := h.1
  have h := h.2
  refine lv_acmp_ne (rx := some (kA κ (10 + (gv w_2 11 i_2 7).toNatClampNeg))) (ry := some (kA κ (10 + 0))) (tgt := 20) hx hb dX1_award_13 (by decide) (fun c_13 => ?_) (fun c_13 => ?_)
  · replace c_13 : ¬ ((gv w_2 11 i_2 7).toNatClampNeg = 0) := fun q9 => c_13 (congrArg some (congrArg (fun z => kA κ (10 + z)) q9))
    have h := h.1 c_13
    refine lv_iconst (v := (0 : Int32)) hx hb dX1_award_20 (by decide) ?_
    refine jr_ldcwS (own := "Publicanry") (k := 315) (tx := "not offered") (n := 1315) hx hb hown hK (List.mem_of_getElem? (i := 13) rfl) dX1_award_21 ?_
    refine cex_qv (fw := fun u => u) (fy := fun _ => y) (crx_S (n := 2) (As := [.int ((0 : Int32)), .ref (kA κ 1315)]) (rest := []) ⟨hx, hb, hml, hown, hts⟩ hK hR (m_X1_state hfl hW h) q813 q814 q74 q815 rfl rfl hds_X1_state ⟨Nat.le_of_ble_eq_true rfl, Nat.le_of_ble_eq_true rfl⟩ rfl rfl hl.1 rfl (lv_room (Nat.le_of_ble_eq_true rfl)) dX1_award_24 ⟨(Nat.le_of_ble_eq_true rfl), (Nat.le_of_ble_eq_true rfl)⟩) hR hS ht hlocks (Nat.le_of_ble_eq_true rfl) (Nat.le_of_ble_eq_true rfl) (fun w_24 H locs h hR _ hS => ?_)
    refine lv_aload_n hx hb dX1_award_27 rfl (lv_at hl 0 rfl) ?_
    refine lv_aload_n hx hb dX1_award_28 rfl (lv_at hl 1 rfl) ?_
    refine lv_aload_n hx hb dX1_award_29 rfl (lv_at hl 0 rfl) ?_
    refine ce_wn (cr_V (n := 1) (As := [.ref (y.2 11 i_2)]) (rest := [.ref (y.2 11 i_2)]) ⟨hx, hb, hml, hown, hts⟩ hK hR (m_X1_winner hW l0 lv_2 h) q1335 q1337 qs25 q74 q1338 rfl rfl hd_X1_winner ⟨Nat.le_of_ble_eq_true rfl, Nat.le_of_ble_eq_true rfl⟩ (rv hK hR l0 (ci := 0) rfl rfl) rfl rfl hl.1 rfl (lv_room (Nat.le_of_ble_eq_true rfl)) dX1_award_30 ⟨(Nat.le_of_ble_eq_true rfl), (Nat.le_of_ble_eq_true rfl)⟩) hR hS (fun u9 a_30 H locs h p9 hR hS => ?_)
    obtain ⟨ow_30, w_30⟩ := u9
    dsimp only at h p9 hR
    rcases ow_30 with _ | i_30
    · have h := h.1 rfl
      replace p9 : a_30 = kA κ 0 := p9
      subst p9
      have hR := hR.sub (L' := []) [] rfl rfl
      have lv_33 := lv_2
      have lv_33_a := l0
      refine p11_8n hx hb hts hown hK hR hS lv_2 q1269 dX1_award_33 (fun H locs y_33 ey_33 hR hS => ?_)
      have h := h y_33 ey_33
      have hL1_y_33 : LeS y y_33 := by rw [ey_33]; exact leS_hoN
      have hW_y_33 : WFc κ y_33 := by rw [ey_33]; exact WFc.hoN hW
      have lw_33 := hL1_y_33.live (k := 11) rfl lv_33
      have lw_33_a := hL1_y_33.live (k := 0) rfl lv_33_a
      have hl : lv_has ls 4 [(2, .ref (y_33.2 11 i_2)), (0, .ref (y_33.2 0 0)), (1, .int (p1))] := by
        rw [hL1_y_33.2 0 rfl, hL1_y_33.2 11 rfl]
        exact hl
      have hLe_y_33 : LeS _ y_33 := (hLe.trans hL1_y_33)
      refine lv_aload_n hx hb dX1_award_36 rfl (lv_at hl 0 rfl) ?_
      refine g11_8 hx hb hts hown hK hR lw_33 q1269 dX1_award_37 ?_
      refine jr_oisEmpty ⟨hx, hb, hml, hown, hts⟩ hK (ho_at hK hR i_2) q1371 ⟨Nat.le_of_ble_eq_true rfl, Nat.le_of_ble_eq_true rfl⟩ hl.1 (Nat.le_of_ble_eq_true rfl) dX1_award_40 ⟨(Nat.le_of_ble_eq_true rfl), (Nat.le_of_ble_eq_true rfl)⟩ ?_
      rw [op_emp]
      refine lv_if_eq (tgt := 55) hx hb dX1_award_43 (by decide) (fun c_43 => ?_) (fun c_43 => ?_)
      · replace c_43 : ¬ (¬ y_33.1 14 i_2 = 1) := bi_0.mp c_43
        have h := h.1 c_43
        refine lv_aload_n hx hb dX1_award_55 rfl (lv_at hl 0 rfl) ?_
        refine g11_8 hx hb hts hown hK hR lw_33 q1269 dX1_award_56 ?_
        have o_59 := h.1
        have h := h.2
        refine jr_oget (z := y_33.2 9 ((gv w_30 14 i_2 0).toNatClampNeg)) ⟨hx, hb, hml, hown, hts⟩ hK (ho_at hK hR i_2) (if_pos o_59.1) q519 ⟨Nat.le_of_ble_eq_true rfl, Nat.le_of_ble_eq_true rfl⟩ hl.1 (Nat.le_of_ble_eq_true rfl) dX1_award_59 ⟨(Nat.le_of_ble_eq_true rfl), (Nat.le_of_ble_eq_true rfl)⟩ ?_
        refine jr_castS (ci := 7) hx hb hown hK hts (hR.role o_59.2) rfl q371 dX1_award_62 ?_
        refine lv_astore_n (lv' := [(3, .ref (y_33.2 9 ((gv w_30 14 i_2 0).toNatClampNeg))), (2, .ref (y_33.2 11 i_2)), (0, .ref (y_33.2 0 0)), (1, .int (p1))]) hx hb dX1_award_65 rfl hl (by decide) rfl (fun ls hl => ?_)
        refine lv_aload_n hx hb dX1_award_66 rfl (lv_at hl 1 rfl) ?_
        refine lv_aload_n hx hb dX1_award_67 rfl (lv_at hl 2 rfl) ?_
        refine lv_aload_n hx hb dX1_award_68 rfl (lv_at hl 1 rfl) ?_
        refine lv_aload_n hx hb dX1_award_69 rfl (lv_at hl 0 rfl) ?_
        refine ce_qi (fw := fun u => u) (fy := fun _ => y_33) (cr_V (n := 2) (As := [.ref (y_33.2 11 i_2), .ref (y_33.2 9 ((gv w_30 14 i_2 0).toNatClampNeg))]) (rest := [.ref (y_33.2 11 i_2)]) ⟨hx, hb, hml, hown, hts⟩ hK hR (m_X1_price hW_y_33 lw_33_a lw_33 o_59.2 h) q1377 q1379 qs26 q74 q1380 rfl rfl hd_X1_price ⟨Nat.le_of_ble_eq_true rfl, Nat.le_of_ble_eq_true rfl⟩ (rv hK hR lw_33_a (ci := 0) rfl rfl) rfl rfl hl.1 rfl (lv_room (Nat.le_of_ble_eq_true rfl)) dX1_award_70 ⟨(Nat.le_of_ble_eq_true rfl), (Nat.le_of_ble_eq_true rfl)⟩) hR hS (fun r_70 w_70 H locs h hR _ hS => ?_)
        refine p11_9 hx hb hts hown hK hR hS lw_33 q1271 dX1_award_73 (fun H locs w_73 ew_73 hR hS => ?_)
        have h := h w_73 ew_73
        refine lv_aload_n hx hb dX1_award_76 rfl (lv_at hl 1 rfl) ?_
        refine jr_gets (C := "Publicanry$Stand") (n := "LEASED") (d := "LPublicanry$Stand;") (j := 11) hx hb hown hK hR hS (List.mem_of_getElem? (i := 3) rfl) q1382 hts dX1_award_77 ?_
        refine p11_7 (x := (1 : Int32)) (j := 1) hx hb hts hown hK hR hS lw_33 (by decide) q1267 dX1_award_80 (fun H locs w_80 ew_80 hR hS => ?_)
        have h := h w_80 ew_80
        refine lv_aload_n hx hb dX1_award_83 rfl (lv_at hl 1 rfl) ?_
        refine lv_aload_n hx hb dX1_award_84 rfl (lv_at hl 1 rfl) ?_
        refine g11_3 hx hb hts hown hK hR lw_33 q1259 dX1_award_85 ?_
        refine p11_10 hx hb hts hown hK hR hS lw_33 q1273 dX1_award_88 (fun H locs w_88 ew_88 hR hS => ?_)
        have h := h w_88 ew_88
        refine lv_aload_n hx hb dX1_award_91 rfl (lv_at hl 1 rfl) ?_
        refine lv_aload_n hx hb dX1_award_92 rfl (lv_at hl 2 rfl) ?_
        refine ce_qi (fw := fun u => u) (fy := fun _ => y_33) (cr_V (n := 0) (As := []) (rest := [.ref (y_33.2 11 i_2)]) ⟨hx, hb, hml, hown, hts⟩ hK hR (m_X1_year hW_y_33 lw_33_a h) q532 q534 qs4 q74 q535 rfl rfl hd_X1_year ⟨Nat.le_of_ble_eq_true rfl, Nat.le_of_ble_eq_true rfl⟩ (rv hK hR lw_33_a (ci := 0) rfl rfl) rfl rfl hl.1 rfl (lv_room (Nat.le_of_ble_eq_true rfl)) dX1_award_93 ⟨(Nat.le_of_ble_eq_true rfl), (Nat.le_of_ble_eq_true rfl)⟩) hR hS (fun r_93 w_93 H locs h hR _ hS => ?_)
        refine p11_12 hx hb hts hown hK hR hS lw_33 q1275 dX1_award_96 (fun H locs w_96 ew_96 hR hS => ?_)
        have h := h w_96 ew_96
        refine lv_aload_n hx hb dX1_award_99 rfl (lv_at hl 0 rfl) ?_
        refine lv_dup hx hb dX1_award_100 rfl ?_
        refine g9_4 hx hb hts hown hK hR o_59.2 q1131 dX1_award_101 ?_
        refine lv_aload_n hx hb dX1_award_104 rfl (lv_at hl 1 rfl) ?_
        refine g11_9 hx hb hts hown hK hR lw_33 q1271 dX1_award_105 ?_
        refine lv_iconst (v := (4 : Int32)) hx hb dX1_award_108 (by decide) ?_
        refine lv_idiv hx hb dX1_award_109 (by decide) ?_
        refine lv_iadd hx hb dX1_award_110 ?_
        refine p9_4 hx hb hts hown hK hR hS o_59.2 q1131 dX1_award_111 (fun H locs w_111 ew_111 hR hS => ?_)
        have h := h w_111 ew_111
        refine lv_aload_n hx hb dX1_award_114 rfl (lv_at hl 2 rfl) ?_
        refine lv_aload_n hx hb dX1_award_115 rfl (lv_at hl 1 rfl) ?_
        refine ce_qv (fw := fun u => u) (fy := fun _ => y_33) (cr_V (n := 1) (As := [.ref (y_33.2 11 i_2)]) (rest := []) ⟨hx, hb, hml, hown, hts⟩ hK hR (m_X1_fallDue hW_y_33 lw_33_a lw_33 h) q1383 q1385 qs27 q74 q1386 rfl rfl hd_X1_fallDue ⟨Nat.le_of_ble_eq_true rfl, Nat.le_of_ble_eq_true rfl⟩ (rv hK hR lw_33_a (ci := 0) rfl rfl) rfl rfl hl.1 rfl (lv_room (Nat.le_of_ble_eq_true rfl)) dX1_award_116 ⟨(Nat.le_of_ble_eq_true rfl), (Nat.le_of_ble_eq_true rfl)⟩) hR hS (fun w_116 H locs h hR _ hS => ?_)
        refine lv_aload_n hx hb dX1_award_119 rfl (lv_at hl 0 rfl) ?_
        refine g9_0 hx hb hts hown hK hR o_59.2 q1122 dX1_award_120 ?_
        refine W.widen (k := 7) (n := 29) (Nat.le_of_ble_eq_true rfl) (Nat.le_of_ble_eq_true rfl) ?_
        refine vx_ret ?_; exact W.iret (v := nI (((gv w_30 14 i_2 0).toNatClampNeg))) hx hb hr (fun t ht hW9 => ⟨⟨nI (((gv w_30 14 i_2 0).toNatClampNeg)), (w_116, y_33), rfl, h, ⟨rpt ht hR, hW_y_33, hLe_y_33⟩⟩, hS.F ht⟩) hS.2.2 dX1_award_123
      · replace c_43 : (¬ y_33.1 14 i_2 = 1) := bi_n0.mp c_43
        have h := h.2 c_43
        refine lv_aload_n hx hb dX1_award_46 rfl (lv_at hl 0 rfl) ?_
        refine jr_gets (C := "Publicanry$Stand") (n := "FAILED") (d := "LPublicanry$Stand;") (j := 13) hx hb hown hK hR hS (List.mem_of_getElem? (i := 5) rfl) q1375 hts dX1_award_47 ?_
        refine p11_7 (x := (3 : Int32)) (j := 3) hx hb hts hown hK hR hS lw_33 (by decide) q1267 dX1_award_50 (fun H locs w_50 ew_50 hR hS => ?_)
        have h := h w_50 ew_50
        refine lv_iconst (v := (-1 : Int32)) hx hb dX1_award_53 (by decide) ?_
        refine W.widen (k := 7) (n := 29) (Nat.le_of_ble_eq_true rfl) (Nat.le_of_ble_eq_true rfl) ?_
        refine vx_ret ?_; exact W.iret (v := (-1 : Int32)) hx hb hr (fun t ht hW9 => ⟨⟨(-1 : Int32), (w_50, y_33), rfl, h, ⟨rpt ht hR, hW_y_33, hLe_y_33⟩⟩, hS.F ht⟩) hS.2.2 dX1_award_54
    · have h := h.2 i_30 rfl
      have lv_30 : live y 9 i_30 := p9
      have hR : Rp κ w_30 y X [(a_30, .inr (18, [.ref (y.2 9 i_30)]))] H := hR
      have lv_33_b := lv_2
      have lv_33_c := l0
      have lv_33_d := lv_30
      refine p11_8s (j := i_30) hx hb hts hown hK hR hS lv_2 rfl (by have := hW.ci4 lv_30; omega) q1269 dX1_award_33 (fun H locs w_33 y_33_a ew_33 ey_33_a hR hS => ?_)
      have h := h w_33 ew_33 y_33_a _ ey_33_a
      have hL1_y_33_a : LeS y y_33_a := by rw [ey_33_a]; exact leS_hoS
      have hW_y_33_a : WFc κ y_33_a := by rw [ey_33_a]; exact WFc.hoS hW
      have lw_33_b := hL1_y_33_a.live (k := 11) rfl lv_33_b
      have lw_33_c := hL1_y_33_a.live (k := 0) rfl lv_33_c
      have hl : lv_has ls 4 [(2, .ref (y_33_a.2 11 i_2)), (0, .ref (y_33_a.2 0 0)), (1, .int (p1))] := by
        rw [hL1_y_33_a.2 0 rfl, hL1_y_33_a.2 11 rfl]
        exact hl
      have hLe_y_33_a : LeS _ y_33_a := (hLe.trans hL1_y_33_a)
      refine lv_aload_n hx hb dX1_award_36 rfl (lv_at hl 0 rfl) ?_
      refine g11_8 hx hb hts hown hK hR lw_33_b q1269 dX1_award_37 ?_
      refine jr_oisEmpty ⟨hx, hb, hml, hown, hts⟩ hK (ho_at hK hR i_2) q1371 ⟨Nat.le_of_ble_eq_true rfl, Nat.le_of_ble_eq_true rfl⟩ hl.1 (Nat.le_of_ble_eq_true rfl) dX1_award_40 ⟨(Nat.le_of_ble_eq_true rfl), (Nat.le_of_ble_eq_true rfl)⟩ ?_
      rw [op_emp]
      refine lv_if_eq (tgt := 55) hx hb dX1_award_43 (by decide) (fun c_43_a => ?_) (fun c_43_a => ?_)
      · replace c_43_a : ¬ (¬ y_33_a.1 14 i_2 = 1) := bi_0.mp c_43_a
        have h := h.1 c_43_a
        refine lv_aload_n hx hb dX1_award_55 rfl (lv_at hl 0 rfl) ?_
        refine g11_8 hx hb hts hown hK hR lw_33_b q1269 dX1_award_56 ?_
        have o_59_a := h.1
        have h := h.2
        refine jr_oget (z := y_33_a.2 9 ((gv w_33 14 i_2 0).toNatClampNeg)) ⟨hx, hb, hml, hown, hts⟩ hK (ho_at hK hR i_2) (if_pos o_59_a.1) q519 ⟨Nat.le_of_ble_eq_true rfl, Nat.le_of_ble_eq_true rfl⟩ hl.1 (Nat.le_of_ble_eq_true rfl) dX1_award_59 ⟨(Nat.le_of_ble_eq_true rfl), (Nat.le_of_ble_eq_true rfl)⟩ ?_
        refine jr_castS (ci := 7) hx hb hown hK hts (hR.role o_59_a.2) rfl q371 dX1_award_62 ?_
        refine lv_astore_n (lv' := [(3, .ref (y_33_a.2 9 ((gv w_33 14 i_2 0).toNatClampNeg))), (2, .ref (y_33_a.2 11 i_2)), (0, .ref (y_33_a.2 0 0)), (1, .int (p1))]) hx hb dX1_award_65 rfl hl (by decide) rfl (fun ls hl => ?_)
        refine lv_aload_n hx hb dX1_award_66 rfl (lv_at hl 1 rfl) ?_
        refine lv_aload_n hx hb dX1_award_67 rfl (lv_at hl 2 rfl) ?_
        refine lv_aload_n hx hb dX1_award_68 rfl (lv_at hl 1 rfl) ?_
        refine lv_aload_n hx hb dX1_award_69 rfl (lv_at hl 0 rfl) ?_
        refine ce_qi (fw := fun u => u) (fy := fun _ => y_33_a) (cr_V (n := 2) (As := [.ref (y_33_a.2 11 i_2), .ref (y_33_a.2 9 ((gv w_33 14 i_2 0).toNatClampNeg))]) (rest := [.ref (y_33_a.2 11 i_2)]) ⟨hx, hb, hml, hown, hts⟩ hK hR (m_X1_price hW_y_33_a lw_33_c lw_33_b o_59_a.2 h) q1377 q1379 qs26 q74 q1380 rfl rfl hd_X1_price ⟨Nat.le_of_ble_eq_true rfl, Nat.le_of_ble_eq_true rfl⟩ (rv hK hR lw_33_c (ci := 0) rfl rfl) rfl rfl hl.1 rfl (lv_room (Nat.le_of_ble_eq_true rfl)) dX1_award_70 ⟨(Nat.le_of_ble_eq_true rfl), (Nat.le_of_ble_eq_true rfl)⟩) hR hS (fun r_70_a w_70_a H locs h hR _ hS => ?_)
        refine p11_9 hx hb hts hown hK hR hS lw_33_b q1271 dX1_award_73 (fun H locs w_73_a ew_73_a hR hS => ?_)
        have h := h w_73_a ew_73_a
        refine lv_aload_n hx hb dX1_award_76 rfl (lv_at hl 1 rfl) ?_
        refine jr_gets (C := "Publicanry$Stand") (n := "LEASED") (d := "LPublicanry$Stand;") (j := 11) hx hb hown hK hR hS (List.mem_of_getElem? (i := 3) rfl) q1382 hts dX1_award_77 ?_
        refine p11_7 (x := (1 : Int32)) (j := 1) hx hb hts hown hK hR hS lw_33_b (by decide) q1267 dX1_award_80 (fun H locs w_80_a ew_80_a hR hS => ?_)
        have h := h w_80_a ew_80_a
        refine lv_aload_n hx hb dX1_award_83 rfl (lv_at hl 1 rfl) ?_
        refine lv_aload_n hx hb dX1_award_84 rfl (lv_at hl 1 rfl) ?_
        refine g11_3 hx hb hts hown hK hR lw_33_b q1259 dX1_award_85 ?_
        refine p11_10 hx hb hts hown hK hR hS lw_33_b q1273 dX1_award_88 (fun H locs w_88_a ew_88_a hR hS => ?_)
        have h := h w_88_a ew_88_a
        refine lv_aload_n hx hb dX1_award_91 rfl (lv_at hl 1 rfl) ?_
        refine lv_aload_n hx hb dX1_award_92 rfl (lv_at hl 2 rfl) ?_
        refine ce_qi (fw := fun u => u) (fy := fun _ => y_33_a) (cr_V (n := 0) (As := []) (rest := [.ref (y_33_a.2 11 i_2)]) ⟨hx, hb, hml, hown, hts⟩ hK hR (m_X1_year hW_y_33_a lw_33_c h) q532 q534 qs4 q74 q535 rfl rfl hd_X1_year ⟨Nat.le_of_ble_eq_true rfl, Nat.le_of_ble_eq_true rfl⟩ (rv hK hR lw_33_c (ci := 0) rfl rfl) rfl rfl hl.1 rfl (lv_room (Nat.le_of_ble_eq_true rfl)) dX1_award_93 ⟨(Nat.le_of_ble_eq_true rfl), (Nat.le_of_ble_eq_true rfl)⟩) hR hS (fun r_93_a w_93_a H locs h hR _ hS => ?_)
        refine p11_12 hx hb hts hown hK hR hS lw_33_b q1275 dX1_award_96 (fun H locs w_96_a ew_96_a hR hS => ?_)
        have h := h w_96_a ew_96_a
        refine lv_aload_n hx hb dX1_award_99 rfl (lv_at hl 0 rfl) ?_
        refine lv_dup hx hb dX1_award_100 rfl ?_
        refine g9_4 hx hb hts hown hK hR o_59_a.2 q1131 dX1_award_101 ?_
        refine lv_aload_n hx hb dX1_award_104 rfl (lv_at hl 1 rfl) ?_
        refine g11_9 hx hb hts hown hK hR lw_33_b q1271 dX1_award_105 ?_
        refine lv_iconst (v := (4 : Int32)) hx hb dX1_award_108 (by decide) ?_
        refine lv_idiv hx hb dX1_award_109 (by decide) ?_
        refine lv_iadd hx hb dX1_award_110 ?_
        refine p9_4 hx hb hts hown hK hR hS o_59_a.2 q1131 dX1_award_111 (fun H locs w_111_a ew_111_a hR hS => ?_)
        have h := h w_111_a ew_111_a
        refine lv_aload_n hx hb dX1_award_114 rfl (lv_at hl 2 rfl) ?_
        refine lv_aload_n hx hb dX1_award_115 rfl (lv_at hl 1 rfl) ?_
        refine ce_qv (fw := fun u => u) (fy := fun _ => y_33_a) (cr_V (n := 1) (As := [.ref (y_33_a.2 11 i_2)]) (rest := []) ⟨hx, hb, hml, hown, hts⟩ hK hR (m_X1_fallDue hW_y_33_a lw_33_c lw_33_b h) q1383 q1385 qs27 q74 q1386 rfl rfl hd_X1_fallDue ⟨Nat.le_of_ble_eq_true rfl, Nat.le_of_ble_eq_true rfl⟩ (rv hK hR lw_33_c (ci := 0) rfl rfl) rfl rfl hl.1 rfl (lv_room (Nat.le_of_ble_eq_true rfl)) dX1_award_116 ⟨(Nat.le_of_ble_eq_true rfl), (Nat.le_of_ble_eq_true rfl)⟩) hR hS (fun w_116_a H locs h hR _ hS => ?_)
        refine lv_aload_n hx hb dX1_award_119 rfl (lv_at hl 0 rfl) ?_
        refine g9_0 hx hb hts hown hK hR o_59_a.2 q1122 dX1_award_120 ?_
        refine W.widen (k := 7) (n := 29) (Nat.le_of_ble_eq_true rfl) (Nat.le_of_ble_eq_true rfl) ?_
        refine vx_ret ?_; exact W.iret (v := nI (((gv w_33 14 i_2 0).toNatClampNeg))) hx hb hr (fun t ht hW9 => ⟨⟨nI (((gv w_33 14 i_2 0).toNatClampNeg)), (w_116_a, y_33_a), rfl, h, ⟨rpt ht hR, hW_y_33_a, hLe_y_33_a⟩⟩, hS.F ht⟩) hS.2.2 dX1_award_123
      · replace c_43_a : (¬ y_33_a.1 14 i_2 = 1) := bi_n0.mp c_43_a
        have h := h.2 c_43_a
        refine lv_aload_n hx hb dX1_award_46 rfl (lv_at hl 0 rfl) ?_
        refine jr_gets (C := "Publicanry$Stand") (n := "FAILED") (d := "LPublicanry$Stand;") (j := 13) hx hb hown hK hR hS (List.mem_of_getElem? (i := 5) rfl) q1375 hts dX1_award_47 ?_
        refine p11_7 (x := (3 : Int32)) (j := 3) hx hb hts hown hK hR hS lw_33_b (by decide) q1267 dX1_award_50 (fun H locs w_50_a ew_50_a hR hS => ?_)
        have h := h w_50_a ew_50_a
        refine lv_iconst (v := (-1 : Int32)) hx hb dX1_award_53 (by decide) ?_
        refine W.widen (k := 7) (n := 29) (Nat.le_of_ble_eq_true rfl) (Nat.le_of_ble_eq_true rfl) ?_
        refine vx_ret ?_; exact W.iret (v := (-1 : Int32)) hx hb hr (fun t ht hW9 => ⟨⟨(-1 : Int32), (w_50_a, y_33_a), rfl, h, ⟨rpt ht hR, hW_y_33_a, hLe_y_33_a⟩⟩, hS.F ht⟩) hS.2.2 dX1_award_54
  · replace c_13 : (gv w_2 11 i_2 7).toNatClampNeg = 0 := hK.2.2.2.2.2.2.1 _ _ o_13 (by decide) ((Option.some.inj c_13))
    have h := h.2 c_13
    refine lv_iconst (v := (1 : Int32)) hx hb dX1_award_16 (by decide) ?_
    refine lv_goto (tgt := 21) hx hb dX1_award_17 (by decide) ?_
    refine jr_ldcwS (own := "Publicanry") (k := 315) (tx := "not offered") (n := 1315) hx hb hown hK (List.mem_of_getElem? (i := 13) rfl) dX1_award_21 ?_
    refine cex_qv (fw := fun u => u) (fy := fun _ => y) (crx_S (n := 2) (As := [.int ((1 : Int32)), .ref (kA κ 1315)]) (rest := []) ⟨hx, hb, hml, hown, hts⟩ hK hR (m_X1_state hfl hW h) q813 q814 q74 q815 rfl rfl hds_X1_state ⟨Nat.le_of_ble_eq_true rfl, Nat.le_of_ble_eq_true rfl⟩ rfl rfl hl.1 rfl (lv_room (Nat.le_of_ble_eq_true rfl)) dX1_award_24 ⟨(Nat.le_of_ble_eq_true rfl), (Nat.le_of_ble_eq_true rfl)⟩) hR hS ht hlocks (Nat.le_of_ble_eq_true rfl) (Nat.le_of_ble_eq_true rfl) (fun w_24_a H locs h hR _ hS => ?_)
    refine lv_aload_n hx hb dX1_award_27 rfl (lv_at hl 0 rfl) ?_
    refine lv_aload_n hx hb dX1_award_28 rfl (lv_at hl 1 rfl) ?_
    refine lv_aload_n hx hb dX1_award_29 rfl (lv_at hl 0 rfl) ?_
    refine ce_wn (cr_V (n := 1) (As := [.ref (y.2 11 i_2)]) (rest := [.ref (y.2 11 i_2)]) ⟨hx, hb, hml, hown, hts⟩ hK hR (m_X1_winner hW l0 lv_2 h) q1335 q1337 qs25 q74 q1338 rfl rfl hd_X1_winner ⟨Nat.le_of_ble_eq_true rfl, Nat.le_of_ble_eq_true rfl⟩ (rv hK hR l0 (ci := 0) rfl rfl) rfl rfl hl.1 rfl (lv_room (Nat.le_of_ble_eq_true rfl)) dX1_award_30 ⟨(Nat.le_of_ble_eq_true rfl), (Nat.le_of_ble_eq_true rfl)⟩) hR hS (fun u9 a_30_a H locs h p9 hR hS => ?_)
    obtain ⟨ow_30_a, w_30_a⟩ := u9
    dsimp only at h p9 hR
    rcases ow_30_a with _ | i_30_a
    · have h := h.1 rfl
      replace p9 : a_30_a = kA κ 0 := p9
      subst p9
      have hR := hR.sub (L' := []) [] rfl rfl
      have lv_33_e := lv_2
      have lv_33_f := l0
      refine p11_8n hx hb hts hown hK hR hS lv_2 q1269 dX1_award_33 (fun H locs y_33_b ey_33_b hR hS => ?_)
      have h := h y_33_b ey_33_b
      have hL1_y_33_b : LeS y y_33_b := by rw [ey_33_b]; exact leS_hoN
      have hW_y_33_b : WFc κ y_33_b := by rw [ey_33_b]; exact WFc.hoN hW
      have lw_33_d := hL1_y_33_b.live (k := 11) rfl lv_33_e
      have lw_33_e := hL1_y_33_b.live (k := 0) rfl lv_33_f
      have hl : lv_has ls 4 [(2, .ref (y_33_b.2 11 i_2)), (0, .ref (y_33_b.2 0 0)), (1, .int (p1))] := by
        rw [hL1_y_33_b.2 0 rfl, hL1_y_33_b.2 11 rfl]
        exact hl
      have hLe_y_33_b : LeS _ y_33_b := (hLe.trans hL1_y_33_b)
      refine lv_aload_n hx hb dX1_award_36 rfl (lv_at hl 0 rfl) ?_
      refine g11_8 hx hb hts hown hK hR lw_33_d q1269 dX1_award_37 ?_
      refine jr_oisEmpty ⟨hx, hb, hml, hown, hts⟩ hK (ho_at hK hR i_2) q1371 ⟨Nat.le_of_ble_eq_true rfl, Nat.le_of_ble_eq_true rfl⟩ hl.1 (Nat.le_of_ble_eq_true rfl) dX1_award_40 ⟨(Nat.le_of_ble_eq_true rfl), (Nat.le_of_ble_eq_true rfl)⟩ ?_
      rw [op_emp]
      refine lv_if_eq (tgt := 55) hx hb dX1_award_43 (by decide) (fun c_43_b => ?_) (fun c_43_b => ?_)
      · replace c_43_b : ¬ (¬ y_33_b.1 14 i_2 = 1) := bi_0.mp c_43_b
        have h := h.1 c_43_b
        refine lv_aload_n hx hb dX1_award_55 rfl (lv_at hl 0 rfl) ?_
        refine g11_8 hx hb hts hown hK hR lw_33_d q1269 dX1_award_56 ?_
        have o_59_b := h.1
        have h := h.2
        refine jr_oget (z := y_33_b.2 9 ((gv w_30_a 14 i_2 0).toNatClampNeg)) ⟨hx, hb, hml, hown, hts⟩ hK (ho_at hK hR i_2) (if_pos o_59_b.1) q519 ⟨Nat.le_of_ble_eq_true rfl, Nat.le_of_ble_eq_true rfl⟩ hl.1 (Nat.le_of_ble_eq_true rfl) dX1_award_59 ⟨(Nat.le_of_ble_eq_true rfl), (Nat.le_of_ble_eq_true rfl)⟩ ?_
        refine jr_castS (ci := 7) hx hb hown hK hts (hR.role o_59_b.2) rfl q371 dX1_award_62 ?_
        refine lv_astore_n (lv' := [(3, .ref (y_33_b.2 9 ((gv w_30_a 14 i_2 0).toNatClampNeg))), (2, .ref (y_33_b.2 11 i_2)), (0, .ref (y_33_b.2 0 0)), (1, .int (p1))]) hx hb dX1_award_65 rfl hl (by decide) rfl (fun ls hl => ?_)
        refine lv_aload_n hx hb dX1_award_66 rfl (lv_at hl 1 rfl) ?_
        refine lv_aload_n hx hb dX1_award_67 rfl (lv_at hl 2 rfl) ?_
        refine lv_aload_n hx hb dX1_award_68 rfl (lv_at hl 1 rfl) ?_
        refine lv_aload_n hx hb dX1_award_69 rfl (lv_at hl 0 rfl) ?_
        refine ce_qi (fw := fun u => u) (fy := fun _ => y_33_b) (cr_V (n := 2) (As := [.ref (y_33_b.2 11 i_2), .ref (y_33_b.2 9 ((gv w_30_a 14 i_2 0).toNatClampNeg))]) (rest := [.ref (y_33_b.2 11 i_2)]) ⟨hx, hb, hml, hown, hts⟩ hK hR (m_X1_price hW_y_33_b lw_33_e lw_33_d o_59_b.2 h) q1377 q1379 qs26 q74 q1380 rfl rfl hd_X1_price ⟨Nat.le_of_ble_eq_true rfl, Nat.le_of_ble_eq_true rfl⟩ (rv hK hR lw_33_e (ci := 0) rfl rfl) rfl rfl hl.1 rfl (lv_room (Nat.le_of_ble_eq_true rfl)) dX1_award_70 ⟨(Nat.le_of_ble_eq_true rfl), (Nat.le_of_ble_eq_true rfl)⟩) hR hS (fun r_70_b w_70_b H locs h hR _ hS => ?_)
        refine p11_9 hx hb hts hown hK hR hS lw_33_d q1271 dX1_award_73 (fun H locs w_73_b ew_73_b hR hS => ?_)
        have h := h w_73_b ew_73_b
        refine lv_aload_n hx hb dX1_award_76 rfl (lv_at hl 1 rfl) ?_
        refine jr_gets (C := "Publicanry$Stand") (n := "LEASED") (d := "LPublicanry$Stand;") (j := 11) hx hb hown hK hR hS (List.mem_of_getElem? (i := 3) rfl) q1382 hts dX1_award_77 ?_
        refine p11_7 (x := (1 : Int32)) (j := 1) hx hb hts hown hK hR hS lw_33_d (by decide) q1267 dX1_award_80 (fun H locs w_80_b ew_80_b hR hS => ?_)
        have h := h w_80_b ew_80_b
        refine lv_aload_n hx hb dX1_award_83 rfl (lv_at hl 1 rfl) ?_
        refine lv_aload_n hx hb dX1_award_84 rfl (lv_at hl 1 rfl) ?_
        refine g11_3 hx hb hts hown hK hR lw_33_d q1259 dX1_award_85 ?_
        refine p11_10 hx hb hts hown hK hR hS lw_33_d q1273 dX1_award_88 (fun H locs w_88_b ew_88_b hR hS => ?_)
        have h := h w_88_b ew_88_b
        refine lv_aload_n hx hb dX1_award_91 rfl (lv_at hl 1 rfl) ?_
        refine lv_aload_n hx hb dX1_award_92 rfl (lv_at hl 2 rfl) ?_
        refine ce_qi (fw := fun u => u) (fy := fun _ => y_33_b) (cr_V (n := 0) (As := []) (rest := [.ref (y_33_b.2 11 i_2)]) ⟨hx, hb, hml, hown, hts⟩ hK hR (m_X1_year hW_y_33_b lw_33_e h) q532 q534 qs4 q74 q535 rfl rfl hd_X1_year ⟨Nat.le_of_ble_eq_true rfl, Nat.le_of_ble_eq_true rfl⟩ (rv hK hR lw_33_e (ci := 0) rfl rfl) rfl rfl hl.1 rfl (lv_room (Nat.le_of_ble_eq_true rfl)) dX1_award_93 ⟨(Nat.le_of_ble_eq_true rfl), (Nat.le_of_ble_eq_true rfl)⟩) hR hS (fun r_93_b w_93_b H locs h hR _ hS => ?_)
        refine p11_12 hx hb hts hown hK hR hS lw_33_d q1275 dX1_award_96 (fun H locs w_96_b ew_96_b hR hS => ?_)
        have h := h w_96_b ew_96_b
        refine lv_aload_n hx hb dX1_award_99 rfl (lv_at hl 0 rfl) ?_
        refine lv_dup hx hb dX1_award_100 rfl ?_
        refine g9_4 hx hb hts hown hK hR o_59_b.2 q1131 dX1_award_101 ?_
        refine lv_aload_n hx hb dX1_award_104 rfl (lv_at hl 1 rfl) ?_
        refine g11_9 hx hb hts hown hK hR lw_33_d q1271 dX1_award_105 ?_
        refine lv_iconst (v := (4 : Int32)) hx hb dX1_award_108 (by decide) ?_
        refine lv_idiv hx hb dX1_award_109 (by decide) ?_
        refine lv_iadd hx hb dX1_award_110 ?_
        refine p9_4 hx hb hts hown hK hR hS o_59_b.2 q1131 dX1_award_111 (fun H locs w_111_b ew_111_b hR hS => ?_)
        have h := h w_111_b ew_111_b
        refine lv_aload_n hx hb dX1_award_114 rfl (lv_at hl 2 rfl) ?_
        refine lv_aload_n hx hb dX1_award_115 rfl (lv_at hl 1 rfl) ?_
        refine ce_qv (fw := fun u => u) (fy := fun _ => y_33_b) (cr_V (n := 1) (As := [.ref (y_33_b.2 11 i_2)]) (rest := []) ⟨hx, hb, hml, hown, hts⟩ hK hR (m_X1_fallDue hW_y_33_b lw_33_e lw_33_d h) q1383 q1385 qs27 q74 q1386 rfl rfl hd_X1_fallDue ⟨Nat.le_of_ble_eq_true rfl, Nat.le_of_ble_eq_true rfl⟩ (rv hK hR lw_33_e (ci := 0) rfl rfl) rfl rfl hl.1 rfl (lv_room (Nat.le_of_ble_eq_true rfl)) dX1_award_116 ⟨(Nat.le_of_ble_eq_true rfl), (Nat.le_of_ble_eq_true rfl)⟩) hR hS (fun w_116_b H locs h hR _ hS => ?_)
        refine lv_aload_n hx hb dX1_award_119 rfl (lv_at hl 0 rfl) ?_
        refine g9_0 hx hb hts hown hK hR o_59_b.2 q1122 dX1_award_120 ?_
        refine W.widen (k := 7) (n := 29) (Nat.le_of_ble_eq_true rfl) (Nat.le_of_ble_eq_true rfl) ?_
        refine vx_ret ?_; exact W.iret (v := nI (((gv w_30_a 14 i_2 0).toNatClampNeg))) hx hb hr (fun t ht hW9 => ⟨⟨nI (((gv w_30_a 14 i_2 0).toNatClampNeg)), (w_116_b, y_33_b), rfl, h, ⟨rpt ht hR, hW_y_33_b, hLe_y_33_b⟩⟩, hS.F ht⟩) hS.2.2 dX1_award_123
      · replace c_43_b : (¬ y_33_b.1 14 i_2 = 1) := bi_n0.mp c_43_b
        have h := h.2 c_43_b
        refine lv_aload_n hx hb dX1_award_46 rfl (lv_at hl 0 rfl) ?_
        refine jr_gets (C := "Publicanry$Stand") (n := "FAILED") (d := "LPublicanry$Stand;") (j := 13) hx hb hown hK hR hS (List.mem_of_getElem? (i := 5) rfl) q1375 hts dX1_award_47 ?_
        refine p11_7 (x := (3 : Int32)) (j := 3) hx hb hts hown hK hR hS lw_33_d (by decide) q1267 dX1_award_50 (fun H locs w_50_b ew_50_b hR hS => ?_)
        have h := h w_50_b ew_50_b
        refine lv_iconst (v := (-1 : Int32)) hx hb dX1_award_53 (by decide) ?_
        refine W.widen (k := 7) (n := 29) (Nat.le_of_ble_eq_true rfl) (Nat.le_of_ble_eq_true rfl) ?_
        refine vx_ret ?_; exact W.iret (v := (-1 : Int32)) hx hb hr (fun t ht hW9 => ⟨⟨(-1 : Int32), (w_50_b, y_33_b), rfl, h, ⟨rpt ht hR, hW_y_33_b, hLe_y_33_b⟩⟩, hS.F ht⟩) hS.2.2 dX1_award_54
    · have h := h.2 i_30_a rfl
      have lv_30_a : live y 9 i_30_a := p9
      have hR : Rp κ w_30_a y X [(a_30_a, .inr (18, [.ref (y.2 9 i_30_a)]))] H := hR
      have lv_33_g := lv_2
      have lv_33_h := l0
      have lv_33_i := lv_30_a
      refine p11_8s (j := i_30_a) hx hb hts hown hK hR hS lv_2 rfl (by have := hW.ci4 lv_30_a; omega) q1269 dX1_award_33 (fun H locs w_33_a y_33_c ew_33_a ey_33_c hR hS => ?_)
      have h := h w_33_a ew_33_a y_33_c _ ey_33_c
      have hL1_y_33_c : LeS y y_33_c := by rw [ey_33_c]; exact leS_hoS
      have hW_y_33_c : WFc κ y_33_c := by rw [ey_33_c]; exact WFc.hoS hW
      have lw_33_f := hL1_y_33_c.live (k := 11) rfl lv_33_g
      have lw_33_g := hL1_y_33_c.live (k := 0) rfl lv_33_h
      have hl : lv_has ls 4 [(2, .ref (y_33_c.2 11 i_2)), (0, .ref (y_33_c.2 0 0)), (1, .int (p1))] := by
        rw [hL1_y_33_c.2 0 rfl, hL1_y_33_c.2 11 rfl]
        exact hl
      have hLe_y_33_c : LeS _ y_33_c := (hLe.trans hL1_y_33_c)
      refine lv_aload_n hx hb dX1_award_36 rfl (lv_at hl 0 rfl) ?_
      refine g11_8 hx hb hts hown hK hR lw_33_f q1269 dX1_award_37 ?_
      refine jr_oisEmpty ⟨hx, hb, hml, hown, hts⟩ hK (ho_at hK hR i_2) q1371 ⟨Nat.le_of_ble_eq_true rfl, Nat.le_of_ble_eq_true rfl⟩ hl.1 (Nat.le_of_ble_eq_true rfl) dX1_award_40 ⟨(Nat.le_of_ble_eq_true rfl), (Nat.le_of_ble_eq_true rfl)⟩ ?_
      rw [op_emp]
      refine lv_if_eq (tgt := 55) hx hb dX1_award_43 (by decide) (fun c_43_c => ?_) (fun c_43_c => ?_)
      · replace c_43_c : ¬ (¬ y_33_c.1 14 i_2 = 1) := bi_0.mp c_43_c
        have h := h.1 c_43_c
        refine lv_aload_n hx hb dX1_award_55 rfl (lv_at hl 0 rfl) ?_
        refine g11_8 hx hb hts hown hK hR lw_33_f q1269 dX1_award_56 ?_
        have o_59_c := h.1
        have h := h.2
        refine jr_oget (z := y_33_c.2 9 ((gv w_33_a 14 i_2 0).toNatClampNeg)) ⟨hx, hb, hml, hown, hts⟩ hK (ho_at hK hR i_2) (if_pos o_59_c.1) q519 ⟨Nat.le_of_ble_eq_true rfl, Nat.le_of_ble_eq_true rfl⟩ hl.1 (Nat.le_of_ble_eq_true rfl) dX1_award_59 ⟨(Nat.le_of_ble_eq_true rfl), (Nat.le_of_ble_eq_true rfl)⟩ ?_
        refine jr_castS (ci := 7) hx hb hown hK hts (hR.role o_59_c.2) rfl q371 dX1_award_62 ?_
        refine lv_astore_n (lv' := [(3, .ref (y_33_c.2 9 ((gv w_33_a 14 i_2 0).toNatClampNeg))), (2, .ref (y_33_c.2 11 i_2)), (0, .ref (y_33_c.2 0 0)), (1, .int (p1))]) hx hb dX1_award_65 rfl hl (by decide) rfl (fun ls hl => ?_)
        refine lv_aload_n hx hb dX1_award_66 rfl (lv_at hl 1 rfl) ?_
        refine lv_aload_n hx hb dX1_award_67 rfl (lv_at hl 2 rfl) ?_
        refine lv_aload_n hx hb dX1_award_68 rfl (lv_at hl 1 rfl) ?_
        refine lv_aload_n hx hb dX1_award_69 rfl (lv_at hl 0 rfl) ?_
        refine ce_qi (fw := fun u => u) (fy := fun _ => y_33_c) (cr_V (n := 2) (As := [.ref (y_33_c.2 11 i_2), .ref (y_33_c.2 9 ((gv w_33_a 14 i_2 0).toNatClampNeg))]) (rest := [.ref (y_33_c.2 11 i_2)]) ⟨hx, hb, hml, hown, hts⟩ hK hR (m_X1_price hW_y_33_c lw_33_g lw_33_f o_59_c.2 h) q1377 q1379 qs26 q74 q1380 rfl rfl hd_X1_price ⟨Nat.le_of_ble_eq_true rfl, Nat.le_of_ble_eq_true rfl⟩ (rv hK hR lw_33_g (ci := 0) rfl rfl) rfl rfl hl.1 rfl (lv_room (Nat.le_of_ble_eq_true rfl)) dX1_award_70 ⟨(Nat.le_of_ble_eq_true rfl), (Nat.le_of_ble_eq_true rfl)⟩) hR hS (fun r_70_c w_70_c H locs h hR _ hS => ?_)
        refine p11_9 hx hb hts hown hK hR hS lw_33_f q1271 dX1_award_73 (fun H locs w_73_c ew_73_c hR hS => ?_)
        have h := h w_73_c ew_73_c
        refine lv_aload_n hx hb dX1_award_76 rfl (lv_at hl 1 rfl) ?_
        refine jr_gets (C := "Publicanry$Stand") (n := "LEASED") (d := "LPublicanry$Stand;") (j := 11) hx hb hown hK hR hS (List.mem_of_getElem? (i := 3) rfl) q1382 hts dX1_award_77 ?_
        refine p11_7 (x := (1 : Int32)) (j := 1) hx hb hts hown hK hR hS lw_33_f (by decide) q1267 dX1_award_80 (fun H locs w_80_c ew_80_c hR hS => ?_)
        have h := h w_80_c ew_80_c
        refine lv_aload_n hx hb dX1_award_83 rfl (lv_at hl 1 rfl) ?_
        refine lv_aload_n hx hb dX1_award_84 rfl (lv_at hl 1 rfl) ?_
        refine g11_3 hx hb hts hown hK hR lw_33_f q1259 dX1_award_85 ?_
        refine p11_10 hx hb hts hown hK hR hS lw_33_f q1273 dX1_award_88 (fun H locs w_88_c ew_88_c hR hS => ?_)
        have h := h w_88_c ew_88_c
        refine lv_aload_n hx hb dX1_award_91 rfl (lv_at hl 1 rfl) ?_
        refine lv_aload_n hx hb dX1_award_92 rfl (lv_at hl 2 rfl) ?_
        refine ce_qi (fw := fun u => u) (fy := fun _ => y_33_c) (cr_V (n := 0) (As := []) (rest := [.ref (y_33_c.2 11 i_2)]) ⟨hx, hb, hml, hown, hts⟩ hK hR (m_X1_year hW_y_33_c lw_33_g h) q532 q534 qs4 q74 q535 rfl rfl hd_X1_year ⟨Nat.le_of_ble_eq_true rfl, Nat.le_of_ble_eq_true rfl⟩ (rv hK hR lw_33_g (ci := 0) rfl rfl) rfl rfl hl.1 rfl (lv_room (Nat.le_of_ble_eq_true rfl)) dX1_award_93 ⟨(Nat.le_of_ble_eq_true rfl), (Nat.le_of_ble_eq_true rfl)⟩) hR hS (fun r_93_c w_93_c H locs h hR _ hS => ?_)
        refine p11_12 hx hb hts hown hK hR hS lw_33_f q1275 dX1_award_96 (fun H locs w_96_c ew_96_c hR hS => ?_)
        have h := h w_96_c ew_96_c
        refine lv_aload_n hx hb dX1_award_99 rfl (lv_at hl 0 rfl) ?_
        refine lv_dup hx hb dX1_award_100 rfl ?_
        refine g9_4 hx hb hts hown hK hR o_59_c.2 q1131 dX1_award_101 ?_
        refine lv_aload_n hx hb dX1_award_104 rfl (lv_at hl 1 rfl) ?_
        refine g11_9 hx hb hts hown hK hR lw_33_f q1271 dX1_award_105 ?_
        refine lv_iconst (v := (4 : Int32)) hx hb dX1_award_108 (by decide) ?_
        refine lv_idiv hx hb dX1_award_109 (by decide) ?_
        refine lv_iadd hx hb dX1_award_110 ?_
        refine p9_4 hx hb hts hown hK hR hS o_59_c.2 q1131 dX1_award_111 (fun H locs w_111_c ew_111_c hR hS => ?_)
        have h := h w_111_c ew_111_c
        refine lv_aload_n hx hb dX1_award_114 rfl (lv_at hl 2 rfl) ?_
        refine lv_aload_n hx hb dX1_award_115 rfl (lv_at hl 1 rfl) ?_
        refine ce_qv (fw := fun u => u) (fy := fun _ => y_33_c) (cr_V (n := 1) (As := [.ref (y_33_c.2 11 i_2)]) (rest := []) ⟨hx, hb, hml, hown, hts⟩ hK hR (m_X1_fallDue hW_y_33_c lw_33_g lw_33_f h) q1383 q1385 qs27 q74 q1386 rfl rfl hd_X1_fallDue ⟨Nat.le_of_ble_eq_true rfl, Nat.le_of_ble_eq_true rfl⟩ (rv hK hR lw_33_g (ci := 0) rfl rfl) rfl rfl hl.1 rfl (lv_room (Nat.le_of_ble_eq_true rfl)) dX1_award_116 ⟨(Nat.le_of_ble_eq_true rfl), (Nat.le_of_ble_eq_true rfl)⟩) hR hS (fun w_116_c H locs h hR _ hS => ?_)
        refine lv_aload_n hx hb dX1_award_119 rfl (lv_at hl 0 rfl) ?_
        refine g9_0 hx hb hts hown hK hR o_59_c.2 q1122 dX1_award_120 ?_
        refine W.widen (k := 7) (n := 29) (Nat.le_of_ble_eq_true rfl) (Nat.le_of_ble_eq_true rfl) ?_
        refine vx_ret ?_; exact W.iret (v := nI (((gv w_33_a 14 i_2 0).toNatClampNeg))) hx hb hr (fun t ht hW9 => ⟨⟨nI (((gv w_33_a 14 i_2 0).toNatClampNeg)), (w_116_c, y_33_c), rfl, h, ⟨rpt ht hR, hW_y_33_c, hLe_y_33_c⟩⟩, hS.F ht⟩) hS.2.2 dX1_award_123
      · replace c_43_c : (¬ y_33_c.1 14 i_2 = 1) := bi_n0.mp c_43_c
        have h := h.2 c_43_c
        refine lv_aload_n hx hb dX1_award_46 rfl (lv_at hl 0 rfl) ?_
        refine jr_gets (C := "Publicanry$Stand") (n := "FAILED") (d := "LPublicanry$Stand;") (j := 13) hx hb hown hK hR hS (List.mem_of_getElem? (i := 5) rfl) q1375 hts dX1_award_47 ?_
        refine p11_7 (x := (3 : Int32)) (j := 3) hx hb hts hown hK hR hS lw_33_f (by decide) q1267 dX1_award_50 (fun H locs w_50_c ew_50_c hR hS => ?_)
        have h := h w_50_c ew_50_c
        refine lv_iconst (v := (-1 : Int32)) hx hb dX1_award_53 (by decide) ?_
        refine W.widen (k := 7) (n := 29) (Nat.le_of_ble_eq_true rfl) (Nat.le_of_ble_eq_true rfl) ?_
        refine vx_ret ?_; exact W.iret (v := (-1 : Int32)) hx hb hr (fun t ht hW9 => ⟨⟨(-1 : Int32), (w_50_c, y_33_c), rfl, h, ⟨rpt ht hR, hW_y_33_c, hLe_y_33_c⟩⟩, hS.F ht⟩) hS.2.2 dX1_award_54
abbrev rm_X1_autumn : Room := { frames := 5, cells := 19, slots := 67, locals := 140 }
def st_X1_autumn_16 (κ : Kx) (post : Wd → Ly → Prop) (ex : Wd → Ly → Prop) (rec : Wd → Ly → Nat → Int32 → Prop) (i1 : Nat) (w : Wd) (y : Ly) (c2 : Nat) (z2 : Int32) : Prop := ((¬ (¬ c2 = nV y)) → (ex w y )) ∧ (((¬ c2 = nV y)) → (sp_X1_has κ y (fun r_43 w_43 => ((r_43 = 0) → (rec w_43 y (c2 + 1) (nI c2))) ∧ ((¬ (r_43 = 0)) → (((¬ gv w_43 6 c2 16 = 0) → (rec w_43 y (c2 + 1) (nI c2))) ∧ ((gv w_43 6 c2 16 = 0) → (sp_X1_collect κ y (fun  w_59 y_59 => rec w_59 y_59 (c2 + 1) (nI c2)) w_43 i1 c2))))) w (gv w 11 i1 2) (nI c2)))
def sp_X1_autumn_16 (κ : Kx) (post : Wd → Ly → Prop) (ex : Wd → Ly → Prop) (i1 : Nat) : Nat → Wd → Ly → Nat → Int32 → Prop
  | 0 => fun _ _ _ _ => False
  | n + 1 => fun w y c2 z2 => st_X1_autumn_16 κ post ex (sp_X1_autumn_16 κ post ex i1 n) i1 w y c2 z2
set_option maxHeartbeats 4000000 in
theorem lp_X1_autumn_16 {p : Program} {l : Launch} {e : Env} {s : State} {m : MethodId} {args : Array Value} {below : List Frame} {meth : Method} {c : Code} {κ : Kx} {y0 : Ly} {X : XR} {post : Wd → Ly → Prop} {q2 : Nat} {i1 : Nat} (hx : p.tables.exec = Jvm.exec) (hb : c.code = cX1_autumn) (hr : meth.sig.returnType = (Option.none : Option Jvm.ClassFile.FieldType)) (hml : c.maxLocals = 4) (hown : s.vm.findClass RX1 = some m.cls) (hts : ∀ w ∈ lw_all, w.before args s = true) (hlocks : meth.locks = false) (hK : KK κ s)   {C1 S1 : Nat} (hC : C1 ≤ 19) (hSl : S1 ≤ 67) {ex : Wd → Ly → Prop}
    (kx : ∀ (w : Wd) (y : Ly)  (H : Heap) (locs : List Loc) (ls : Array Slot) (cells slots : Nat) (hW : WFc κ y) (hLe : LeS y0 y) , ex w y  → Rp κ w y X [] H → va_S (Af κ) s.heap H locs → lv_has ls 4 [(1, .ref (y.2 11 i1))] → cells ≤ C1 → slots ≤ S1 → W p l e (headSpec (ws_ yX1_autumn cX1_autumn 4 (Option.none : Option Jvm.ClassFile.FieldType)) rm_X1_autumn).room s m args below meth c H locs cells slots (MQ below (va_Qv (fun (u : Wd × Ly) => post u.1 u.2) (fun (u : Wd × Ly) t => Rp κ u.1 u.2 X [] t.heap ∧ WFc κ u.2 ∧ LeS y0 u.2) (Af κ)) args s 19 67 (Af κ)) (F0 m 65 ls [])) :
    ∀ (f : Nat) (w : Wd) (y : Ly) (c2 : Nat) (z2 : Int32) (H : Heap) (locs : List Loc) (ls : Array Slot) (cells slots : Nat) (hW : WFc κ y) (hLe : LeS y0 y) (l0 : live y 0 0) (l1 : live y 11 i1) (hc2 : c2 ≤ nV y), sp_X1_autumn_16 κ post ex i1 f w y c2 z2 → Rp κ w y X [(q2, itC y 40 0 c2 z2)] H → va_S (Af κ) s.heap H locs → lv_has ls 4 [(0, .ref (y.2 0 0)), (1, .ref (y.2 11 i1)), (2, .ref (q2))] → cells + f * 2 ≤ C1 → slots + f * 7 ≤ S1 → W p l e (headSpec (ws_ yX1_autumn cX1_autumn 4 (Option.none : Option Jvm.ClassFile.FieldType)) rm_X1_autumn).room s m args below meth c H locs cells slots (MQ below (va_Qv (fun (u : Wd × Ly) => post u.1 u.2) (fun (u : Wd × Ly) t => Rp κ u.1 u.2 X [] t.heap ∧ WFc κ u.2 ∧ LeS y0 u.2) (Af κ)) args s 19 67 (Af κ)) (F0 m 16 ls []) := by
  intro f
  induction f with
  | zero =>
    intro w y c2 z2 H locs ls cells slots hW hLe l0 l1 hc2 h
    exact False.elim h
  | succ f ih =>
    intro w y c2 z2 H locs ls cells slots hW hLe l0 l1 hc2 h hR hS hl hc hs
    have h : st_X1_autumn_16 κ post ex (sp_X1_autumn_16 κ post ex i1 f) i1 w y c2 z2 := h
    unfold st_X1_autumn_16 at h
    refine lv_aload_n hx hb dX1_autumn_16 rfl (lv_at hl 2 rfl) ?_
    refine jr_hasNext (t := 0) ⟨hx, hb, hml, hown, hts⟩ hK hR rfl ⟨fun _ _ _ _ _ => rfl, fun _ _ _ _ _ => rfl⟩ hW.lsV (by omega) (Nat.le_trans hW.nV8 (by decide)) q349 ⟨Nat.le_of_ble_eq_true rfl, Nat.le_of_ble_eq_true rfl⟩ hl.1 (Nat.le_of_ble_eq_true rfl) dX1_autumn_17 ⟨(Nat.le_trans (show cells + 0 ≤ C1 from by omega) hC), (Nat.le_trans (show slots + 0 ≤ S1 from by omega) hSl)⟩ ?_
    refine lv_if_eq (tgt := 65) hx hb dX1_autumn_22 (by decide) (fun c_22 => ?_) (fun c_22 => ?_)
    · replace c_22 : ¬ (¬ c2 = nV y) := bi_0.mp c_22
      have h := h.1 c_22
      have hR := hR.sub (L' := []) [] rfl rfl
      exact kx w y  _ _ _ _ _ hW hLe h hR hS (lv_sub hl [1] rfl) (by omega) (by omega)
    · replace c_22 : (¬ c2 = nV y) := bi_n0.mp c_22
      have h := h.2 c_22
      refine lv_aload_n hx hb dX1_autumn_25 rfl (lv_at hl 2 rfl) ?_
      have hn_26 : c2 < nV y := by omega
      refine jr_next (t := 0) (a := y.2 6 c2) ⟨hx, hb, hml, hown, hts⟩ hK hR hS rfl ⟨fun _ _ _ _ _ => rfl, fun _ _ _ _ _ => rfl⟩ hW.lsV ⟨hW.arV (Nat.lt_of_le_of_lt (Nat.zero_le _) hn_26), (Nat.le_trans hW.nV8 (by decide))⟩ hn_26 (hW.elV hn_26) q359 ⟨Nat.le_of_ble_eq_true rfl, Nat.le_of_ble_eq_true rfl⟩ hl.1 (Nat.le_of_ble_eq_true rfl) dX1_autumn_26 ⟨(Nat.le_trans (show cells + 0 ≤ C1 from by omega) hC), (Nat.le_trans (show slots + 0 ≤ S1 from by omega) hSl)⟩ (fun H locs hR hS => ?_)
      have hR : Rp κ w y X [(q2, itC y 40 0 (c2 + 1) (nI c2))] H := hR
      refine jr_castS (ci := 6) hx hb hown hK hts (hR.role (hW.vil hn_26)) rfl q496 dX1_autumn_31 ?_
      refine lv_astore_n (lv' := [(3, .ref (y.2 6 c2)), (0, .ref (y.2 0 0)), (1, .ref (y.2 11 i1)), (2, .ref (q2))]) hx hb dX1_autumn_34 rfl hl (by decide) rfl (fun ls hl => ?_)
      refine lv_aload_n hx hb dX1_autumn_35 rfl (lv_at hl 2 rfl) ?_
      refine g11_2 hx hb hts hown hK hR l1 q1257 dX1_autumn_36 ?_
      refine lv_aload_n hx hb dX1_autumn_39 rfl (lv_at hl 0 rfl) ?_
      refine g6_0 hx hb hts hown hK hR (hW.vil hn_26) q920 dX1_autumn_40 ?_
      refine ce_qi (fw := fun u => u) (fy := fun _ => y) (cr_S (n := 2) (As := [.int (gv w 11 i1 2), .int (nI c2)]) (rest := []) ⟨hx, hb, hml, hown, hts⟩ hK hR (m_X1_has hW h) q614 q615 q74 q616 rfl rfl hds_X1_has ⟨Nat.le_of_ble_eq_true rfl, Nat.le_of_ble_eq_true rfl⟩ rfl rfl hl.1 rfl (lv_room (Nat.le_of_ble_eq_true rfl)) dX1_autumn_43 ⟨(Nat.le_trans (show cells + 0 ≤ C1 from by omega) hC), (Nat.le_trans (show slots + 0 ≤ S1 from by omega) hSl)⟩) hR hS (fun r_43 w_43 H locs h hR _ hS => ?_)
      refine lv_if_eq (tgt := 62) hx hb dX1_autumn_46 (by decide) (fun c_46 => ?_) (fun c_46 => ?_)
      · have h := h.1 c_46
        refine lv_goto (tgt := 16) hx hb dX1_autumn_62 (by decide) ?_
        exact ih w_43 y (c2 + 1) (nI c2) _ _ _ _ _ hW hLe l0 l1 (by omega) h hR hS (lv_sub hl [1, 2, 3] rfl) (by omega) (by omega)
      · have h := h.2 c_46
        refine lv_aload_n hx hb dX1_autumn_49 rfl (lv_at hl 0 rfl) ?_
        refine g6_16 hx hb hts hown hK hR (hW.vil hn_26) q955 dX1_autumn_50 ?_
        refine lv_if_ne (tgt := 62) hx hb dX1_autumn_53 (by decide) (fun c_53 => ?_) (fun c_53 => ?_)
        · have h := h.1 c_53
          refine lv_goto (tgt := 16) hx hb dX1_autumn_62 (by decide) ?_
          exact ih w_43 y (c2 + 1) (nI c2) _ _ _ _ _ hW hLe l0 l1 (by omega) h hR hS (lv_sub hl [1, 2, 3] rfl) (by omega) (by omega)
        · have h := h.2 c_53
          refine lv_aload_n hx hb dX1_autumn_56 rfl (lv_at hl 1 rfl) ?_
          refine lv_aload_n hx hb dX1_autumn_57 rfl (lv_at hl 2 rfl) ?_
          refine lv_aload_n hx hb dX1_autumn_58 rfl (lv_at hl 0 rfl) ?_
          have lv_59 := (hW.vil hn_26)
          have lv_59_a := l0
          have lv_59_b := l1
          have lv_59_c := hW.lsV
          refine cey_qv (fw := fun u : Wd × Ly => u.1) (fy := fun u : Wd × Ly => u.2) (P := fun u : Wd × Ly => WFc κ u.2 ∧ LeS y u.2) (cr_V (n := 2) (As := [.ref (y.2 11 i1), .ref (y.2 6 c2)]) (rest := []) ⟨hx, hb, hml, hown, hts⟩ hK hR (m_X1_collect hW l0 l1 (hW.vil hn_26) h) q1534 q1536 qs33 q74 q1537 rfl rfl hd_X1_collect ⟨Nat.le_of_ble_eq_true rfl, Nat.le_of_ble_eq_true rfl⟩ (rv hK hR l0 (ci := 0) rfl rfl) rfl rfl hl.1 rfl (lv_room (Nat.le_of_ble_eq_true rfl)) dX1_autumn_59 ⟨(Nat.le_trans (show cells + 2 ≤ C1 from by omega) hC), (Nat.le_trans (show slots + 7 ≤ S1 from by omega) hSl)⟩) hR hS (fun  u9 H locs h p9 hR _ hS => ?_)
          obtain ⟨w_59, y_59⟩ := u9
          obtain ⟨hW_y_59, hL1_y_59⟩ := p9
          dsimp only at h hR hW_y_59 hL1_y_59
          have lw_59 := hL1_y_59.live (k := 6) rfl lv_59
          have lw_59_a := hL1_y_59.live (k := 0) rfl lv_59_a
          have lw_59_b := hL1_y_59.live (k := 11) rfl lv_59_b
          have lw_59_c := hL1_y_59.live (k := 40) rfl lv_59_c
          have hR : Rp κ w_59 y_59 X [(q2, itC y_59 40 0 (c2 + 1) (nI c2))] H := by
            rw [hL1_y_59.it (k := 40) rfl rfl]
            exact hR
          have hz_z_59 : nV y_59 = nV y := congrFun (hL1_y_59.1 140 rfl) 0
          have hl : lv_has ls 4 [(3, .ref (y_59.2 6 c2)), (0, .ref (y_59.2 0 0)), (1, .ref (y_59.2 11 i1)), (2, .ref (q2))] := by
            rw [hL1_y_59.2 0 rfl, hL1_y_59.2 6 rfl, hL1_y_59.2 11 rfl]
            exact hl
          have hLe_y_59 : LeS _ y_59 := (hLe.trans hL1_y_59)
          refine lv_goto (tgt := 16) hx hb dX1_autumn_62 (by decide) ?_
          exact ih w_59 y_59 (c2 + 1) (nI c2) _ _ _ _ _ hW_y_59 hLe_y_59 lw_59_a lw_59_b (by omega) h hR hS (lv_sub hl [1, 2, 3] rfl) (by omega) (by omega)
def sp_X1_autumn (κ : Kx) (y : Ly) (post : Wd → Ly → Prop) (w : Wd) (a1 : Nat) : Prop := sp_X15_isLeased κ y (fun r_1 w_1 => ((¬ r_1 = 0) → (sp_X1_autumn_16 κ post (fun w_16 y_16  => ∀ w_72 : Wd, w_72 = sv w_16 11 a1 10 ((gv w_16 11 a1 10) - (1 : Int32)) → ((¬ gv w_72 11 a1 10 = 0) → (post w_72 y_16)) ∧ ((gv w_72 11 a1 10 = 0) → (sp_X15_end κ y_16 (fun w_83 => post w_83 y_16) w_72 a1))) a1 9 w_1 y 0 (-1))) ∧ ((r_1 = 0) → (post w_1 y))) w a1
theorem hd_X1_autumn : yX1_autumn.cls = RX1 ∧ yX1_autumn.cls ≠ "java/lang/invoke/MethodHandle" ∧ yX1_autumn.cls ≠ "java/lang/invoke/VarHandle" ∧ (parseMethodDescriptor yX1_autumn.desc).map (fun d => d.parameters.length) = some 1 := by decide +kernel
set_option maxHeartbeats 4000000 in
theorem m_X1_autumn {l : Launch} {κ : Kx} {y : Ly} {X : XR} {post : Wd → Ly → Prop} {w : Wd} {a1 : Nat}  (hW : WFc κ y) (l0 : live y 0 0) (l1 : live y 11 a1) (h : sp_X1_autumn κ y post w a1) : Met l yX1_autumn (ws_ yX1_autumn cX1_autumn 4 (Option.none : Option Jvm.ClassFile.FieldType)) rm_X1_autumn (va_Pc [.ref (y.2 0 0), .ref (y.2 11 a1)] (RC κ w y X)) (va_Qv (fun (u : Wd × Ly) => post u.1 u.2) (fun (u : Wd × Ly) t => Rp κ u.1 u.2 X [] t.heap ∧ WFc κ u.2 ∧ LeS y u.2) (Af κ)) 19 67 (Af κ) := by
  unfold sp_X1_autumn at h
  refine Met.ofW (cc := cX1_autumn) (maxL := 4) (ret := (Option.none : Option Jvm.ClassFile.FieldType)) (by decide) rfl ?_
  intro p e s m args below meth c s₁ B hml hv
  obtain ⟨rfl, hR, hK⟩ := hv
  have hx := B.exec
  have hb := B.bytes
  have hr := B.returns
  have hts := atoms_spec (ws := ws_ yX1_autumn cX1_autumn 4 (Option.none : Option Jvm.ClassFile.FieldType)) B.pre
  have hts : ∀ w ∈ lw_all, w.before _ s = true := fun w h => hts w (List.mem_cons_of_mem _ h)
  have hown : s.vm.findClass RX1 = some m.cls := findClass_of_methodNamed B.named
  have hlocks := B.notSynchronized
  have hLe : LeS y y := LeS.rf
  have hS : va_S (Af κ) s.heap s.heap [] := va_S.rf
  have hl := lv_entry ([.ref (y.2 0 0), .ref (y.2 11 a1)]) (n := 4) (Nat.le_of_ble_eq_true rfl)
  rw [lg_entry_eq]
  generalize (lg_sl ([.ref (y.2 0 0), .ref (y.2 11 a1)]) ++ List.replicate (4 - (lg_sl ([.ref (y.2 0 0), .ref (y.2 11 a1)])).length) Slot.unset).toArray = ls at hl ⊢
  have hl : lv_has ls 4 [(0, .ref (y.2 0 0)), (1, .ref (y.2 11 a1))] := hl
  refine lv_aload_n hx hb dX1_autumn_0 rfl (lv_at hl 1 rfl) ?_
  refine ce_qi (fw := fun u => u) (fy := fun _ => y) (cr_V (n := 0) (As := []) (rest := []) ⟨hx, hb, hml, hown, hts⟩ hK hR (m_X15_isLeased hW l1 h) q515 q516 q517 q112 q518 rfl rfl hd_X15_isLeased ⟨Nat.le_of_ble_eq_true rfl, Nat.le_of_ble_eq_true rfl⟩ (rv hK hR l1 (ci := 9) rfl rfl) rfl rfl hl.1 rfl (lv_room (Nat.le_of_ble_eq_true rfl)) dX1_autumn_1 ⟨(Nat.le_of_ble_eq_true rfl), (Nat.le_of_ble_eq_true rfl)⟩) hR hS (fun r_1 w_1 H locs h hR _ hS => ?_)
  refine lv_if_ne (tgt := 8) hx hb dX1_autumn_4 (by decide) (fun c_4 => ?_) (fun c_4 => ?_)
  · have h := h.1 c_4
    refine lv_aload_n hx hb dX1_autumn_8 rfl (lv_at hl 0 rfl) ?_
    refine g0_0 hx hb hts hown hK hR l0 q247 dX1_autumn_9 ?_
    refine jr_iter ⟨hx, hb, hml, hown, hts⟩ hK hR hS ⟨fun _ _ _ _ _ => rfl, fun _ _ _ _ _ => rfl⟩ hW.lsV q325 ⟨Nat.le_of_ble_eq_true rfl, Nat.le_of_ble_eq_true rfl⟩ hl.1 (Nat.le_of_ble_eq_true rfl) dX1_autumn_12 ⟨(Nat.le_of_ble_eq_true rfl), (Nat.le_of_ble_eq_true rfl)⟩ (fun q_12 H locs hR hS => ?_)
    have hR : Rp κ w_1 y X [(q_12, itC y 40 0 0 (-1))] H := hR
    refine lv_astore_n (lv' := [(2, .ref (q_12)), (0, .ref (y.2 0 0)), (1, .ref (y.2 11 a1))]) hx hb dX1_autumn_15 rfl hl (by decide) rfl (fun ls hl => ?_)
    have lv_16 := l0
    have lv_16_a := l1
    have lv_16_b := hW.lsV
    have lv_16_c := l0
    refine lp_X1_autumn_16 (C1 := 19) (S1 := 67) hx hb hr hml hown hts hlocks hK  (Nat.le_of_ble_eq_true rfl) (Nat.le_of_ble_eq_true rfl) (fun w_16 y_16  H locs ls cells9 slots9 hW_y_16 hLe_y_16 h hR hS hl hc9 hs9 => ?_) 9 w_1 y 0 (-1) _ _ _ _ _ hW hLe l0 l1 (by omega) h hR hS (lv_sub hl [1, 2, 0] rfl) (by omega) (by omega)
    have hL1_y_16 := hLe.symm.trans hLe_y_16
    refine W.widen (k := 19) (n := 67) hc9 hs9 ?_
    have lw_16 := hL1_y_16.live (k := 11) rfl lv_16_a
    refine lv_aload_n hx hb dX1_autumn_65 rfl (lv_at hl 0 rfl) ?_
    refine lv_dup hx hb dX1_autumn_66 rfl ?_
    refine g11_10 hx hb hts hown hK hR lw_16 q1273 dX1_autumn_67 ?_
    refine lv_iconst (v := (1 : Int32)) hx hb dX1_autumn_70 (by decide) ?_
    refine lv_isub hx hb dX1_autumn_71 ?_
    refine p11_10 hx hb hts hown hK hR hS lw_16 q1273 dX1_autumn_72 (fun H locs w_72 ew_72 hR hS => ?_)
    have h := h w_72 ew_72
    refine lv_aload_n hx hb dX1_autumn_75 rfl (lv_at hl 0 rfl) ?_
    refine g11_10 hx hb hts hown hK hR lw_16 q1273 dX1_autumn_76 ?_
    refine lv_if_ne (tgt := 86) hx hb dX1_autumn_79 (by decide) (fun c_79 => ?_) (fun c_79 => ?_)
    · have h := h.1 c_79
      refine W.widen (k := 19) (n := 67) (Nat.le_of_ble_eq_true rfl) (Nat.le_of_ble_eq_true rfl) ?_
      exact W.vret hx hb hr (fun t ht hW9 => ⟨⟨(w_72, y_16), rfl, h, ⟨rpt ht hR, hW_y_16, hLe_y_16⟩⟩, hS.F ht⟩) hS.2.2 dX1_autumn_86
    · have h := h.2 c_79
      refine lv_aload_n hx hb dX1_autumn_82 rfl (lv_at hl 0 rfl) ?_
      refine ce_qv (fw := fun u => u) (fy := fun _ => y_16) (cr_V (n := 0) (As := []) (rest := []) ⟨hx, hb, hml, hown, hts⟩ hK hR (m_X15_end hW_y_16 lw_16 h) q1391 q1392 q1393 q112 q1394 rfl rfl hd_X15_end ⟨Nat.le_of_ble_eq_true rfl, Nat.le_of_ble_eq_true rfl⟩ (rv hK hR lw_16 (ci := 9) rfl rfl) rfl rfl hl.1 rfl (lv_room (Nat.le_of_ble_eq_true rfl)) dX1_autumn_83 ⟨(Nat.le_of_ble_eq_true rfl), (Nat.le_of_ble_eq_true rfl)⟩) hR hS (fun w_83 H locs h hR _ hS => ?_)
      refine W.widen (k := 19) (n := 67) (Nat.le_of_ble_eq_true rfl) (Nat.le_of_ble_eq_true rfl) ?_
      exact W.vret hx hb hr (fun t ht hW9 => ⟨⟨(w_83, y_16), rfl, h, ⟨rpt ht hR, hW_y_16, hLe_y_16⟩⟩, hS.F ht⟩) hS.2.2 dX1_autumn_86
  · have h := h.2 c_4
    refine W.widen (k := 19) (n := 67) (Nat.le_of_ble_eq_true rfl) (Nat.le_of_ble_eq_true rfl) ?_
    exact W.vret hx hb hr (fun t ht hW9 => ⟨⟨(w_1, y), rfl, h, ⟨rpt ht hR, hW, hLe⟩⟩, hS.F ht⟩) hS.2.2 dX1_autumn_7
abbrev rm_X1_due : Room := { frames := 8, cells := 3, slots := 15, locals := 133 }
def sp_X1_due (κ : Kx) (y : Ly) (post : Int32 → Wd → Prop) (px : String → Wd → Prop) (w : Wd) (p1 : Int32) (p2 : Int32) (p3 : Int32) : Prop := sp_X1_villageOf κ y (fun i_2 w_2 => sp_X1_dutyOf κ y (fun i_11 w_11 => sp_X1_due_2 κ y (fun r_15 w_15 => post (r_15) w_15) w_11 i_2 i_11 p3) px w_2 p2) px w p1
theorem hd_X1_due : yX1_due.cls = RX1 ∧ yX1_due.cls ≠ "java/lang/invoke/MethodHandle" ∧ yX1_due.cls ≠ "java/lang/invoke/VarHandle" ∧ (parseMethodDescriptor yX1_due.desc).map (fun d => d.parameters.length) = some 3 := by decide +kernel
set_option maxHeartbeats 4000000 in
theorem m_X1_due {l : Launch} {κ : Kx} {y : Ly} {X : XR} {post : Int32 → Wd → Prop} {px : String → Wd → Prop} {w : Wd} {p1 : Int32} {p2 : Int32} {p3 : Int32}  (hfl : l.stackTraces = false) (hW : WFc κ y) (l0 : live y 0 0) (h : sp_X1_due κ y post px w p1 p2 p3) : vx_Met l yX1_due (ws_ yX1_due cX1_due 5 (Option.some Jvm.ClassFile.FieldType.int)) rm_X1_due (va_Pc [.ref (y.2 0 0), .int (p1), .int (p2), .int (p3)] (RC κ w y X)) (va_Qi post (fun w t => Rp κ w y X [] t.heap) (Af κ)) (XCk κ y X px) 3 15 (Af κ) := by
  unfold sp_X1_due at h
  refine vx_ofW (cc := cX1_due) (maxL := 5) (ret := (Option.some Jvm.ClassFile.FieldType.int)) (by decide) rfl ?_
  intro p e s m args below meth c s₁ B hml ht hv
  obtain ⟨rfl, hR, hK⟩ := hv
  have hx := B.exec
  have hb := B.bytes
  have hr := B.returns
  have hts := atoms_spec (ws := ws_ yX1_due cX1_due 5 (Option.some Jvm.ClassFile.FieldType.int)) B.pre
  have hts : ∀ w ∈ lw_all, w.before _ s = true := fun w h => hts w (List.mem_cons_of_mem _ h)
  have hown : s.vm.findClass RX1 = some m.cls := findClass_of_methodNamed B.named
  have hlocks := B.notSynchronized
  have hR0 := hR
  have hS : va_S (Af κ) s.heap s.heap [] := va_S.rf
  have hl := lv_entry ([.ref (y.2 0 0), .int (p1), .int (p2), .int (p3)]) (n := 5) (Nat.le_of_ble_eq_true rfl)
  rw [lg_entry_eq]
  generalize (lg_sl ([.ref (y.2 0 0), .int (p1), .int (p2), .int (p3)]) ++ List.replicate (5 - (lg_sl ([.ref (y.2 0 0), .int (p1), .int (p2), .int (p3)])).length) Slot.unset).toArray = ls at hl ⊢
  have hl : lv_has ls 5 [(0, .ref (y.2 0 0)), (1, .int (p1)), (2, .int (p2)), (3, .int (p3))] := hl
  refine lv_aload_n hx hb dX1_due_0 rfl (lv_at hl 0 rfl) ?_
  refine lv_iload_n hx hb dX1_due_1 rfl (lv_at hl 1 rfl) ?_
  refine cex_qr (fw := fun u : Nat × Wd => u.2) (fy := fun _ => y) (P := (fun (u : Nat × Wd) ra => ra = y.2 6 u.1 ∧ live y 6 u.1)) (crx_V (n := 1) (As := [.int (p1)]) (rest := []) ⟨hx, hb, hml, hown, hts⟩ hK hR (m_X1_villageOf hfl hW l0 h) q1029 q1031 qs20 q74 q1032 rfl rfl hd_X1_villageOf ⟨Nat.le_of_ble_eq_true rfl, Nat.le_of_ble_eq_true rfl⟩ (rv hK hR l0 (ci := 0) rfl rfl) rfl rfl hl.1 rfl (lv_room (Nat.le_of_ble_eq_true rfl)) dX1_due_2 ⟨(Nat.le_of_ble_eq_true rfl), (Nat.le_of_ble_eq_true rfl)⟩) hR hS ht hlocks (Nat.le_of_ble_eq_true rfl) (Nat.le_of_ble_eq_true rfl) (fun u9 a_2 H locs h p9 hR _ hS => ?_)
  obtain ⟨i_2, w_2⟩ := u9
  obtain ⟨e9, lv_2⟩ := p9
  dsimp only at e9 lv_2
  subst e9
  refine lv_astore (lv' := [(4, .ref (y.2 6 i_2)), (0, .ref (y.2 0 0)), (1, .int (p1)), (2, .int (p2)), (3, .int (p3))]) hx hb dX1_due_5 hl (by decide) rfl (fun ls hl => ?_)
  refine lv_aload_n hx hb dX1_due_7 rfl (lv_at hl 1 rfl) ?_
  refine lv_aload hx hb dX1_due_8 (lv_at hl 0 rfl) ?_
  refine lv_iload_n hx hb dX1_due_10 rfl (lv_at hl 3 rfl) ?_
  refine cex_qr (fw := fun u : Nat × Wd => u.2) (fy := fun _ => y) (P := (fun (u : Nat × Wd) ra => ra = kA κ (20 + u.1) ∧ u.1 < 3)) (crx_S (n := 1) (As := [.int (p2)]) (rest := [.ref (y.2 6 i_2), .ref (y.2 0 0)]) ⟨hx, hb, hml, hown, hts⟩ hK hR (m_X1_dutyOf hfl hW h) q1075 q1076 q74 q1077 rfl rfl hds_X1_dutyOf ⟨Nat.le_of_ble_eq_true rfl, Nat.le_of_ble_eq_true rfl⟩ rfl rfl hl.1 rfl (lv_room (Nat.le_of_ble_eq_true rfl)) dX1_due_11 ⟨(Nat.le_of_ble_eq_true rfl), (Nat.le_of_ble_eq_true rfl)⟩) hR hS ht hlocks (Nat.le_of_ble_eq_true rfl) (Nat.le_of_ble_eq_true rfl) (fun u9 a_11 H locs h p9 hR _ hS => ?_)
  obtain ⟨i_11, w_11⟩ := u9
  obtain ⟨e9, lv_11⟩ := p9
  dsimp only at e9 lv_11
  subst e9
  refine lv_iload_n hx hb dX1_due_14 rfl (lv_at hl 4 rfl) ?_
  refine ce_qi (fw := fun u => u) (fy := fun _ => y) (cr_V (n := 3) (As := [.ref (y.2 6 i_2), .ref (kA κ (20 + i_11)), .int (p3)]) (rest := []) ⟨hx, hb, hml, hown, hts⟩ hK hR (m_X1_due_2 hW l0 lv_2 lv_11 h) q1604 q1606 qs36 q74 q1607 rfl rfl hd_X1_due_2 ⟨Nat.le_of_ble_eq_true rfl, Nat.le_of_ble_eq_true rfl⟩ (rv hK hR l0 (ci := 0) rfl rfl) rfl rfl hl.1 rfl (lv_room (Nat.le_of_ble_eq_true rfl)) dX1_due_15 ⟨(Nat.le_of_ble_eq_true rfl), (Nat.le_of_ble_eq_true rfl)⟩) hR hS (fun r_15 w_15 H locs h hR _ hS => ?_)
  refine W.widen (k := 3) (n := 15) (Nat.le_of_ble_eq_true rfl) (Nat.le_of_ble_eq_true rfl) ?_
  refine vx_ret ?_; exact W.iret (v := r_15) hx hb hr (fun t ht hW9 => ⟨⟨r_15, w_15, rfl, h, rpt ht hR⟩, hS.F ht⟩) hS.2.2 dX1_due_18
abbrev rm_X1_begin : Room := { frames := 6, cells := 215, slots := 778, locals := 163 }
def st_X1_begin_165 (κ : Kx) (post : Wd → Ly → Prop) (ex : Wd → Ly → Prop) (rec : Wd → Ly → Nat → Int32 → Prop)  (w : Wd) (y : Ly) (c1 : Nat) (z1 : Int32) : Prop := ((¬ (¬ c1 = nV y)) → (ex w y )) ∧ (((¬ c1 = nV y)) → (sp_X10_eat κ y (fun w_189 => rec w_189 y (c1 + 1) (nI c1)) w c1))
def sp_X1_begin_165 (κ : Kx) (post : Wd → Ly → Prop) (ex : Wd → Ly → Prop)  : Nat → Wd → Ly → Nat → Int32 → Prop
  | 0 => fun _ _ _ _ => False
  | n + 1 => fun w y c1 z1 => st_X1_begin_165 κ post ex (sp_X1_begin_165 κ post ex  n)  w y c1 z1
set_option maxHeartbeats 4000000 in
theorem lp_X1_begin_165 {p : Program} {l : Launch} {e : Env} {s : State} {m : MethodId} {args : Array Value} {below : List Frame} {meth : Method} {c : Code} {κ : Kx} {y0 : Ly} {X : XR} {post : Wd → Ly → Prop} {q1 : Nat} (hx : p.tables.exec = Jvm.exec) (hb : c.code = cX1_begin) (hr : meth.sig.returnType = (Option.none : Option Jvm.ClassFile.FieldType)) (hml : c.maxLocals = 5) (hown : s.vm.findClass RX1 = some m.cls) (hts : ∀ w ∈ lw_all, w.before args s = true) (hlocks : meth.locks = false) (hK : KK κ s)   {C1 S1 : Nat} (hC : C1 ≤ 215) (hSl : S1 ≤ 778) {ex : Wd → Ly → Prop}
    (kx : ∀ (w : Wd) (y : Ly)  (H : Heap) (locs : List Loc) (ls : Array Slot) (cells slots : Nat) (hW : WFc κ y) (hLe : LeS y0 y) , ex w y  → Rp κ w y X [] H → va_S (Af κ) s.heap H locs → lv_has ls 5 [(0, .ref (y.2 0 0))] → cells ≤ C1 → slots ≤ S1 → W p l e (headSpec (ws_ yX1_begin cX1_begin 5 (Option.none : Option Jvm.ClassFile.FieldType)) rm_X1_begin).room s m args below meth c H locs cells slots (MQ below (va_Qv (fun (u : Wd × Ly) => post u.1 u.2) (fun (u : Wd × Ly) t => Rp κ u.1 u.2 X [] t.heap ∧ WFc κ u.2 ∧ LeS y0 u.2) (Af κ)) args s 215 778 (Af κ)) (F0 m 195 ls [])) :
    ∀ (f : Nat) (w : Wd) (y : Ly) (c1 : Nat) (z1 : Int32) (H : Heap) (locs : List Loc) (ls : Array Slot) (cells slots : Nat) (hW : WFc κ y) (hLe : LeS y0 y) (l0 : live y 0 0) (hc1 : c1 ≤ nV y), sp_X1_begin_165 κ post ex  f w y c1 z1 → Rp κ w y X [(q1, itC y 40 0 c1 z1)] H → va_S (Af κ) s.heap H locs → lv_has ls 5 [(0, .ref (y.2 0 0)), (1, .ref (q1))] → cells + f * 0 ≤ C1 → slots + f * 0 ≤ S1 → W p l e (headSpec (ws_ yX1_begin cX1_begin 5 (Option.none : Option Jvm.ClassFile.FieldType)) rm_X1_begin).room s m args below meth c H locs cells slots (MQ below (va_Qv (fun (u : Wd × Ly) => post u.1 u.2) (fun (u : Wd × Ly) t => Rp κ u.1 u.2 X [] t.heap ∧ WFc κ u.2 ∧ LeS y0 u.2) (Af κ)) args s 215 778 (Af κ)) (F0 m 165 ls []) := by
  intro f
  induction f with
  | zero =>
    intro w y c1 z1 H locs ls cells slots hW hLe l0 hc1 h
    exact False.elim h
  | succ f ih =>
    intro w y c1 z1 H locs ls cells slots hW hLe l0 hc1 h hR hS hl hc hs
    have h : st_X1_begin_165 κ post ex (sp_X1_begin_165 κ post ex  f)  w y c1 z1 := h
    unfold st_X1_begin_165 at h
    refine lv_aload_n hx hb dX1_begin_165 rfl (lv_at hl 1 rfl) ?_
    refine jr_hasNext (t := 0) ⟨hx, hb, hml, hown, hts⟩ hK hR rfl ⟨fun _ _ _ _ _ => rfl, fun _ _ _ _ _ => rfl⟩ hW.lsV (by omega) (Nat.le_trans hW.nV8 (by decide)) q349 ⟨Nat.le_of_ble_eq_true rfl, Nat.le_of_ble_eq_true rfl⟩ hl.1 (Nat.le_of_ble_eq_true rfl) dX1_begin_166 ⟨(Nat.le_trans (show cells + 0 ≤ C1 from by omega) hC), (Nat.le_trans (show slots + 0 ≤ S1 from by omega) hSl)⟩ ?_
    refine lv_if_eq (tgt := 195) hx hb dX1_begin_171 (by decide) (fun c_171 => ?_) (fun c_171 => ?_)
    · replace c_171 : ¬ (¬ c1 = nV y) := bi_0.mp c_171
      have h := h.1 c_171
      have hR := hR.sub (L' := []) [] rfl rfl
      exact kx w y  _ _ _ _ _ hW hLe h hR hS (lv_sub hl [0] rfl) (by omega) (by omega)
    · replace c_171 : (¬ c1 = nV y) := bi_n0.mp c_171
      have h := h.2 c_171
      refine lv_aload_n hx hb dX1_begin_174 rfl (lv_at hl 1 rfl) ?_
      have hn_175 : c1 < nV y := by omega
      refine jr_next (t := 0) (a := y.2 6 c1) ⟨hx, hb, hml, hown, hts⟩ hK hR hS rfl ⟨fun _ _ _ _ _ => rfl, fun _ _ _ _ _ => rfl⟩ hW.lsV ⟨hW.arV (Nat.lt_of_le_of_lt (Nat.zero_le _) hn_175), (Nat.le_trans hW.nV8 (by decide))⟩ hn_175 (hW.elV hn_175) q359 ⟨Nat.le_of_ble_eq_true rfl, Nat.le_of_ble_eq_true rfl⟩ hl.1 (Nat.le_of_ble_eq_true rfl) dX1_begin_175 ⟨(Nat.le_trans (show cells + 0 ≤ C1 from by omega) hC), (Nat.le_trans (show slots + 0 ≤ S1 from by omega) hSl)⟩ (fun H locs hR hS => ?_)
      have hR : Rp κ w y X [(q1, itC y 40 0 (c1 + 1) (nI c1))] H := hR
      refine jr_castS (ci := 6) hx hb hown hK hts (hR.role (hW.vil hn_175)) rfl q496 dX1_begin_180 ?_
      refine lv_astore_n (lv' := [(2, .ref (y.2 6 c1)), (0, .ref (y.2 0 0)), (1, .ref (q1))]) hx hb dX1_begin_183 rfl hl (by decide) rfl (fun ls hl => ?_)
      refine lv_aload_n hx hb dX1_begin_184 rfl (lv_at hl 0 rfl) ?_
      refine lv_aload_n hx hb dX1_begin_185 rfl (lv_at hl 1 rfl) ?_
      refine g0_4 hx hb hts hown hK hR l0 q251 dX1_begin_186 ?_
      refine ce_qv (fw := fun u => u) (fy := fun _ => y) (cr_V (n := 1) (As := [.ref (y.2 1 0)]) (rest := []) ⟨hx, hb, hml, hown, hts⟩ hK hR (m_X10_eat hW (hW.vil hn_175) hW.wor h) q1574 q1575 q1576 q92 q1577 rfl rfl hd_X10_eat ⟨Nat.le_of_ble_eq_true rfl, Nat.le_of_ble_eq_true rfl⟩ (rv hK hR (hW.vil hn_175) (ci := 6) rfl rfl) rfl rfl hl.1 rfl (lv_room (Nat.le_of_ble_eq_true rfl)) dX1_begin_189 ⟨(Nat.le_trans (show cells + 0 ≤ C1 from by omega) hC), (Nat.le_trans (show slots + 0 ≤ S1 from by omega) hSl)⟩) hR hS (fun w_189 H locs h hR _ hS => ?_)
      refine lv_goto (tgt := 165) hx hb dX1_begin_192 (by decide) ?_
      exact ih w_189 y (c1 + 1) (nI c1) _ _ _ _ _ hW hLe l0 (by omega) h hR hS (lv_sub hl [1, 2] rfl) (by omega) (by omega)
def st_X1_begin_212 (κ : Kx) (post : Wd → Ly → Prop) (ex : Wd → Ly → Prop) (rec : Wd → Ly → Nat → Int32 → Prop)  (w : Wd) (y : Ly) (c1 : Nat) (z1 : Int32) : Prop := ((¬ (¬ c1 = nV y)) → (ex w y )) ∧ (((¬ c1 = nV y)) → (sp_X10_sell κ y (fun w_236 => rec w_236 y (c1 + 1) (nI c1)) w c1))
def sp_X1_begin_212 (κ : Kx) (post : Wd → Ly → Prop) (ex : Wd → Ly → Prop)  : Nat → Wd → Ly → Nat → Int32 → Prop
  | 0 => fun _ _ _ _ => False
  | n + 1 => fun w y c1 z1 => st_X1_begin_212 κ post ex (sp_X1_begin_212 κ post ex  n)  w y c1 z1
set_option maxHeartbeats 4000000 in
theorem lp_X1_begin_212 {p : Program} {l : Launch} {e : Env} {s : State} {m : MethodId} {args : Array Value} {below : List Frame} {meth : Method} {c : Code} {κ : Kx} {y0 : Ly} {X : XR} {post : Wd → Ly → Prop} {q1 : Nat} (hx : p.tables.exec = Jvm.exec) (hb : c.code = cX1_begin) (hr : meth.sig.returnType = (Option.none : Option Jvm.ClassFile.FieldType)) (hml : c.maxLocals = 5) (hown : s.vm.findClass RX1 = some m.cls) (hts : ∀ w ∈ lw_all, w.before args s = true) (hlocks : meth.locks = false) (hK : KK κ s)   {C1 S1 : Nat} (hC : C1 ≤ 215) (hSl : S1 ≤ 778) {ex : Wd → Ly → Prop}
    (kx : ∀ (w : Wd) (y : Ly)  (H : Heap) (locs : List Loc) (ls : Array Slot) (cells slots : Nat) (hW : WFc κ y) (hLe : LeS y0 y) , ex w y  → Rp κ w y X [] H → va_S (Af κ) s.heap H locs → lv_has ls 5 [] → cells ≤ C1 → slots ≤ S1 → W p l e (headSpec (ws_ yX1_begin cX1_begin 5 (Option.none : Option Jvm.ClassFile.FieldType)) rm_X1_begin).room s m args below meth c H locs cells slots (MQ below (va_Qv (fun (u : Wd × Ly) => post u.1 u.2) (fun (u : Wd × Ly) t => Rp κ u.1 u.2 X [] t.heap ∧ WFc κ u.2 ∧ LeS y0 u.2) (Af κ)) args s 215 778 (Af κ)) (F0 m 242 ls [])) :
    ∀ (f : Nat) (w : Wd) (y : Ly) (c1 : Nat) (z1 : Int32) (H : Heap) (locs : List Loc) (ls : Array Slot) (cells slots : Nat) (hW : WFc κ y) (hLe : LeS y0 y) (l0 : live y 0 0) (hc1 : c1 ≤ nV y), sp_X1_begin_212 κ post ex  f w y c1 z1 → Rp κ w y X [(q1, itC y 40 0 c1 z1)] H → va_S (Af κ) s.heap H locs → lv_has ls 5 [(0, .ref (y.2 0 0)), (1, .ref (q1))] → cells + f * 0 ≤ C1 → slots + f * 0 ≤ S1 → W p l e (headSpec (ws_ yX1_begin cX1_begin 5 (Option.none : Option Jvm.ClassFile.FieldType)) rm_X1_begin).room s m args below meth c H locs cells slots (MQ below (va_Qv (fun (u : Wd × Ly) => post u.1 u.2) (fun (u : Wd × Ly) t => Rp κ u.1 u.2 X [] t.heap ∧ WFc κ u.2 ∧ LeS y0 u.2) (Af κ)) args s 215 778 (Af κ)) (F0 m 212 ls []) := by
  intro f
  induction f with
  | zero =>
    intro w y c1 z1 H locs ls cells slots hW hLe l0 hc1 h
    exact False.elim h
  | succ f ih =>
    intro w y c1 z1 H locs ls cells slots hW hLe l0 hc1 h hR hS hl hc hs
    have h : st_X1_begin_212 κ post ex (sp_X1_begin_212 κ post ex  f)  w y c1 z1 := h
    unfold st_X1_begin_212 at h
    refine lv_aload_n hx hb dX1_begin_212 rfl (lv_at hl 1 rfl) ?_
    refine jr_hasNext (t := 0) ⟨hx, hb, hml, hown, hts⟩ hK hR rfl ⟨fun _ _ _ _ _ => rfl, fun _ _ _ _ _ => rfl⟩ hW.lsV (by omega) (Nat.le_trans hW.nV8 (by decide)) q349 ⟨Nat.le_of_ble_eq_true rfl, Nat.le_of_ble_eq_true rfl⟩ hl.1 (Nat.le_of_ble_eq_true rfl) dX1_begin_213 ⟨(Nat.le_trans (show cells + 0 ≤ C1 from by omega) hC), (Nat.le_trans (show slots + 0 ≤ S1 from by omega) hSl)⟩ ?_
    refine lv_if_eq (tgt := 242) hx hb dX1_begin_218 (by decide) (fun c_218 => ?_) (fun c_218 => ?_)
    · replace c_218 : ¬ (¬ c1 = nV y) := bi_0.mp c_218
      have h := h.1 c_218
      have hR := hR.sub (L' := []) [] rfl rfl
      exact kx w y  _ _ _ _ _ hW hLe h hR hS (lv_sub hl [] rfl) (by omega) (by omega)
    · replace c_218 : (¬ c1 = nV y) := bi_n0.mp c_218
      have h := h.2 c_218
      refine lv_aload_n hx hb dX1_begin_221 rfl (lv_at hl 1 rfl) ?_
      have hn_222 : c1 < nV y := by omega
      refine jr_next (t := 0) (a := y.2 6 c1) ⟨hx, hb, hml, hown, hts⟩ hK hR hS rfl ⟨fun _ _ _ _ _ => rfl, fun _ _ _ _ _ => rfl⟩ hW.lsV ⟨hW.arV (Nat.lt_of_le_of_lt (Nat.zero_le _) hn_222), (Nat.le_trans hW.nV8 (by decide))⟩ hn_222 (hW.elV hn_222) q359 ⟨Nat.le_of_ble_eq_true rfl, Nat.le_of_ble_eq_true rfl⟩ hl.1 (Nat.le_of_ble_eq_true rfl) dX1_begin_222 ⟨(Nat.le_trans (show cells + 0 ≤ C1 from by omega) hC), (Nat.le_trans (show slots + 0 ≤ S1 from by omega) hSl)⟩ (fun H locs hR hS => ?_)
      have hR : Rp κ w y X [(q1, itC y 40 0 (c1 + 1) (nI c1))] H := hR
      refine jr_castS (ci := 6) hx hb hown hK hts (hR.role (hW.vil hn_222)) rfl q496 dX1_begin_227 ?_
      refine lv_astore_n (lv' := [(2, .ref (y.2 6 c1)), (0, .ref (y.2 0 0)), (1, .ref (q1))]) hx hb dX1_begin_230 rfl hl (by decide) rfl (fun ls hl => ?_)
      refine lv_aload_n hx hb dX1_begin_231 rfl (lv_at hl 0 rfl) ?_
      refine lv_aload_n hx hb dX1_begin_232 rfl (lv_at hl 1 rfl) ?_
      refine g0_4 hx hb hts hown hK hR l0 q251 dX1_begin_233 ?_
      refine ce_qv (fw := fun u => u) (fy := fun _ => y) (cr_V (n := 1) (As := [.ref (y.2 1 0)]) (rest := []) ⟨hx, hb, hml, hown, hts⟩ hK hR (m_X10_sell hW (hW.vil hn_222) hW.wor h) q1585 q1586 q1587 q92 q1588 rfl rfl hd_X10_sell ⟨Nat.le_of_ble_eq_true rfl, Nat.le_of_ble_eq_true rfl⟩ (rv hK hR (hW.vil hn_222) (ci := 6) rfl rfl) rfl rfl hl.1 rfl (lv_room (Nat.le_of_ble_eq_true rfl)) dX1_begin_236 ⟨(Nat.le_trans (show cells + 0 ≤ C1 from by omega) hC), (Nat.le_trans (show slots + 0 ≤ S1 from by omega) hSl)⟩) hR hS (fun w_236 H locs h hR _ hS => ?_)
      refine lv_goto (tgt := 212) hx hb dX1_begin_239 (by decide) ?_
      exact ih w_236 y (c1 + 1) (nI c1) _ _ _ _ _ hW hLe l0 (by omega) h hR hS (lv_sub hl [1, 2] rfl) (by omega) (by omega)
def st_X1_begin_55 (κ : Kx) (post : Wd → Ly → Prop) (ex : Wd → Ly → Prop) (rec : Wd → Ly → Nat → Int32 → Prop)  (w : Wd) (y : Ly) (c1 : Nat) (z1 : Int32) : Prop := ((¬ (¬ c1 = nV y)) → (ex w y )) ∧ (((¬ c1 = nV y)) → (sp_X10_reap κ y (fun w_79 => rec w_79 y (c1 + 1) (nI c1)) w c1 (gv w 0 0 9)))
def sp_X1_begin_55 (κ : Kx) (post : Wd → Ly → Prop) (ex : Wd → Ly → Prop)  : Nat → Wd → Ly → Nat → Int32 → Prop
  | 0 => fun _ _ _ _ => False
  | n + 1 => fun w y c1 z1 => st_X1_begin_55 κ post ex (sp_X1_begin_55 κ post ex  n)  w y c1 z1
set_option maxHeartbeats 4000000 in
theorem lp_X1_begin_55 {p : Program} {l : Launch} {e : Env} {s : State} {m : MethodId} {args : Array Value} {below : List Frame} {meth : Method} {c : Code} {κ : Kx} {y0 : Ly} {X : XR} {post : Wd → Ly → Prop} {q1 : Nat} (hx : p.tables.exec = Jvm.exec) (hb : c.code = cX1_begin) (hr : meth.sig.returnType = (Option.none : Option Jvm.ClassFile.FieldType)) (hml : c.maxLocals = 5) (hown : s.vm.findClass RX1 = some m.cls) (hts : ∀ w ∈ lw_all, w.before args s = true) (hlocks : meth.locks = false) (hK : KK κ s)   {C1 S1 : Nat} (hC : C1 ≤ 215) (hSl : S1 ≤ 778) {ex : Wd → Ly → Prop}
    (kx : ∀ (w : Wd) (y : Ly)  (H : Heap) (locs : List Loc) (ls : Array Slot) (cells slots : Nat) (hW : WFc κ y) (hLe : LeS y0 y) , ex w y  → Rp κ w y X [] H → va_S (Af κ) s.heap H locs → lv_has ls 5 [(0, .ref (y.2 0 0))] → cells ≤ C1 → slots ≤ S1 → W p l e (headSpec (ws_ yX1_begin cX1_begin 5 (Option.none : Option Jvm.ClassFile.FieldType)) rm_X1_begin).room s m args below meth c H locs cells slots (MQ below (va_Qv (fun (u : Wd × Ly) => post u.1 u.2) (fun (u : Wd × Ly) t => Rp κ u.1 u.2 X [] t.heap ∧ WFc κ u.2 ∧ LeS y0 u.2) (Af κ)) args s 215 778 (Af κ)) (F0 m 85 ls [])) :
    ∀ (f : Nat) (w : Wd) (y : Ly) (c1 : Nat) (z1 : Int32) (H : Heap) (locs : List Loc) (ls : Array Slot) (cells slots : Nat) (hW : WFc κ y) (hLe : LeS y0 y) (l0 : live y 0 0) (hc1 : c1 ≤ nV y), sp_X1_begin_55 κ post ex  f w y c1 z1 → Rp κ w y X [(q1, itC y 40 0 c1 z1)] H → va_S (Af κ) s.heap H locs → lv_has ls 5 [(0, .ref (y.2 0 0)), (1, .ref (q1))] → cells + f * 0 ≤ C1 → slots + f * 0 ≤ S1 → W p l e (headSpec (ws_ yX1_begin cX1_begin 5 (Option.none : Option Jvm.ClassFile.FieldType)) rm_X1_begin).room s m args below meth c H locs cells slots (MQ below (va_Qv (fun (u : Wd × Ly) => post u.1 u.2) (fun (u : Wd × Ly) t => Rp κ u.1 u.2 X [] t.heap ∧ WFc κ u.2 ∧ LeS y0 u.2) (Af κ)) args s 215 778 (Af κ)) (F0 m 55 ls []) := by
  intro f
  induction f with
  | zero =>
    intro w y c1 z1 H locs ls cells slots hW hLe l0 hc1 h
    exact False.elim h
  | succ f ih =>
    intro w y c1 z1 H locs ls cells slots hW hLe l0 hc1 h hR hS hl hc hs
    have h : st_X1_begin_55 κ post ex (sp_X1_begin_55 κ post ex  f)  w y c1 z1 := h
    unfold st_X1_begin_55 at h
    refine lv_aload_n hx hb dX1_begin_55 rfl (lv_at hl 1 rfl) ?_
    refine jr_hasNext (t := 0) ⟨hx, hb, hml, hown, hts⟩ hK hR rfl ⟨fun _ _ _ _ _ => rfl, fun _ _ _ _ _ => rfl⟩ hW.lsV (by omega) (Nat.le_trans hW.nV8 (by decide)) q349 ⟨Nat.le_of_ble_eq_true rfl, Nat.le_of_ble_eq_true rfl⟩ hl.1 (Nat.le_of_ble_eq_true rfl) dX1_begin_56 ⟨(Nat.le_trans (show cells + 0 ≤ C1 from by omega) hC), (Nat.le_trans (show slots + 0 ≤ S1 from by omega) hSl)⟩ ?_
    refine lv_if_eq (tgt := 85) hx hb dX1_begin_61 (by decide) (fun c_61 => ?_) (fun c_61 => ?_)
    · replace c_61 : ¬ (¬ c1 = nV y) := bi_0.mp c_61
      have h := h.1 c_61
      have hR := hR.sub (L' := []) [] rfl rfl
      exact kx w y  _ _ _ _ _ hW hLe h hR hS (lv_sub hl [0] rfl) (by omega) (by omega)
    · replace c_61 : (¬ c1 = nV y) := bi_n0.mp c_61
      have h := h.2 c_61
      refine lv_aload_n hx hb dX1_begin_64 rfl (lv_at hl 1 rfl) ?_
      have hn_65 : c1 < nV y := by omega
      refine jr_next (t := 0) (a := y.2 6 c1) ⟨hx, hb, hml, hown, hts⟩ hK hR hS rfl ⟨fun _ _ _ _ _ => rfl, fun _ _ _ _ _ => rfl⟩ hW.lsV ⟨hW.arV (Nat.lt_of_le_of_lt (Nat.zero_le _) hn_65), (Nat.le_trans hW.nV8 (by decide))⟩ hn_65 (hW.elV hn_65) q359 ⟨Nat.le_of_ble_eq_true rfl, Nat.le_of_ble_eq_true rfl⟩ hl.1 (Nat.le_of_ble_eq_true rfl) dX1_begin_65 ⟨(Nat.le_trans (show cells + 0 ≤ C1 from by omega) hC), (Nat.le_trans (show slots + 0 ≤ S1 from by omega) hSl)⟩ (fun H locs hR hS => ?_)
      have hR : Rp κ w y X [(q1, itC y 40 0 (c1 + 1) (nI c1))] H := hR
      refine jr_castS (ci := 6) hx hb hown hK hts (hR.role (hW.vil hn_65)) rfl q496 dX1_begin_70 ?_
      refine lv_astore_n (lv' := [(2, .ref (y.2 6 c1)), (0, .ref (y.2 0 0)), (1, .ref (q1))]) hx hb dX1_begin_73 rfl hl (by decide) rfl (fun ls hl => ?_)
      refine lv_aload_n hx hb dX1_begin_74 rfl (lv_at hl 0 rfl) ?_
      refine lv_aload_n hx hb dX1_begin_75 rfl (lv_at hl 1 rfl) ?_
      refine g0_9 hx hb hts hown hK hR l0 q256 dX1_begin_76 ?_
      refine ce_qv (fw := fun u => u) (fy := fun _ => y) (cr_V (n := 1) (As := [.int (gv w 0 0 9)]) (rest := []) ⟨hx, hb, hml, hown, hts⟩ hK hR (m_X10_reap hW (hW.vil hn_65) h) q1521 q1522 q1523 q92 q1524 rfl rfl hd_X10_reap ⟨Nat.le_of_ble_eq_true rfl, Nat.le_of_ble_eq_true rfl⟩ (rv hK hR (hW.vil hn_65) (ci := 6) rfl rfl) rfl rfl hl.1 rfl (lv_room (Nat.le_of_ble_eq_true rfl)) dX1_begin_79 ⟨(Nat.le_trans (show cells + 0 ≤ C1 from by omega) hC), (Nat.le_trans (show slots + 0 ≤ S1 from by omega) hSl)⟩) hR hS (fun w_79 H locs h hR _ hS => ?_)
      refine lv_goto (tgt := 55) hx hb dX1_begin_82 (by decide) ?_
      exact ih w_79 y (c1 + 1) (nI c1) _ _ _ _ _ hW hLe l0 (by omega) h hR hS (lv_sub hl [1, 2] rfl) (by omega) (by omega)
def st_X1_begin_165x1 (κ : Kx) (post : Wd → Ly → Prop) (ex : Wd → Ly → Prop) (rec : Wd → Ly → Nat → Int32 → Prop)  (w : Wd) (y : Ly) (c1 : Nat) (z1 : Int32) : Prop := ((¬ (¬ c1 = nV y)) → (ex w y )) ∧ (((¬ c1 = nV y)) → (sp_X10_eat κ y (fun w_189_a => rec w_189_a y (c1 + 1) (nI c1)) w c1))
def sp_X1_begin_165x1 (κ : Kx) (post : Wd → Ly → Prop) (ex : Wd → Ly → Prop)  : Nat → Wd → Ly → Nat → Int32 → Prop
  | 0 => fun _ _ _ _ => False
  | n + 1 => fun w y c1 z1 => st_X1_begin_165x1 κ post ex (sp_X1_begin_165x1 κ post ex  n)  w y c1 z1
set_option maxHeartbeats 4000000 in
theorem lp_X1_begin_165x1 {p : Program} {l : Launch} {e : Env} {s : State} {m : MethodId} {args : Array Value} {below : List Frame} {meth : Method} {c : Code} {κ : Kx} {y0 : Ly} {X : XR} {post : Wd → Ly → Prop} {q1 : Nat} (hx : p.tables.exec = Jvm.exec) (hb : c.code = cX1_begin) (hr : meth.sig.returnType = (Option.none : Option Jvm.ClassFile.FieldType)) (hml : c.maxLocals = 5) (hown : s.vm.findClass RX1 = some m.cls) (hts : ∀ w ∈ lw_all, w.before args s = true) (hlocks : meth.locks = false) (hK : KK κ s)   {C1 S1 : Nat} (hC : C1 ≤ 215) (hSl : S1 ≤ 778) {ex : Wd → Ly → Prop}
    (kx : ∀ (w : Wd) (y : Ly)  (H : Heap) (locs : List Loc) (ls : Array Slot) (cells slots : Nat) (hW : WFc κ y) (hLe : LeS y0 y) , ex w y  → Rp κ w y X [] H → va_S (Af κ) s.heap H locs → lv_has ls 5 [(0, .ref (y.2 0 0))] → cells ≤ C1 → slots ≤ S1 → W p l e (headSpec (ws_ yX1_begin cX1_begin 5 (Option.none : Option Jvm.ClassFile.FieldType)) rm_X1_begin).room s m args below meth c H locs cells slots (MQ below (va_Qv (fun (u : Wd × Ly) => post u.1 u.2) (fun (u : Wd × Ly) t => Rp κ u.1 u.2 X [] t.heap ∧ WFc κ u.2 ∧ LeS y0 u.2) (Af κ)) args s 215 778 (Af κ)) (F0 m 195 ls [])) :
    ∀ (f : Nat) (w : Wd) (y : Ly) (c1 : Nat) (z1 : Int32) (H : Heap) (locs : List Loc) (ls : Array Slot) (cells slots : Nat) (hW : WFc κ y) (hLe : LeS y0 y) (l0 : live y 0 0) (hc1 : c1 ≤ nV y), sp_X1_begin_165x1 κ post ex  f w y c1 z1 → Rp κ w y X [(q1, itC y 40 0 c1 z1)] H → va_S (Af κ) s.heap H locs → lv_has ls 5 [(0, .ref (y.2 0 0)), (1, .ref (q1))] → cells + f * 0 ≤ C1 → slots + f * 0 ≤ S1 → W p l e (headSpec (ws_ yX1_begin cX1_begin 5 (Option.none : Option Jvm.ClassFile.FieldType)) rm_X1_begin).room s m args below meth c H locs cells slots (MQ below (va_Qv (fun (u : Wd × Ly) => post u.1 u.2) (fun (u : Wd × Ly) t => Rp κ u.1 u.2 X [] t.heap ∧ WFc κ u.2 ∧ LeS y0 u.2) (Af κ)) args s 215 778 (Af κ)) (F0 m 165 ls []) := by
  intro f
  induction f with
  | zero =>
    intro w y c1 z1 H locs ls cells slots hW hLe l0 hc1 h
    exact False.elim h
  | succ f ih =>
    intro w y c1 z1 H locs ls cells slots hW hLe l0 hc1 h hR hS hl hc hs
    have h : st_X1_begin_165x1 κ post ex (sp_X1_begin_165x1 κ post ex  f)  w y c1 z1 := h
    unfold st_X1_begin_165x1 at h
    refine lv_aload_n hx hb dX1_begin_165 rfl (lv_at hl 1 rfl) ?_
    refine jr_hasNext (t := 0) ⟨hx, hb, hml, hown, hts⟩ hK hR rfl ⟨fun _ _ _ _ _ => rfl, fun _ _ _ _ _ => rfl⟩ hW.lsV (by omega) (Nat.le_trans hW.nV8 (by decide)) q349 ⟨Nat.le_of_ble_eq_true rfl, Nat.le_of_ble_eq_true rfl⟩ hl.1 (Nat.le_of_ble_eq_true rfl) dX1_begin_166 ⟨(Nat.le_trans (show cells + 0 ≤ C1 from by omega) hC), (Nat.le_trans (show slots + 0 ≤ S1 from by omega) hSl)⟩ ?_
    refine lv_if_eq (tgt := 195) hx hb dX1_begin_171 (by decide) (fun c_171_a => ?_) (fun c_171_a => ?_)
    · replace c_171_a : ¬ (¬ c1 = nV y) := bi_0.mp c_171_a
      have h := h.1 c_171_a
      have hR := hR.sub (L' := []) [] rfl rfl
      exact kx w y  _ _ _ _ _ hW hLe h hR hS (lv_sub hl [0] rfl) (by omega) (by omega)
    · replace c_171_a : (¬ c1 = nV y) := bi_n0.mp c_171_a
      have h := h.2 c_171_a
      refine lv_aload_n hx hb dX1_begin_174 rfl (lv_at hl 1 rfl) ?_
      have hn_175_a : c1 < nV y := by omega
      refine jr_next (t := 0) (a := y.2 6 c1) ⟨hx, hb, hml, hown, hts⟩ hK hR hS rfl ⟨fun _ _ _ _ _ => rfl, fun _ _ _ _ _ => rfl⟩ hW.lsV ⟨hW.arV (Nat.lt_of_le_of_lt (Nat.zero_le _) hn_175_a), (Nat.le_trans hW.nV8 (by decide))⟩ hn_175_a (hW.elV hn_175_a) q359 ⟨Nat.le_of_ble_eq_true rfl, Nat.le_of_ble_eq_true rfl⟩ hl.1 (Nat.le_of_ble_eq_true rfl) dX1_begin_175 ⟨(Nat.le_trans (show cells + 0 ≤ C1 from by omega) hC), (Nat.le_trans (show slots + 0 ≤ S1 from by omega) hSl)⟩ (fun H locs hR hS => ?_)
      have hR : Rp κ w y X [(q1, itC y 40 0 (c1 + 1) (nI c1))] H := hR
      refine jr_castS (ci := 6) hx hb hown hK hts (hR.role (hW.vil hn_175_a)) rfl q496 dX1_begin_180 ?_
      refine lv_astore_n (lv' := [(2, .ref (y.2 6 c1)), (0, .ref (y.2 0 0)), (1, .ref (q1))]) hx hb dX1_begin_183 rfl hl (by decide) rfl (fun ls hl => ?_)
      refine lv_aload_n hx hb dX1_begin_184 rfl (lv_at hl 0 rfl) ?_
      refine lv_aload_n hx hb dX1_begin_185 rfl (lv_at hl 1 rfl) ?_
      refine g0_4 hx hb hts hown hK hR l0 q251 dX1_begin_186 ?_
      refine ce_qv (fw := fun u => u) (fy := fun _ => y) (cr_V (n := 1) (As := [.ref (y.2 1 0)]) (rest := []) ⟨hx, hb, hml, hown, hts⟩ hK hR (m_X10_eat hW (hW.vil hn_175_a) hW.wor h) q1574 q1575 q1576 q92 q1577 rfl rfl hd_X10_eat ⟨Nat.le_of_ble_eq_true rfl, Nat.le_of_ble_eq_true rfl⟩ (rv hK hR (hW.vil hn_175_a) (ci := 6) rfl rfl) rfl rfl hl.1 rfl (lv_room (Nat.le_of_ble_eq_true rfl)) dX1_begin_189 ⟨(Nat.le_trans (show cells + 0 ≤ C1 from by omega) hC), (Nat.le_trans (show slots + 0 ≤ S1 from by omega) hSl)⟩) hR hS (fun w_189_a H locs h hR _ hS => ?_)
      refine lv_goto (tgt := 165) hx hb dX1_begin_192 (by decide) ?_
      exact ih w_189_a y (c1 + 1) (nI c1) _ _ _ _ _ hW hLe l0 (by omega) h hR hS (lv_sub hl [1, 2] rfl) (by omega) (by omega)
def st_X1_begin_212x1 (κ : Kx) (post : Wd → Ly → Prop) (ex : Wd → Ly → Prop) (rec : Wd → Ly → Nat → Int32 → Prop)  (w : Wd) (y : Ly) (c1 : Nat) (z1 : Int32) : Prop := ((¬ (¬ c1 = nV y)) → (ex w y )) ∧ (((¬ c1 = nV y)) → (sp_X10_sell κ y (fun w_236_a => rec w_236_a y (c1 + 1) (nI c1)) w c1))
def sp_X1_begin_212x1 (κ : Kx) (post : Wd → Ly → Prop) (ex : Wd → Ly → Prop)  : Nat → Wd → Ly → Nat → Int32 → Prop
  | 0 => fun _ _ _ _ => False
  | n + 1 => fun w y c1 z1 => st_X1_begin_212x1 κ post ex (sp_X1_begin_212x1 κ post ex  n)  w y c1 z1
set_option maxHeartbeats 4000000 in
theorem lp_X1_begin_212x1 {p : Program} {l : Launch} {e : Env} {s : State} {m : MethodId} {args : Array Value} {below : List Frame} {meth : Method} {c : Code} {κ : Kx} {y0 : Ly} {X : XR} {post : Wd → Ly → Prop} {q1 : Nat} (hx : p.tables.exec = Jvm.exec) (hb : c.code = cX1_begin) (hr : meth.sig.returnType = (Option.none : Option Jvm.ClassFile.FieldType)) (hml : c.maxLocals = 5) (hown : s.vm.findClass RX1 = some m.cls) (hts : ∀ w ∈ lw_all, w.before args s = true) (hlocks : meth.locks = false) (hK : KK κ s)   {C1 S1 : Nat} (hC : C1 ≤ 215) (hSl : S1 ≤ 778) {ex : Wd → Ly → Prop}
    (kx : ∀ (w : Wd) (y : Ly)  (H : Heap) (locs : List Loc) (ls : Array Slot) (cells slots : Nat) (hW : WFc κ y) (hLe : LeS y0 y) , ex w y  → Rp κ w y X [] H → va_S (Af κ) s.heap H locs → lv_has ls 5 [] → cells ≤ C1 → slots ≤ S1 → W p l e (headSpec (ws_ yX1_begin cX1_begin 5 (Option.none : Option Jvm.ClassFile.FieldType)) rm_X1_begin).room s m args below meth c H locs cells slots (MQ below (va_Qv (fun (u : Wd × Ly) => post u.1 u.2) (fun (u : Wd × Ly) t => Rp κ u.1 u.2 X [] t.heap ∧ WFc κ u.2 ∧ LeS y0 u.2) (Af κ)) args s 215 778 (Af κ)) (F0 m 242 ls [])) :
    ∀ (f : Nat) (w : Wd) (y : Ly) (c1 : Nat) (z1 : Int32) (H : Heap) (locs : List Loc) (ls : Array Slot) (cells slots : Nat) (hW : WFc κ y) (hLe : LeS y0 y) (l0 : live y 0 0) (hc1 : c1 ≤ nV y), sp_X1_begin_212x1 κ post ex  f w y c1 z1 → Rp κ w y X [(q1, itC y 40 0 c1 z1)] H → va_S (Af κ) s.heap H locs → lv_has ls 5 [(0, .ref (y.2 0 0)), (1, .ref (q1))] → cells + f * 0 ≤ C1 → slots + f * 0 ≤ S1 → W p l e (headSpec (ws_ yX1_begin cX1_begin 5 (Option.none : Option Jvm.ClassFile.FieldType)) rm_X1_begin).room s m args below meth c H locs cells slots (MQ below (va_Qv (fun (u : Wd × Ly) => post u.1 u.2) (fun (u : Wd × Ly) t => Rp κ u.1 u.2 X [] t.heap ∧ WFc κ u.2 ∧ LeS y0 u.2) (Af κ)) args s 215 778 (Af κ)) (F0 m 212 ls []) := by
  intro f
  induction f with
  | zero =>
    intro w y c1 z1 H locs ls cells slots hW hLe l0 hc1 h
    exact False.elim h
  | succ f ih =>
    intro w y c1 z1 H locs ls cells slots hW hLe l0 hc1 h hR hS hl hc hs
    have h : st_X1_begin_212x1 κ post ex (sp_X1_begin_212x1 κ post ex  f)  w y c1 z1 := h
    unfold st_X1_begin_212x1 at h
    refine lv_aload_n hx hb dX1_begin_212 rfl (lv_at hl 1 rfl) ?_
    refine jr_hasNext (t := 0) ⟨hx, hb, hml, hown, hts⟩ hK hR rfl ⟨fun _ _ _ _ _ => rfl, fun _ _ _ _ _ => rfl⟩ hW.lsV (by omega) (Nat.le_trans hW.nV8 (by decide)) q349 ⟨Nat.le_of_ble_eq_true rfl, Nat.le_of_ble_eq_true rfl⟩ hl.1 (Nat.le_of_ble_eq_true rfl) dX1_begin_213 ⟨(Nat.le_trans (show cells + 0 ≤ C1 from by omega) hC), (Nat.le_trans (show slots + 0 ≤ S1 from by omega) hSl)⟩ ?_
    refine lv_if_eq (tgt := 242) hx hb dX1_begin_218 (by decide) (fun c_218_a => ?_) (fun c_218_a => ?_)
    · replace c_218_a : ¬ (¬ c1 = nV y) := bi_0.mp c_218_a
      have h := h.1 c_218_a
      have hR := hR.sub (L' := []) [] rfl rfl
      exact kx w y  _ _ _ _ _ hW hLe h hR hS (lv_sub hl [] rfl) (by omega) (by omega)
    · replace c_218_a : (¬ c1 = nV y) := bi_n0.mp c_218_a
      have h := h.2 c_218_a
      refine lv_aload_n hx hb dX1_begin_221 rfl (lv_at hl 1 rfl) ?_
      have hn_222_a : c1 < nV y := by omega
      refine jr_next (t := 0) (a := y.2 6 c1) ⟨hx, hb, hml, hown, hts⟩ hK hR hS rfl ⟨fun _ _ _ _ _ => rfl, fun _ _ _ _ _ => rfl⟩ hW.lsV ⟨hW.arV (Nat.lt_of_le_of_lt (Nat.zero_le _) hn_222_a), (Nat.le_trans hW.nV8 (by decide))⟩ hn_222_a (hW.elV hn_222_a) q359 ⟨Nat.le_of_ble_eq_true rfl, Nat.le_of_ble_eq_true rfl⟩ hl.1 (Nat.le_of_ble_eq_true rfl) dX1_begin_222 ⟨(Nat.le_trans (show cells + 0 ≤ C1 from by omega) hC), (Nat.le_trans (show slots + 0 ≤ S1 from by omega) hSl)⟩ (fun H locs hR hS => ?_)
      have hR : Rp κ w y X [(q1, itC y 40 0 (c1 + 1) (nI c1))] H := hR
      refine jr_castS (ci := 6) hx hb hown hK hts (hR.role (hW.vil hn_222_a)) rfl q496 dX1_begin_227 ?_
      refine lv_astore_n (lv' := [(2, .ref (y.2 6 c1)), (0, .ref (y.2 0 0)), (1, .ref (q1))]) hx hb dX1_begin_230 rfl hl (by decide) rfl (fun ls hl => ?_)
      refine lv_aload_n hx hb dX1_begin_231 rfl (lv_at hl 0 rfl) ?_
      refine lv_aload_n hx hb dX1_begin_232 rfl (lv_at hl 1 rfl) ?_
      refine g0_4 hx hb hts hown hK hR l0 q251 dX1_begin_233 ?_
      refine ce_qv (fw := fun u => u) (fy := fun _ => y) (cr_V (n := 1) (As := [.ref (y.2 1 0)]) (rest := []) ⟨hx, hb, hml, hown, hts⟩ hK hR (m_X10_sell hW (hW.vil hn_222_a) hW.wor h) q1585 q1586 q1587 q92 q1588 rfl rfl hd_X10_sell ⟨Nat.le_of_ble_eq_true rfl, Nat.le_of_ble_eq_true rfl⟩ (rv hK hR (hW.vil hn_222_a) (ci := 6) rfl rfl) rfl rfl hl.1 rfl (lv_room (Nat.le_of_ble_eq_true rfl)) dX1_begin_236 ⟨(Nat.le_trans (show cells + 0 ≤ C1 from by omega) hC), (Nat.le_trans (show slots + 0 ≤ S1 from by omega) hSl)⟩) hR hS (fun w_236_a H locs h hR _ hS => ?_)
      refine lv_goto (tgt := 212) hx hb dX1_begin_239 (by decide) ?_
      exact ih w_236_a y (c1 + 1) (nI c1) _ _ _ _ _ hW hLe l0 (by omega) h hR hS (lv_sub hl [1, 2] rfl) (by omega) (by omega)
def st_X1_begin_96 (κ : Kx) (post : Wd → Ly → Prop) (ex : Wd → Ly → Prop) (rec : Wd → Ly → Nat → Int32 → Prop)  (w : Wd) (y : Ly) (c1 : Nat) (z1 : Int32) : Prop := ((¬ (¬ c1 = nL y)) → (ex w y )) ∧ (((¬ c1 = nL y)) → (sp_X1_autumn κ y (fun  w_117 y_117 => rec w_117 y_117 (c1 + 1) (nI c1)) w c1))
def sp_X1_begin_96 (κ : Kx) (post : Wd → Ly → Prop) (ex : Wd → Ly → Prop)  : Nat → Wd → Ly → Nat → Int32 → Prop
  | 0 => fun _ _ _ _ => False
  | n + 1 => fun w y c1 z1 => st_X1_begin_96 κ post ex (sp_X1_begin_96 κ post ex  n)  w y c1 z1
set_option maxHeartbeats 4000000 in
theorem lp_X1_begin_96 {p : Program} {l : Launch} {e : Env} {s : State} {m : MethodId} {args : Array Value} {below : List Frame} {meth : Method} {c : Code} {κ : Kx} {y0 : Ly} {X : XR} {post : Wd → Ly → Prop} {q1 : Nat} (hx : p.tables.exec = Jvm.exec) (hb : c.code = cX1_begin) (hr : meth.sig.returnType = (Option.none : Option Jvm.ClassFile.FieldType)) (hml : c.maxLocals = 5) (hown : s.vm.findClass RX1 = some m.cls) (hts : ∀ w ∈ lw_all, w.before args s = true) (hlocks : meth.locks = false) (hK : KK κ s)   {C1 S1 : Nat} (hC : C1 ≤ 215) (hSl : S1 ≤ 778) {ex : Wd → Ly → Prop}
    (kx : ∀ (w : Wd) (y : Ly)  (H : Heap) (locs : List Loc) (ls : Array Slot) (cells slots : Nat) (hW : WFc κ y) (hLe : LeS y0 y) , ex w y  → Rp κ w y X [] H → va_S (Af κ) s.heap H locs → lv_has ls 5 [(0, .ref (y.2 0 0))] → cells ≤ C1 → slots ≤ S1 → W p l e (headSpec (ws_ yX1_begin cX1_begin 5 (Option.none : Option Jvm.ClassFile.FieldType)) rm_X1_begin).room s m args below meth c H locs cells slots (MQ below (va_Qv (fun (u : Wd × Ly) => post u.1 u.2) (fun (u : Wd × Ly) t => Rp κ u.1 u.2 X [] t.heap ∧ WFc κ u.2 ∧ LeS y0 u.2) (Af κ)) args s 215 778 (Af κ)) (F0 m 123 ls [])) :
    ∀ (f : Nat) (w : Wd) (y : Ly) (c1 : Nat) (z1 : Int32) (H : Heap) (locs : List Loc) (ls : Array Slot) (cells slots : Nat) (hW : WFc κ y) (hLe : LeS y0 y) (l0 : live y 0 0) (hc1 : c1 ≤ nL y), sp_X1_begin_96 κ post ex  f w y c1 z1 → Rp κ w y X [(q1, itC y 44 0 c1 z1)] H → va_S (Af κ) s.heap H locs → lv_has ls 5 [(0, .ref (y.2 0 0)), (1, .ref (q1))] → cells + f * 19 ≤ C1 → slots + f * 67 ≤ S1 → W p l e (headSpec (ws_ yX1_begin cX1_begin 5 (Option.none : Option Jvm.ClassFile.FieldType)) rm_X1_begin).room s m args below meth c H locs cells slots (MQ below (va_Qv (fun (u : Wd × Ly) => post u.1 u.2) (fun (u : Wd × Ly) t => Rp κ u.1 u.2 X [] t.heap ∧ WFc κ u.2 ∧ LeS y0 u.2) (Af κ)) args s 215 778 (Af κ)) (F0 m 96 ls []) := by
  intro f
  induction f with
  | zero =>
    intro w y c1 z1 H locs ls cells slots hW hLe l0 hc1 h
    exact False.elim h
  | succ f ih =>
    intro w y c1 z1 H locs ls cells slots hW hLe l0 hc1 h hR hS hl hc hs
    have h : st_X1_begin_96 κ post ex (sp_X1_begin_96 κ post ex  f)  w y c1 z1 := h
    unfold st_X1_begin_96 at h
    refine lv_aload_n hx hb dX1_begin_96 rfl (lv_at hl 1 rfl) ?_
    refine jr_hasNext (t := 0) ⟨hx, hb, hml, hown, hts⟩ hK hR rfl ⟨fun _ _ _ _ _ => rfl, fun _ _ _ _ _ => rfl⟩ hW.lsL (by omega) (Nat.le_trans hW.nL8 (by decide)) q349 ⟨Nat.le_of_ble_eq_true rfl, Nat.le_of_ble_eq_true rfl⟩ hl.1 (Nat.le_of_ble_eq_true rfl) dX1_begin_97 ⟨(Nat.le_trans (show cells + 0 ≤ C1 from by omega) hC), (Nat.le_trans (show slots + 0 ≤ S1 from by omega) hSl)⟩ ?_
    refine lv_if_eq (tgt := 123) hx hb dX1_begin_102 (by decide) (fun c_102 => ?_) (fun c_102 => ?_)
    · replace c_102 : ¬ (¬ c1 = nL y) := bi_0.mp c_102
      have h := h.1 c_102
      have hR := hR.sub (L' := []) [] rfl rfl
      exact kx w y  _ _ _ _ _ hW hLe h hR hS (lv_sub hl [0] rfl) (by omega) (by omega)
    · replace c_102 : (¬ c1 = nL y) := bi_n0.mp c_102
      have h := h.2 c_102
      refine lv_aload_n hx hb dX1_begin_105 rfl (lv_at hl 1 rfl) ?_
      have hn_106 : c1 < nL y := by omega
      refine jr_next (t := 0) (a := y.2 11 c1) ⟨hx, hb, hml, hown, hts⟩ hK hR hS rfl ⟨fun _ _ _ _ _ => rfl, fun _ _ _ _ _ => rfl⟩ hW.lsL ⟨hW.arL (Nat.lt_of_le_of_lt (Nat.zero_le _) hn_106), (Nat.le_trans hW.nL8 (by decide))⟩ hn_106 (hW.elL hn_106) q359 ⟨Nat.le_of_ble_eq_true rfl, Nat.le_of_ble_eq_true rfl⟩ hl.1 (Nat.le_of_ble_eq_true rfl) dX1_begin_106 ⟨(Nat.le_trans (show cells + 0 ≤ C1 from by omega) hC), (Nat.le_trans (show slots + 0 ≤ S1 from by omega) hSl)⟩ (fun H locs hR hS => ?_)
      have hR : Rp κ w y X [(q1, itC y 44 0 (c1 + 1) (nI c1))] H := hR
      refine jr_castS (ci := 9) hx hb hown hK hts (hR.role (hW.lot hn_106)) rfl q497 dX1_begin_111 ?_
      refine lv_astore_n (lv' := [(2, .ref (y.2 11 c1)), (0, .ref (y.2 0 0)), (1, .ref (q1))]) hx hb dX1_begin_114 rfl hl (by decide) rfl (fun ls hl => ?_)
      refine lv_aload_n hx hb dX1_begin_115 rfl (lv_at hl 1 rfl) ?_
      refine lv_aload_n hx hb dX1_begin_116 rfl (lv_at hl 0 rfl) ?_
      have lv_117 := (hW.lot hn_106)
      have lv_117_a := l0
      have lv_117_b := hW.lsL
      refine cey_qv (fw := fun u : Wd × Ly => u.1) (fy := fun u : Wd × Ly => u.2) (P := fun u : Wd × Ly => WFc κ u.2 ∧ LeS y u.2) (cr_V (n := 1) (As := [.ref (y.2 11 c1)]) (rest := []) ⟨hx, hb, hml, hown, hts⟩ hK hR (m_X1_autumn hW l0 (hW.lot hn_106) h) q1530 q1532 qs32 q74 q1533 rfl rfl hd_X1_autumn ⟨Nat.le_of_ble_eq_true rfl, Nat.le_of_ble_eq_true rfl⟩ (rv hK hR l0 (ci := 0) rfl rfl) rfl rfl hl.1 rfl (lv_room (Nat.le_of_ble_eq_true rfl)) dX1_begin_117 ⟨(Nat.le_trans (show cells + 19 ≤ C1 from by omega) hC), (Nat.le_trans (show slots + 67 ≤ S1 from by omega) hSl)⟩) hR hS (fun  u9 H locs h p9 hR _ hS => ?_)
      obtain ⟨w_117, y_117⟩ := u9
      obtain ⟨hW_y_117, hL1_y_117⟩ := p9
      dsimp only at h hR hW_y_117 hL1_y_117
      have lw_117 := hL1_y_117.live (k := 11) rfl lv_117
      have lw_117_a := hL1_y_117.live (k := 0) rfl lv_117_a
      have lw_117_b := hL1_y_117.live (k := 44) rfl lv_117_b
      have hR : Rp κ w_117 y_117 X [(q1, itC y_117 44 0 (c1 + 1) (nI c1))] H := by
        rw [hL1_y_117.it (k := 44) rfl rfl]
        exact hR
      have hz_z_117 : nL y_117 = nL y := congrFun (hL1_y_117.1 144 rfl) 0
      have hl : lv_has ls 5 [(2, .ref (y_117.2 11 c1)), (0, .ref (y_117.2 0 0)), (1, .ref (q1))] := by
        rw [hL1_y_117.2 0 rfl, hL1_y_117.2 11 rfl]
        exact hl
      have hLe_y_117 : LeS _ y_117 := (hLe.trans hL1_y_117)
      refine lv_goto (tgt := 96) hx hb dX1_begin_120 (by decide) ?_
      exact ih w_117 y_117 (c1 + 1) (nI c1) _ _ _ _ _ hW_y_117 hLe_y_117 lw_117_a (by omega) h hR hS (lv_sub hl [1, 2] rfl) (by omega) (by omega)
def st_X1_begin_132 (κ : Kx) (post : Wd → Ly → Prop) (ex : Wd → Ly → Prop) (rec : Wd → Ly → Int32 → Prop) (v2 : Int32) (w : Wd) (y : Ly) (v3 : Int32) : Prop := ((v2 ≤ v3) → (ex w y )) ∧ ((¬ (v2 ≤ v3)) → ((vp_in (v3) 3) ∧ (sp_X1_clerks_2 κ y (fun w_145 => ∀ x_148 : Int32, x_148 = v3 + (1 : Int32) → rec w_145 y x_148) w ((v3).toNatClampNeg))))
def sp_X1_begin_132 (κ : Kx) (post : Wd → Ly → Prop) (ex : Wd → Ly → Prop) (v2 : Int32) : Nat → Wd → Ly → Int32 → Prop
  | 0 => fun _ _ _ => False
  | n + 1 => fun w y v3 => st_X1_begin_132 κ post ex (sp_X1_begin_132 κ post ex v2 n) v2 w y v3
set_option maxHeartbeats 4000000 in
theorem lp_X1_begin_132 {p : Program} {l : Launch} {e : Env} {s : State} {m : MethodId} {args : Array Value} {below : List Frame} {meth : Method} {c : Code} {κ : Kx} {y0 : Ly} {X : XR} {post : Wd → Ly → Prop} {q1 : Nat} {v2 : Int32} (hx : p.tables.exec = Jvm.exec) (hb : c.code = cX1_begin) (hr : meth.sig.returnType = (Option.none : Option Jvm.ClassFile.FieldType)) (hml : c.maxLocals = 5) (hown : s.vm.findClass RX1 = some m.cls) (hts : ∀ w ∈ lw_all, w.before args s = true) (hlocks : meth.locks = false) (hK : KK κ s)   {C1 S1 : Nat} (hC : C1 ≤ 215) (hSl : S1 ≤ 778) {ex : Wd → Ly → Prop}
    (kx : ∀ (w : Wd) (y : Ly)  (H : Heap) (locs : List Loc) (ls : Array Slot) (cells slots : Nat) (hW : WFc κ y) (hLe : LeS y0 y) , ex w y  → Rp κ w y X [] H → va_S (Af κ) s.heap H locs → lv_has ls 5 [(0, .ref (y.2 0 0))] → cells ≤ C1 → slots ≤ S1 → W p l e (headSpec (ws_ yX1_begin cX1_begin 5 (Option.none : Option Jvm.ClassFile.FieldType)) rm_X1_begin).room s m args below meth c H locs cells slots (MQ below (va_Qv (fun (u : Wd × Ly) => post u.1 u.2) (fun (u : Wd × Ly) t => Rp κ u.1 u.2 X [] t.heap ∧ WFc κ u.2 ∧ LeS y0 u.2) (Af κ)) args s 215 778 (Af κ)) (F0 m 154 ls [])) :
    ∀ (f : Nat) (w : Wd) (y : Ly) (v3 : Int32) (H : Heap) (locs : List Loc) (ls : Array Slot) (cells slots : Nat) (hW : WFc κ y) (hLe : LeS y0 y) (l0 : live y 0 0) , sp_X1_begin_132 κ post ex v2 f w y v3 → Rp κ w y X [(q1, dvC κ)] H → va_S (Af κ) s.heap H locs → lv_has ls 5 [(0, .ref (y.2 0 0)), (1, .ref (q1)), (2, .int (v2)), (3, .int (v3))] → cells + f * 10 ≤ C1 → slots + f * 40 ≤ S1 → W p l e (headSpec (ws_ yX1_begin cX1_begin 5 (Option.none : Option Jvm.ClassFile.FieldType)) rm_X1_begin).room s m args below meth c H locs cells slots (MQ below (va_Qv (fun (u : Wd × Ly) => post u.1 u.2) (fun (u : Wd × Ly) t => Rp κ u.1 u.2 X [] t.heap ∧ WFc κ u.2 ∧ LeS y0 u.2) (Af κ)) args s 215 778 (Af κ)) (F0 m 132 ls []) := by
  intro f
  induction f with
  | zero =>
    intro w y v3 H locs ls cells slots hW hLe l0 h
    exact False.elim h
  | succ f ih =>
    intro w y v3 H locs ls cells slots hW hLe l0 h hR hS hl hc hs
    have h : st_X1_begin_132 κ post ex (sp_X1_begin_132 κ post ex v2 f) v2 w y v3 := h
    unfold st_X1_begin_132 at h
    refine lv_iload_n hx hb dX1_begin_132 rfl (lv_at hl 3 rfl) ?_
    refine lv_iload_n hx hb dX1_begin_133 rfl (lv_at hl 2 rfl) ?_
    refine lv_icmp_ge (tgt := 154) hx hb dX1_begin_134 (by decide) (fun c_134 => ?_) (fun c_134 => ?_)
    · have h := h.1 c_134
      have hR := hR.sub (L' := []) [] rfl rfl
      exact kx w y  _ _ _ _ _ hW hLe h hR hS (lv_sub hl [0] rfl) (by omega) (by omega)
    · have h := h.2 c_134
      refine lv_aload_n hx hb dX1_begin_137 rfl (lv_at hl 1 rfl) ?_
      refine lv_iload_n hx hb dX1_begin_138 rfl (lv_at hl 3 rfl) ?_
      have o_139 := h.1
      have h := h.2
      refine xa_aald hx hb hK.1 (hR.L 0 _ rfl) 7 rfl o_139 dX1_begin_139 ?_
      refine lv_astore (lv' := [(4, .ref (kA κ (20 + (v3).toNatClampNeg))), (0, .ref (y.2 0 0)), (1, .ref (q1)), (2, .int (v2)), (3, .int (v3))]) hx hb dX1_begin_140 hl (by decide) rfl (fun ls hl => ?_)
      refine lv_aload_n hx hb dX1_begin_142 rfl (lv_at hl 1 rfl) ?_
      refine lv_aload hx hb dX1_begin_143 (lv_at hl 0 rfl) ?_
      refine ce_qv (fw := fun u => u) (fy := fun _ => y) (cr_V (n := 1) (As := [.ref (kA κ (20 + (v3).toNatClampNeg))]) (rest := []) ⟨hx, hb, hml, hown, hts⟩ hK hR (m_X1_clerks_2 hW l0 (vp_lt o_139) h) q1570 q1572 qs34 q74 q1573 rfl rfl hd_X1_clerks_2 ⟨Nat.le_of_ble_eq_true rfl, Nat.le_of_ble_eq_true rfl⟩ (rv hK hR l0 (ci := 0) rfl rfl) rfl rfl hl.1 rfl (lv_room (Nat.le_of_ble_eq_true rfl)) dX1_begin_145 ⟨(Nat.le_trans (show cells + 10 ≤ C1 from by omega) hC), (Nat.le_trans (show slots + 40 ≤ S1 from by omega) hSl)⟩) hR hS (fun w_145 H locs h hR _ hS => ?_)
      obtain ⟨x_148, ex_148⟩ : ∃ z : Int32, z = v3 + (1 : Int32) := ⟨_, rfl⟩
      have h := h x_148 ex_148
      refine lv_iinc (v := x_148) (lv' := [(3, .int (x_148)), (4, .ref (kA κ (20 + (v3).toNatClampNeg))), (0, .ref (y.2 0 0)), (1, .ref (q1)), (2, .int (v2))]) hx hb dX1_begin_148 hl (k := 4) rfl (by rw [ex_148]; rfl) (by decide) rfl (fun ls hl => ?_)
      refine lv_goto (tgt := 132) hx hb dX1_begin_151 (by decide) ?_
      exact ih w_145 y x_148 _ _ _ _ _ hW hLe l0  h hR hS (lv_sub hl [2, 3, 4, 0] rfl) (by omega) (by omega)
def st_X1_begin_165x2 (κ : Kx) (post : Wd → Ly → Prop) (ex : Wd → Ly → Prop) (rec : Wd → Ly → Nat → Int32 → Prop)  (w : Wd) (y : Ly) (c1 : Nat) (z1 : Int32) : Prop := ((¬ (¬ c1 = nV y)) → (ex w y )) ∧ (((¬ c1 = nV y)) → (sp_X10_eat κ y (fun w_189_b => rec w_189_b y (c1 + 1) (nI c1)) w c1))
def sp_X1_begin_165x2 (κ : Kx) (post : Wd → Ly → Prop) (ex : Wd → Ly → Prop)  : Nat → Wd → Ly → Nat → Int32 → Prop
  | 0 => fun _ _ _ _ => False
  | n + 1 => fun w y c1 z1 => st_X1_begin_165x2 κ post ex (sp_X1_begin_165x2 κ post ex  n)  w y c1 z1
set_option maxHeartbeats 4000000 in
theorem lp_X1_begin_165x2 {p : Program} {l : Launch} {e : Env} {s : State} {m : MethodId} {args : Array Value} {below : List Frame} {meth : Method} {c : Code} {κ : Kx} {y0 : Ly} {X : XR} {post : Wd → Ly → Prop} {q1 : Nat} (hx : p.tables.exec = Jvm.exec) (hb : c.code = cX1_begin) (hr : meth.sig.returnType = (Option.none : Option Jvm.ClassFile.FieldType)) (hml : c.maxLocals = 5) (hown : s.vm.findClass RX1 = some m.cls) (hts : ∀ w ∈ lw_all, w.before args s = true) (hlocks : meth.locks = false) (hK : KK κ s)   {C1 S1 : Nat} (hC : C1 ≤ 215) (hSl : S1 ≤ 778) {ex : Wd → Ly → Prop}
    (kx : ∀ (w : Wd) (y : Ly)  (H : Heap) (locs : List Loc) (ls : Array Slot) (cells slots : Nat) (hW : WFc κ y) (hLe : LeS y0 y) , ex w y  → Rp κ w y X [] H → va_S (Af κ) s.heap H locs → lv_has ls 5 [(0, .ref (y.2 0 0))] → cells ≤ C1 → slots ≤ S1 → W p l e (headSpec (ws_ yX1_begin cX1_begin 5 (Option.none : Option Jvm.ClassFile.FieldType)) rm_X1_begin).room s m args below meth c H locs cells slots (MQ below (va_Qv (fun (u : Wd × Ly) => post u.1 u.2) (fun (u : Wd × Ly) t => Rp κ u.1 u.2 X [] t.heap ∧ WFc κ u.2 ∧ LeS y0 u.2) (Af κ)) args s 215 778 (Af κ)) (F0 m 195 ls [])) :
    ∀ (f : Nat) (w : Wd) (y : Ly) (c1 : Nat) (z1 : Int32) (H : Heap) (locs : List Loc) (ls : Array Slot) (cells slots : Nat) (hW : WFc κ y) (hLe : LeS y0 y) (l0 : live y 0 0) (hc1 : c1 ≤ nV y), sp_X1_begin_165x2 κ post ex  f w y c1 z1 → Rp κ w y X [(q1, itC y 40 0 c1 z1)] H → va_S (Af κ) s.heap H locs → lv_has ls 5 [(0, .ref (y.2 0 0)), (1, .ref (q1))] → cells + f * 0 ≤ C1 → slots + f * 0 ≤ S1 → W p l e (headSpec (ws_ yX1_begin cX1_begin 5 (Option.none : Option Jvm.ClassFile.FieldType)) rm_X1_begin).room s m args below meth c H locs cells slots (MQ below (va_Qv (fun (u : Wd × Ly) => post u.1 u.2) (fun (u : Wd × Ly) t => Rp κ u.1 u.2 X [] t.heap ∧ WFc κ u.2 ∧ LeS y0 u.2) (Af κ)) args s 215 778 (Af κ)) (F0 m 165 ls []) := by
  intro f
  induction f with
  | zero =>
    intro w y c1 z1 H locs ls cells slots hW hLe l0 hc1 h
    exact False.elim h
  | succ f ih =>
    intro w y c1 z1 H locs ls cells slots hW hLe l0 hc1 h hR hS hl hc hs
    have h : st_X1_begin_165x2 κ post ex (sp_X1_begin_165x2 κ post ex  f)  w y c1 z1 := h
    unfold st_X1_begin_165x2 at h
    refine lv_aload_n hx hb dX1_begin_165 rfl (lv_at hl 1 rfl) ?_
    refine jr_hasNext (t := 0) ⟨hx, hb, hml, hown, hts⟩ hK hR rfl ⟨fun _ _ _ _ _ => rfl, fun _ _ _ _ _ => rfl⟩ hW.lsV (by omega) (Nat.le_trans hW.nV8 (by decide)) q349 ⟨Nat.le_of_ble_eq_true rfl, Nat.le_of_ble_eq_true rfl⟩ hl.1 (Nat.le_of_ble_eq_true rfl) dX1_begin_166 ⟨(Nat.le_trans (show cells + 0 ≤ C1 from by omega) hC), (Nat.le_trans (show slots + 0 ≤ S1 from by omega) hSl)⟩ ?_
    refine lv_if_eq (tgt := 195) hx hb dX1_begin_171 (by decide) (fun c_171_b => ?_) (fun c_171_b => ?_)
    · replace c_171_b : ¬ (¬ c1 = nV y) := bi_0.mp c_171_b
      have h := h.1 c_171_b
      have hR := hR.sub (L' := []) [] rfl rfl
      exact kx w y  _ _ _ _ _ hW hLe h hR hS (lv_sub hl [0] rfl) (by omega) (by omega)
    · replace c_171_b : (¬ c1 = nV y) := bi_n0.mp c_171_b
      have h := h.2 c_171_b
      refine lv_aload_n hx hb dX1_begin_174 rfl (lv_at hl 1 rfl) ?_
      have hn_175_b : c1 < nV y := by omega
      refine jr_next (t := 0) (a := y.2 6 c1) ⟨hx, hb, hml, hown, hts⟩ hK hR hS rfl ⟨fun _ _ _ _ _ => rfl, fun _ _ _ _ _ => rfl⟩ hW.lsV ⟨hW.arV (Nat.lt_of_le_of_lt (Nat.zero_le _) hn_175_b), (Nat.le_trans hW.nV8 (by decide))⟩ hn_175_b (hW.elV hn_175_b) q359 ⟨Nat.le_of_ble_eq_true rfl, Nat.le_of_ble_eq_true rfl⟩ hl.1 (Nat.le_of_ble_eq_true rfl) dX1_begin_175 ⟨(Nat.le_trans (show cells + 0 ≤ C1 from by omega) hC), (Nat.le_trans (show slots + 0 ≤ S1 from by omega) hSl)⟩ (fun H locs hR hS => ?_)
      have hR : Rp κ w y X [(q1, itC y 40 0 (c1 + 1) (nI c1))] H := hR
      refine jr_castS (ci := 6) hx hb hown hK hts (hR.role (hW.vil hn_175_b)) rfl q496 dX1_begin_180 ?_
      refine lv_astore_n (lv' := [(2, .ref (y.2 6 c1)), (0, .ref (y.2 0 0)), (1, .ref (q1))]) hx hb dX1_begin_183 rfl hl (by decide) rfl (fun ls hl => ?_)
      refine lv_aload_n hx hb dX1_begin_184 rfl (lv_at hl 0 rfl) ?_
      refine lv_aload_n hx hb dX1_begin_185 rfl (lv_at hl 1 rfl) ?_
      refine g0_4 hx hb hts hown hK hR l0 q251 dX1_begin_186 ?_
      refine ce_qv (fw := fun u => u) (fy := fun _ => y) (cr_V (n := 1) (As := [.ref (y.2 1 0)]) (rest := []) ⟨hx, hb, hml, hown, hts⟩ hK hR (m_X10_eat hW (hW.vil hn_175_b) hW.wor h) q1574 q1575 q1576 q92 q1577 rfl rfl hd_X10_eat ⟨Nat.le_of_ble_eq_true rfl, Nat.le_of_ble_eq_true rfl⟩ (rv hK hR (hW.vil hn_175_b) (ci := 6) rfl rfl) rfl rfl hl.1 rfl (lv_room (Nat.le_of_ble_eq_true rfl)) dX1_begin_189 ⟨(Nat.le_trans (show cells + 0 ≤ C1 from by omega) hC), (Nat.le_trans (show slots + 0 ≤ S1 from by omega) hSl)⟩) hR hS (fun w_189_b H locs h hR _ hS => ?_)
      refine lv_goto (tgt := 165) hx hb dX1_begin_192 (by decide) ?_
      exact ih w_189_b y (c1 + 1) (nI c1) _ _ _ _ _ hW hLe l0 (by omega) h hR hS (lv_sub hl [1, 2] rfl) (by omega) (by omega)
def st_X1_begin_212x2 (κ : Kx) (post : Wd → Ly → Prop) (ex : Wd → Ly → Prop) (rec : Wd → Ly → Nat → Int32 → Prop)  (w : Wd) (y : Ly) (c1 : Nat) (z1 : Int32) : Prop := ((¬ (¬ c1 = nV y)) → (ex w y )) ∧ (((¬ c1 = nV y)) → (sp_X10_sell κ y (fun w_236_b => rec w_236_b y (c1 + 1) (nI c1)) w c1))
def sp_X1_begin_212x2 (κ : Kx) (post : Wd → Ly → Prop) (ex : Wd → Ly → Prop)  : Nat → Wd → Ly → Nat → Int32 → Prop
  | 0 => fun _ _ _ _ => False
  | n + 1 => fun w y c1 z1 => st_X1_begin_212x2 κ post ex (sp_X1_begin_212x2 κ post ex  n)  w y c1 z1
set_option maxHeartbeats 4000000 in
theorem lp_X1_begin_212x2 {p : Program} {l : Launch} {e : Env} {s : State} {m : MethodId} {args : Array Value} {below : List Frame} {meth : Method} {c : Code} {κ : Kx} {y0 : Ly} {X : XR} {post : Wd → Ly → Prop} {q1 : Nat} (hx : p.tables.exec = Jvm.exec) (hb : c.code = cX1_begin) (hr : meth.sig.returnType = (Option.none : Option Jvm.ClassFile.FieldType)) (hml : c.maxLocals = 5) (hown : s.vm.findClass RX1 = some m.cls) (hts : ∀ w ∈ lw_all, w.before args s = true) (hlocks : meth.locks = false) (hK : KK κ s)   {C1 S1 : Nat} (hC : C1 ≤ 215) (hSl : S1 ≤ 778) {ex : Wd → Ly → Prop}
    (kx : ∀ (w : Wd) (y : Ly)  (H : Heap) (locs : List Loc) (ls : Array Slot) (cells slots : Nat) (hW : WFc κ y) (hLe : LeS y0 y) , ex w y  → Rp κ w y X [] H → va_S (Af κ) s.heap H locs → lv_has ls 5 [] → cells ≤ C1 → slots ≤ S1 → W p l e (headSpec (ws_ yX1_begin cX1_begin 5 (Option.none : Option Jvm.ClassFile.FieldType)) rm_X1_begin).room s m args below meth c H locs cells slots (MQ below (va_Qv (fun (u : Wd × Ly) => post u.1 u.2) (fun (u : Wd × Ly) t => Rp κ u.1 u.2 X [] t.heap ∧ WFc κ u.2 ∧ LeS y0 u.2) (Af κ)) args s 215 778 (Af κ)) (F0 m 242 ls [])) :
    ∀ (f : Nat) (w : Wd) (y : Ly) (c1 : Nat) (z1 : Int32) (H : Heap) (locs : List Loc) (ls : Array Slot) (cells slots : Nat) (hW : WFc κ y) (hLe : LeS y0 y) (l0 : live y 0 0) (hc1 : c1 ≤ nV y), sp_X1_begin_212x2 κ post ex  f w y c1 z1 → Rp κ w y X [(q1, itC y 40 0 c1 z1)] H → va_S (Af κ) s.heap H locs → lv_has ls 5 [(0, .ref (y.2 0 0)), (1, .ref (q1))] → cells + f * 0 ≤ C1 → slots + f * 0 ≤ S1 → W p l e (headSpec (ws_ yX1_begin cX1_begin 5 (Option.none : Option Jvm.ClassFile.FieldType)) rm_X1_begin).room s m args below meth c H locs cells slots (MQ below (va_Qv (fun (u : Wd × Ly) => post u.1 u.2) (fun (u : Wd × Ly) t => Rp κ u.1 u.2 X [] t.heap ∧ WFc κ u.2 ∧ LeS y0 u.2) (Af κ)) args s 215 778 (Af κ)) (F0 m 212 ls []) := by
  intro f
  induction f with
  | zero =>
    intro w y c1 z1 H locs ls cells slots hW hLe l0 hc1 h
    exact False.elim h
  | succ f ih =>
    intro w y c1 z1 H locs ls cells slots hW hLe l0 hc1 h hR hS hl hc hs
    have h : st_X1_begin_212x2 κ post ex (sp_X1_begin_212x2 κ post ex  f)  w y c1 z1 := h
    unfold st_X1_begin_212x2 at h
    refine lv_aload_n hx hb dX1_begin_212 rfl (lv_at hl 1 rfl) ?_
    refine jr_hasNext (t := 0) ⟨hx, hb, hml, hown, hts⟩ hK hR rfl ⟨fun _ _ _ _ _ => rfl, fun _ _ _ _ _ => rfl⟩ hW.lsV (by omega) (Nat.le_trans hW.nV8 (by decide)) q349 ⟨Nat.le_of_ble_eq_true rfl, Nat.le_of_ble_eq_true rfl⟩ hl.1 (Nat.le_of_ble_eq_true rfl) dX1_begin_213 ⟨(Nat.le_trans (show cells + 0 ≤ C1 from by omega) hC), (Nat.le_trans (show slots + 0 ≤ S1 from by omega) hSl)⟩ ?_
    refine lv_if_eq (tgt := 242) hx hb dX1_begin_218 (by decide) (fun c_218_b => ?_) (fun c_218_b => ?_)
    · replace c_218_b : ¬ (¬ c1 = nV y) := bi_0.mp c_218_b
      have h := h.1 c_218_b
      have hR := hR.sub (L' := []) [] rfl rfl
      exact kx w y  _ _ _ _ _ hW hLe h hR hS (lv_sub hl [] rfl) (by omega) (by omega)
    · replace c_218_b : (¬ c1 = nV y) := bi_n0.mp c_218_b
      have h := h.2 c_218_b
      refine lv_aload_n hx hb dX1_begin_221 rfl (lv_at hl 1 rfl) ?_
      have hn_222_b : c1 < nV y := by omega
      refine jr_next (t := 0) (a := y.2 6 c1) ⟨hx, hb, hml, hown, hts⟩ hK hR hS rfl ⟨fun _ _ _ _ _ => rfl, fun _ _ _ _ _ => rfl⟩ hW.lsV ⟨hW.arV (Nat.lt_of_le_of_lt (Nat.zero_le _) hn_222_b), (Nat.le_trans hW.nV8 (by decide))⟩ hn_222_b (hW.elV hn_222_b) q359 ⟨Nat.le_of_ble_eq_true rfl, Nat.le_of_ble_eq_true rfl⟩ hl.1 (Nat.le_of_ble_eq_true rfl) dX1_begin_222 ⟨(Nat.le_trans (show cells + 0 ≤ C1 from by omega) hC), (Nat.le_trans (show slots + 0 ≤ S1 from by omega) hSl)⟩ (fun H locs hR hS => ?_)
      have hR : Rp κ w y X [(q1, itC y 40 0 (c1 + 1) (nI c1))] H := hR
      refine jr_castS (ci := 6) hx hb hown hK hts (hR.role (hW.vil hn_222_b)) rfl q496 dX1_begin_227 ?_
      refine lv_astore_n (lv' := [(2, .ref (y.2 6 c1)), (0, .ref (y.2 0 0)), (1, .ref (q1))]) hx hb dX1_begin_230 rfl hl (by decide) rfl (fun ls hl => ?_)
      refine lv_aload_n hx hb dX1_begin_231 rfl (lv_at hl 0 rfl) ?_
      refine lv_aload_n hx hb dX1_begin_232 rfl (lv_at hl 1 rfl) ?_
      refine g0_4 hx hb hts hown hK hR l0 q251 dX1_begin_233 ?_
      refine ce_qv (fw := fun u => u) (fy := fun _ => y) (cr_V (n := 1) (As := [.ref (y.2 1 0)]) (rest := []) ⟨hx, hb, hml, hown, hts⟩ hK hR (m_X10_sell hW (hW.vil hn_222_b) hW.wor h) q1585 q1586 q1587 q92 q1588 rfl rfl hd_X10_sell ⟨Nat.le_of_ble_eq_true rfl, Nat.le_of_ble_eq_true rfl⟩ (rv hK hR (hW.vil hn_222_b) (ci := 6) rfl rfl) rfl rfl hl.1 rfl (lv_room (Nat.le_of_ble_eq_true rfl)) dX1_begin_236 ⟨(Nat.le_trans (show cells + 0 ≤ C1 from by omega) hC), (Nat.le_trans (show slots + 0 ≤ S1 from by omega) hSl)⟩) hR hS (fun w_236_b H locs h hR _ hS => ?_)
      refine lv_goto (tgt := 212) hx hb dX1_begin_239 (by decide) ?_
      exact ih w_236_b y (c1 + 1) (nI c1) _ _ _ _ _ hW hLe l0 (by omega) h hR hS (lv_sub hl [1, 2] rfl) (by omega) (by omega)
def st_X1_begin_165x3 (κ : Kx) (post : Wd → Ly → Prop) (ex : Wd → Ly → Prop) (rec : Wd → Ly → Nat → Int32 → Prop)  (w : Wd) (y : Ly) (c1 : Nat) (z1 : Int32) : Prop := ((¬ (¬ c1 = nV y)) → (ex w y )) ∧ (((¬ c1 = nV y)) → (sp_X10_eat κ y (fun w_189_c => rec w_189_c y (c1 + 1) (nI c1)) w c1))
def sp_X1_begin_165x3 (κ : Kx) (post : Wd → Ly → Prop) (ex : Wd → Ly → Prop)  : Nat → Wd → Ly → Nat → Int32 → Prop
  | 0 => fun _ _ _ _ => False
  | n + 1 => fun w y c1 z1 => st_X1_begin_165x3 κ post ex (sp_X1_begin_165x3 κ post ex  n)  w y c1 z1
set_option maxHeartbeats 4000000 in
theorem lp_X1_begin_165x3 {p : Program} {l : Launch} {e : Env} {s : State} {m : MethodId} {args : Array Value} {below : List Frame} {meth : Method} {c : Code} {κ : Kx} {y0 : Ly} {X : XR} {post : Wd → Ly → Prop} {q1 : Nat} (hx : p.tables.exec = Jvm.exec) (hb : c.code = cX1_begin) (hr : meth.sig.returnType = (Option.none : Option Jvm.ClassFile.FieldType)) (hml : c.maxLocals = 5) (hown : s.vm.findClass RX1 = some m.cls) (hts : ∀ w ∈ lw_all, w.before args s = true) (hlocks : meth.locks = false) (hK : KK κ s)   {C1 S1 : Nat} (hC : C1 ≤ 215) (hSl : S1 ≤ 778) {ex : Wd → Ly → Prop}
    (kx : ∀ (w : Wd) (y : Ly)  (H : Heap) (locs : List Loc) (ls : Array Slot) (cells slots : Nat) (hW : WFc κ y) (hLe : LeS y0 y) , ex w y  → Rp κ w y X [] H → va_S (Af κ) s.heap H locs → lv_has ls 5 [(0, .ref (y.2 0 0))] → cells ≤ C1 → slots ≤ S1 → W p l e (headSpec (ws_ yX1_begin cX1_begin 5 (Option.none : Option Jvm.ClassFile.FieldType)) rm_X1_begin).room s m args below meth c H locs cells slots (MQ below (va_Qv (fun (u : Wd × Ly) => post u.1 u.2) (fun (u : Wd × Ly) t => Rp κ u.1 u.2 X [] t.heap ∧ WFc κ u.2 ∧ LeS y0 u.2) (Af κ)) args s 215 778 (Af κ)) (F0 m 195 ls [])) :
    ∀ (f : Nat) (w : Wd) (y : Ly) (c1 : Nat) (z1 : Int32) (H : Heap) (locs : List Loc) (ls : Array Slot) (cells slots : Nat) (hW : WFc κ y) (hLe : LeS y0 y) (l0 : live y 0 0) (hc1 : c1 ≤ nV y), sp_X1_begin_165x3 κ post ex  f w y c1 z1 → Rp κ w y X [(q1, itC y 40 0 c1 z1)] H → va_S (Af κ) s.heap H locs → lv_has ls 5 [(0, .ref (y.2 0 0)), (1, .ref (q1))] → cells + f * 0 ≤ C1 → slots + f * 0 ≤ S1 → W p l e (headSpec (ws_ yX1_begin cX1_begin 5 (Option.none : Option Jvm.ClassFile.FieldType)) rm_X1_begin).room s m args below meth c H locs cells slots (MQ below (va_Qv (fun (u : Wd × Ly) => post u.1 u.2) (fun (u : Wd × Ly) t => Rp κ u.1 u.2 X [] t.heap ∧ WFc κ u.2 ∧ LeS y0 u.2) (Af κ)) args s 215 778 (Af κ)) (F0 m 165 ls []) := by
  intro f
  induction f with
  | zero =>
    intro w y c1 z1 H locs ls cells slots hW hLe l0 hc1 h
    exact False.elim h
  | succ f ih =>
    intro w y c1 z1 H locs ls cells slots hW hLe l0 hc1 h hR hS hl hc hs
    have h : st_X1_begin_165x3 κ post ex (sp_X1_begin_165x3 κ post ex  f)  w y c1 z1 := h
    unfold st_X1_begin_165x3 at h
    refine lv_aload_n hx hb dX1_begin_165 rfl (lv_at hl 1 rfl) ?_
    refine jr_hasNext (t := 0) ⟨hx, hb, hml, hown, hts⟩ hK hR rfl ⟨fun _ _ _ _ _ => rfl, fun _ _ _ _ _ => rfl⟩ hW.lsV (by omega) (Nat.le_trans hW.nV8 (by decide)) q349 ⟨Nat.le_of_ble_eq_true rfl, Nat.le_of_ble_eq_true rfl⟩ hl.1 (Nat.le_of_ble_eq_true rfl) dX1_begin_166 ⟨(Nat.le_trans (show cells + 0 ≤ C1 from by omega) hC), (Nat.le_trans (show slots + 0 ≤ S1 from by omega) hSl)⟩ ?_
    refine lv_if_eq (tgt := 195) hx hb dX1_begin_171 (by decide) (fun c_171_c => ?_) (fun c_171_c => ?_)
    · replace c_171_c : ¬ (¬ c1 = nV y) := bi_0.mp c_171_c
      have h := h.1 c_171_c
      have hR := hR.sub (L' := []) [] rfl rfl
      exact kx w y  _ _ _ _ _ hW hLe h hR hS (lv_sub hl [0] rfl) (by omega) (by omega)
    · replace c_171_c : (¬ c1 = nV y) := bi_n0.mp c_171_c
      have h := h.2 c_171_c
      refine lv_aload_n hx hb dX1_begin_174 rfl (lv_at hl 1 rfl) ?_
      have hn_175_c : c1 < nV y := by omega
      refine jr_next (t := 0) (a := y.2 6 c1) ⟨hx, hb, hml, hown, hts⟩ hK hR hS rfl ⟨fun _ _ _ _ _ => rfl, fun _ _ _ _ _ => rfl⟩ hW.lsV ⟨hW.arV (Nat.lt_of_le_of_lt (Nat.zero_le _) hn_175_c), (Nat.le_trans hW.nV8 (by decide))⟩ hn_175_c (hW.elV hn_175_c) q359 ⟨Nat.le_of_ble_eq_true rfl, Nat.le_of_ble_eq_true rfl⟩ hl.1 (Nat.le_of_ble_eq_true rfl) dX1_begin_175 ⟨(Nat.le_trans (show cells + 0 ≤ C1 from by omega) hC), (Nat.le_trans (show slots + 0 ≤ S1 from by omega) hSl)⟩ (fun H locs hR hS => ?_)
      have hR : Rp κ w y X [(q1, itC y 40 0 (c1 + 1) (nI c1))] H := hR
      refine jr_castS (ci := 6) hx hb hown hK hts (hR.role (hW.vil hn_175_c)) rfl q496 dX1_begin_180 ?_
      refine lv_astore_n (lv' := [(2, .ref (y.2 6 c1)), (0, .ref (y.2 0 0)), (1, .ref (q1))]) hx hb dX1_begin_183 rfl hl (by decide) rfl (fun ls hl => ?_)
      refine lv_aload_n hx hb dX1_begin_184 rfl (lv_at hl 0 rfl) ?_
      refine lv_aload_n hx hb dX1_begin_185 rfl (lv_at hl 1 rfl) ?_
      refine g0_4 hx hb hts hown hK hR l0 q251 dX1_begin_186 ?_
      refine ce_qv (fw := fun u => u) (fy := fun _ => y) (cr_V (n := 1) (As := [.ref (y.2 1 0)]) (rest := []) ⟨hx, hb, hml, hown, hts⟩ hK hR (m_X10_eat hW (hW.vil hn_175_c) hW.wor h) q1574 q1575 q1576 q92 q1577 rfl rfl hd_X10_eat ⟨Nat.le_of_ble_eq_true rfl, Nat.le_of_ble_eq_true rfl⟩ (rv hK hR (hW.vil hn_175_c) (ci := 6) rfl rfl) rfl rfl hl.1 rfl (lv_room (Nat.le_of_ble_eq_true rfl)) dX1_begin_189 ⟨(Nat.le_trans (show cells + 0 ≤ C1 from by omega) hC), (Nat.le_trans (show slots + 0 ≤ S1 from by omega) hSl)⟩) hR hS (fun w_189_c H locs h hR _ hS => ?_)
      refine lv_goto (tgt := 165) hx hb dX1_begin_192 (by decide) ?_
      exact ih w_189_c y (c1 + 1) (nI c1) _ _ _ _ _ hW hLe l0 (by omega) h hR hS (lv_sub hl [1, 2] rfl) (by omega) (by omega)
def st_X1_begin_212x3 (κ : Kx) (post : Wd → Ly → Prop) (ex : Wd → Ly → Prop) (rec : Wd → Ly → Nat → Int32 → Prop)  (w : Wd) (y : Ly) (c1 : Nat) (z1 : Int32) : Prop := ((¬ (¬ c1 = nV y)) → (ex w y )) ∧ (((¬ c1 = nV y)) → (sp_X10_sell κ y (fun w_236_c => rec w_236_c y (c1 + 1) (nI c1)) w c1))
def sp_X1_begin_212x3 (κ : Kx) (post : Wd → Ly → Prop) (ex : Wd → Ly → Prop)  : Nat → Wd → Ly → Nat → Int32 → Prop
  | 0 => fun _ _ _ _ => False
  | n + 1 => fun w y c1 z1 => st_X1_begin_212x3 κ post ex (sp_X1_begin_212x3 κ post ex  n)  w y c1 z1
set_option maxHeartbeats 4000000 in
theorem lp_X1_begin_212x3 {p : Program} {l : Launch} {e : Env} {s : State} {m : MethodId} {args : Array Value} {below : List Frame} {meth : Method} {c : Code} {κ : Kx} {y0 : Ly} {X : XR} {post : Wd → Ly → Prop} {q1 : Nat} (hx : p.tables.exec = Jvm.exec) (hb : c.code = cX1_begin) (hr : meth.sig.returnType = (Option.none : Option Jvm.ClassFile.FieldType)) (hml : c.maxLocals = 5) (hown : s.vm.findClass RX1 = some m.cls) (hts : ∀ w ∈ lw_all, w.before args s = true) (hlocks : meth.locks = false) (hK : KK κ s)   {C1 S1 : Nat} (hC : C1 ≤ 215) (hSl : S1 ≤ 778) {ex : Wd → Ly → Prop}
    (kx : ∀ (w : Wd) (y : Ly)  (H : Heap) (locs : List Loc) (ls : Array Slot) (cells slots : Nat) (hW : WFc κ y) (hLe : LeS y0 y) , ex w y  → Rp κ w y X [] H → va_S (Af κ) s.heap H locs → lv_has ls 5 [] → cells ≤ C1 → slots ≤ S1 → W p l e (headSpec (ws_ yX1_begin cX1_begin 5 (Option.none : Option Jvm.ClassFile.FieldType)) rm_X1_begin).room s m args below meth c H locs cells slots (MQ below (va_Qv (fun (u : Wd × Ly) => post u.1 u.2) (fun (u : Wd × Ly) t => Rp κ u.1 u.2 X [] t.heap ∧ WFc κ u.2 ∧ LeS y0 u.2) (Af κ)) args s 215 778 (Af κ)) (F0 m 242 ls [])) :
    ∀ (f : Nat) (w : Wd) (y : Ly) (c1 : Nat) (z1 : Int32) (H : Heap) (locs : List Loc) (ls : Array Slot) (cells slots : Nat) (hW : WFc κ y) (hLe : LeS y0 y) (l0 : live y 0 0) (hc1 : c1 ≤ nV y), sp_X1_begin_212x3 κ post ex  f w y c1 z1 → Rp κ w y X [(q1, itC y 40 0 c1 z1)] H → va_S (Af κ) s.heap H locs → lv_has ls 5 [(0, .ref (y.2 0 0)), (1, .ref (q1))] → cells + f * 0 ≤ C1 → slots + f * 0 ≤ S1 → W p l e (headSpec (ws_ yX1_begin cX1_begin 5 (Option.none : Option Jvm.ClassFile.FieldType)) rm_X1_begin).room s m args below meth c H locs cells slots (MQ below (va_Qv (fun (u : Wd × Ly) => post u.1 u.2) (fun (u : Wd × Ly) t => Rp κ u.1 u.2 X [] t.heap ∧ WFc κ u.2 ∧ LeS y0 u.2) (Af κ)) args s 215 778 (Af κ)) (F0 m 212 ls []) := by
  intro f
  induction f with
  | zero =>
    intro w y c1 z1 H locs ls cells slots hW hLe l0 hc1 h
    exact False.elim h
  | succ f ih =>
    intro w y c1 z1 H locs ls cells slots hW hLe l0 hc1 h hR hS hl hc hs
    have h : st_X1_begin_212x3 κ post ex (sp_X1_begin_212x3 κ post ex  f)  w y c1 z1 := h
    unfold st_X1_begin_212x3 at h
    refine lv_aload_n hx hb dX1_begin_212 rfl (lv_at hl 1 rfl) ?_
    refine jr_hasNext (t := 0) ⟨hx, hb, hml, hown, hts⟩ hK hR rfl ⟨fun _ _ _ _ _ => rfl, fun _ _ _ _ _ => rfl⟩ hW.lsV (by omega) (Nat.le_trans hW.nV8 (by decide)) q349 ⟨Nat.le_of_ble_eq_true rfl, Nat.le_of_ble_eq_true rfl⟩ hl.1 (Nat.le_of_ble_eq_true rfl) dX1_begin_213 ⟨(Nat.le_trans (show cells + 0 ≤ C1 from by omega) hC), (Nat.le_trans (show slots + 0 ≤ S1 from by omega) hSl)⟩ ?_
    refine lv_if_eq (tgt := 242) hx hb dX1_begin_218 (by decide) (fun c_218_c => ?_) (fun c_218_c => ?_)
    · replace c_218_c : ¬ (¬ c1 = nV y) := bi_0.mp c_218_c
      have h := h.1 c_218_c
      have hR := hR.sub (L' := []) [] rfl rfl
      exact kx w y  _ _ _ _ _ hW hLe h hR hS (lv_sub hl [] rfl) (by omega) (by omega)
    · replace c_218_c : (¬ c1 = nV y) := bi_n0.mp c_218_c
      have h := h.2 c_218_c
      refine lv_aload_n hx hb dX1_begin_221 rfl (lv_at hl 1 rfl) ?_
      have hn_222_c : c1 < nV y := by omega
      refine jr_next (t := 0) (a := y.2 6 c1) ⟨hx, hb, hml, hown, hts⟩ hK hR hS rfl ⟨fun _ _ _ _ _ => rfl, fun _ _ _ _ _ => rfl⟩ hW.lsV ⟨hW.arV (Nat.lt_of_le_of_lt (Nat.zero_le _) hn_222_c), (Nat.le_trans hW.nV8 (by decide))⟩ hn_222_c (hW.elV hn_222_c) q359 ⟨Nat.le_of_ble_eq_true rfl, Nat.le_of_ble_eq_true rfl⟩ hl.1 (Nat.le_of_ble_eq_true rfl) dX1_begin_222 ⟨(Nat.le_trans (show cells + 0 ≤ C1 from by omega) hC), (Nat.le_trans (show slots + 0 ≤ S1 from by omega) hSl)⟩ (fun H locs hR hS => ?_)
      have hR : Rp κ w y X [(q1, itC y 40 0 (c1 + 1) (nI c1))] H := hR
      refine jr_castS (ci := 6) hx hb hown hK hts (hR.role (hW.vil hn_222_c)) rfl q496 dX1_begin_227 ?_
      refine lv_astore_n (lv' := [(2, .ref (y.2 6 c1)), (0, .ref (y.2 0 0)), (1, .ref (q1))]) hx hb dX1_begin_230 rfl hl (by decide) rfl (fun ls hl => ?_)
      refine lv_aload_n hx hb dX1_begin_231 rfl (lv_at hl 0 rfl) ?_
      refine lv_aload_n hx hb dX1_begin_232 rfl (lv_at hl 1 rfl) ?_
      refine g0_4 hx hb hts hown hK hR l0 q251 dX1_begin_233 ?_
      refine ce_qv (fw := fun u => u) (fy := fun _ => y) (cr_V (n := 1) (As := [.ref (y.2 1 0)]) (rest := []) ⟨hx, hb, hml, hown, hts⟩ hK hR (m_X10_sell hW (hW.vil hn_222_c) hW.wor h) q1585 q1586 q1587 q92 q1588 rfl rfl hd_X10_sell ⟨Nat.le_of_ble_eq_true rfl, Nat.le_of_ble_eq_true rfl⟩ (rv hK hR (hW.vil hn_222_c) (ci := 6) rfl rfl) rfl rfl hl.1 rfl (lv_room (Nat.le_of_ble_eq_true rfl)) dX1_begin_236 ⟨(Nat.le_trans (show cells + 0 ≤ C1 from by omega) hC), (Nat.le_trans (show slots + 0 ≤ S1 from by omega) hSl)⟩) hR hS (fun w_236_c H locs h hR _ hS => ?_)
      refine lv_goto (tgt := 212) hx hb dX1_begin_239 (by decide) ?_
      exact ih w_236_c y (c1 + 1) (nI c1) _ _ _ _ _ hW hLe l0 (by omega) h hR hS (lv_sub hl [1, 2] rfl) (by omega) (by omega)
def sp_X1_begin (κ : Kx) (y : Ly) (post : Wd → Ly → Prop) (w : Wd)  : Prop := ∀ w_7 : Wd, w_7 = sv w 0 0 8 ((gv w 0 0 8) + (1 : Int32)) → sp_X1_part κ y (fun r_11 w_11 => (r_11 = (0 : Int32) → (sp_X1_spring κ y (fun w_41 => sp_X1_begin_165 κ post (fun w_165 y_165  => sp_X1_part κ y_165 (fun r_196 w_196 => ((r_196 = (3 : Int32)) → (sp_X1_begin_212 κ post (fun w_212 y_212  => post w_212 y_212)  9 w_196 y_165 0 (-1))) ∧ ((¬ (r_196 = (3 : Int32))) → (post w_196 y_165))) w_165 )  9 w_41 y 0 (-1)) w_11 )) ∧ (r_11 = (1 : Int32) → (sp_X1_begin_55 κ post (fun w_55 y_55  => sp_X1_begin_165x1 κ post (fun w_165_a y_165_a  => sp_X1_part κ y_165_a (fun r_196_a w_196_a => ((r_196_a = (3 : Int32)) → (sp_X1_begin_212x1 κ post (fun w_212_a y_212_a  => post w_212_a y_212_a)  9 w_196_a y_165_a 0 (-1))) ∧ ((¬ (r_196_a = (3 : Int32))) → (post w_196_a y_165_a))) w_165_a )  9 w_55 y_55 0 (-1))  9 w_11 y 0 (-1))) ∧ (r_11 = (2 : Int32) → (sp_X1_begin_96 κ post (fun w_96 y_96  => ∀ x_129 : Int32, x_129 = nI 3 → sp_X1_begin_132 κ post (fun w_132 y_132  => sp_X1_begin_165x2 κ post (fun w_165_b y_165_b  => sp_X1_part κ y_165_b (fun r_196_b w_196_b => ((r_196_b = (3 : Int32)) → (sp_X1_begin_212x2 κ post (fun w_212_b y_212_b  => post w_212_b y_212_b)  9 w_196_b y_165_b 0 (-1))) ∧ ((¬ (r_196_b = (3 : Int32))) → (post w_196_b y_165_b))) w_165_b )  9 w_132 y_132 0 (-1)) x_129 4 w_96 y_96 (0 : Int32))  9 w_11 y 0 (-1))) ∧ (¬ r_11 = (0 : Int32) → ¬ r_11 = (1 : Int32) → ¬ r_11 = (2 : Int32) → (sp_X1_begin_165x3 κ post (fun w_165_c y_165_c  => sp_X1_part κ y_165_c (fun r_196_c w_196_c => ((r_196_c = (3 : Int32)) → (sp_X1_begin_212x3 κ post (fun w_212_c y_212_c  => post w_212_c y_212_c)  9 w_196_c y_165_c 0 (-1))) ∧ ((¬ (r_196_c = (3 : Int32))) → (post w_196_c y_165_c))) w_165_c )  9 w_11 y 0 (-1)))) w_7 
theorem hd_X1_begin : yX1_begin.cls = RX1 ∧ yX1_begin.cls ≠ "java/lang/invoke/MethodHandle" ∧ yX1_begin.cls ≠ "java/lang/invoke/VarHandle" ∧ (parseMethodDescriptor yX1_begin.desc).map (fun d => d.parameters.length) = some 0 := by decide +kernel
set_option maxHeartbeats 4000000 in
theorem m_X1_begin {l : Launch} {κ : Kx} {y : Ly} {X : XR} {post : Wd → Ly → Prop} {w : Wd}   (hW : WFc κ y) (l0 : live y 0 0) (h : sp_X1_begin κ y post w ) : Met l yX1_begin (ws_ yX1_begin cX1_begin 5 (Option.none : Option Jvm.ClassFile.FieldType)) rm_X1_begin (va_Pc [.ref (y.2 0 0)] (RC κ w y X)) (va_Qv (fun (u : Wd × Ly) => post u.1 u.2) (fun (u : Wd × Ly) t => Rp κ u.1 u.2 X [] t.heap ∧ WFc κ u.2 ∧ LeS y u.2) (Af κ)) 215 778 (Af κ) := by
  unfold sp_X1_begin at h
  refine Met.ofW (cc := cX1_begin) (maxL := 5) (ret := (Option.none : Option Jvm.ClassFile.FieldType)) (by decide) rfl ?_
  intro p e s m args below meth c s₁ B hml hv
  obtain ⟨rfl, hR, hK⟩ := hv
  have hx := B.exec
  have hb := B.bytes
  have hr := B.returns
  have hts := atoms_spec (ws := ws_ yX1_begin cX1_begin 5 (Option.none : Option Jvm.ClassFile.FieldType)) B.pre
  have hts : ∀ w ∈ lw_all, w.before _ s = true := fun w h => hts w (List.mem_cons_of_mem _ h)
  have hown : s.vm.findClass RX1 = some m.cls := findClass_of_methodNamed B.named
  have hlocks := B.notSynchronized
  have hLe : LeS y y := LeS.rf
  have hS : va_S (Af κ) s.heap s.heap [] := va_S.rf
  have hl := lv_entry ([.ref (y.2 0 0)]) (n := 5) (Nat.le_of_ble_eq_true rfl)
  rw [lg_entry_eq]
  generalize (lg_sl ([.ref (y.2 0 0)]) ++ List.replicate (5 - (lg_sl ([.ref (y.2 0 0)])).length) Slot.unset).toArray = ls at hl ⊢
  have hl : lv_has ls 5 [(0, .ref (y.2 0 0))] := hl
  refine lv_aload_n hx hb dX1_begin_0 rfl (lv_at hl 0 rfl) ?_
  refine lv_dup hx hb dX1_begin_1 rfl ?_
  refine g0_8 hx hb hts hown hK hR l0 q255 dX1_begin_2 ?_
  refine lv_iconst (v := (1 : Int32)) hx hb dX1_begin_5 (by decide) ?_
  refine lv_iadd hx hb dX1_begin_6 ?_
  refine p0_8 hx hb hts hown hK hR hS l0 q255 dX1_begin_7 (fun H locs w_7 ew_7 hR hS => ?_)
  have h := h w_7 ew_7
  refine lv_aload_n hx hb dX1_begin_10 rfl (lv_at hl 0 rfl) ?_
  refine ce_qi (fw := fun u => u) (fy := fun _ => y) (cr_V (n := 0) (As := []) (rest := []) ⟨hx, hb, hml, hown, hts⟩ hK hR (m_X1_part hW l0 h) q1479 q1481 qs29 q74 q1482 rfl rfl hd_X1_part ⟨Nat.le_of_ble_eq_true rfl, Nat.le_of_ble_eq_true rfl⟩ (rv hK hR l0 (ci := 0) rfl rfl) rfl rfl hl.1 rfl (lv_room (Nat.le_of_ble_eq_true rfl)) dX1_begin_11 ⟨(Nat.le_of_ble_eq_true rfl), (Nat.le_of_ble_eq_true rfl)⟩) hR hS (fun r_11 w_11 H locs h hR _ hS => ?_)
  by_cases c_14 : r_11 = (0 : Int32)
  · have h := h.1 c_14
    refine lv_tableIn (off := 26) (tgt := 40) hx hb dX1_begin_14 (by rw [c_14]; decide) (by rw [c_14]; decide) (by rw [c_14]; rfl) (by decide) ?_
    refine lv_aload_n hx hb dX1_begin_40 rfl (lv_at hl 0 rfl) ?_
    refine ce_qv (fw := fun u => u) (fy := fun _ => y) (cr_V (n := 0) (As := []) (rest := []) ⟨hx, hb, hml, hown, hts⟩ hK hR (m_X1_spring hW l0 h) q1513 q1515 qs31 q74 q1516 rfl rfl hd_X1_spring ⟨Nat.le_of_ble_eq_true rfl, Nat.le_of_ble_eq_true rfl⟩ (rv hK hR l0 (ci := 0) rfl rfl) rfl rfl hl.1 rfl (lv_room (Nat.le_of_ble_eq_true rfl)) dX1_begin_41 ⟨(Nat.le_of_ble_eq_true rfl), (Nat.le_of_ble_eq_true rfl)⟩) hR hS (fun w_41 H locs h hR _ hS => ?_)
    refine lv_goto (tgt := 157) hx hb dX1_begin_44 (by decide) ?_
    refine lv_aload_n hx hb dX1_begin_157 rfl (lv_at hl 0 rfl) ?_
    refine g0_0 hx hb hts hown hK hR l0 q247 dX1_begin_158 ?_
    refine jr_iter ⟨hx, hb, hml, hown, hts⟩ hK hR hS ⟨fun _ _ _ _ _ => rfl, fun _ _ _ _ _ => rfl⟩ hW.lsV q325 ⟨Nat.le_of_ble_eq_true rfl, Nat.le_of_ble_eq_true rfl⟩ hl.1 (Nat.le_of_ble_eq_true rfl) dX1_begin_161 ⟨(Nat.le_of_ble_eq_true rfl), (Nat.le_of_ble_eq_true rfl)⟩ (fun q_161 H locs hR hS => ?_)
    have hR : Rp κ w_41 y X [(q_161, itC y 40 0 0 (-1))] H := hR
    refine lv_astore_n (lv' := [(1, .ref (q_161)), (0, .ref (y.2 0 0))]) hx hb dX1_begin_164 rfl hl (by decide) rfl (fun ls hl => ?_)
    have lv_165 := l0
    have lv_165_a := hW.lsV
    have lv_165_b := l0
    refine lp_X1_begin_165 (C1 := 12) (S1 := 48) hx hb hr hml hown hts hlocks hK  (Nat.le_of_ble_eq_true rfl) (Nat.le_of_ble_eq_true rfl) (fun w_165 y_165  H locs ls cells9 slots9 hW_y_165 hLe_y_165 h hR hS hl hc9 hs9 => ?_) 9 w_41 y 0 (-1) _ _ _ _ _ hW hLe l0 (by omega) h hR hS (lv_sub hl [1, 0] rfl) (by omega) (by omega)
    have hL1_y_165 := hLe.symm.trans hLe_y_165
    refine W.widen (k := 12) (n := 48) hc9 hs9 ?_
    have lw_165 := hL1_y_165.live (k := 0) rfl lv_165
    refine lv_aload_n hx hb dX1_begin_195 rfl (lv_at hl 0 rfl) ?_
    refine ce_qi (fw := fun u => u) (fy := fun _ => y_165) (cr_V (n := 0) (As := []) (rest := []) ⟨hx, hb, hml, hown, hts⟩ hK hR (m_X1_part hW_y_165 lw_165 h) q1479 q1481 qs29 q74 q1482 rfl rfl hd_X1_part ⟨Nat.le_of_ble_eq_true rfl, Nat.le_of_ble_eq_true rfl⟩ (rv hK hR lw_165 (ci := 0) rfl rfl) rfl rfl hl.1 rfl (lv_room (Nat.le_of_ble_eq_true rfl)) dX1_begin_196 ⟨(Nat.le_of_ble_eq_true rfl), (Nat.le_of_ble_eq_true rfl)⟩) hR hS (fun r_196 w_196 H locs h hR _ hS => ?_)
    refine lv_iconst (v := (3 : Int32)) hx hb dX1_begin_199 (by decide) ?_
    refine lv_icmp_eq (tgt := 204) hx hb dX1_begin_200 (by decide) (fun c_200 => ?_) (fun c_200 => ?_)
    · have h := h.1 c_200
      refine lv_aload_n hx hb dX1_begin_204 rfl (lv_at hl 0 rfl) ?_
      refine g0_0 hx hb hts hown hK hR lw_165 q247 dX1_begin_205 ?_
      refine jr_iter ⟨hx, hb, hml, hown, hts⟩ hK hR hS ⟨fun _ _ _ _ _ => rfl, fun _ _ _ _ _ => rfl⟩ hW_y_165.lsV q325 ⟨Nat.le_of_ble_eq_true rfl, Nat.le_of_ble_eq_true rfl⟩ hl.1 (Nat.le_of_ble_eq_true rfl) dX1_begin_208 ⟨(Nat.le_of_ble_eq_true rfl), (Nat.le_of_ble_eq_true rfl)⟩ (fun q_208 H locs hR hS => ?_)
      have hR : Rp κ w_196 y_165 X [(q_208, itC y_165 40 0 0 (-1))] H := hR
      refine lv_astore_n (lv' := [(1, .ref (q_208)), (0, .ref (y_165.2 0 0))]) hx hb dX1_begin_211 rfl hl (by decide) rfl (fun ls hl => ?_)
      have lv_212 := lw_165
      have lv_212_a := hW_y_165.lsV
      have lv_212_b := lw_165
      refine lp_X1_begin_212 (C1 := 13) (S1 := 52) hx hb hr hml hown hts hlocks hK  (Nat.le_of_ble_eq_true rfl) (Nat.le_of_ble_eq_true rfl) (fun w_212 y_212  H locs ls cells9 slots9 hW_y_212 hLe_y_212 h hR hS hl hc9 hs9 => ?_) 9 w_196 y_165 0 (-1) _ _ _ _ _ hW_y_165 hLe_y_165 lw_165 (by omega) h hR hS (lv_sub hl [1, 0] rfl) (by omega) (by omega)
      have hL1_y_212 := hLe_y_165.symm.trans hLe_y_212
      refine W.widen (k := 13) (n := 52) hc9 hs9 ?_
      refine W.widen (k := 215) (n := 778) (Nat.le_of_ble_eq_true rfl) (Nat.le_of_ble_eq_true rfl) ?_
      exact W.vret hx hb hr (fun t ht hW9 => ⟨⟨(w_212, y_212), rfl, h, ⟨rpt ht hR, hW_y_212, hLe_y_212⟩⟩, hS.F ht⟩) hS.2.2 dX1_begin_242
    · have h := h.2 c_200
      refine W.widen (k := 215) (n := 778) (Nat.le_of_ble_eq_true rfl) (Nat.le_of_ble_eq_true rfl) ?_
      exact W.vret hx hb hr (fun t ht hW9 => ⟨⟨(w_196, y_165), rfl, h, ⟨rpt ht hR, hW_y_165, hLe_y_165⟩⟩, hS.F ht⟩) hS.2.2 dX1_begin_203
  replace h := h.2
  by_cases c_14_a : r_11 = (1 : Int32)
  · have h := h.1 c_14_a
    refine lv_tableIn (off := 33) (tgt := 47) hx hb dX1_begin_14 (by rw [c_14_a]; decide) (by rw [c_14_a]; decide) (by rw [c_14_a]; rfl) (by decide) ?_
    refine lv_aload_n hx hb dX1_begin_47 rfl (lv_at hl 0 rfl) ?_
    refine g0_0 hx hb hts hown hK hR l0 q247 dX1_begin_48 ?_
    refine jr_iter ⟨hx, hb, hml, hown, hts⟩ hK hR hS ⟨fun _ _ _ _ _ => rfl, fun _ _ _ _ _ => rfl⟩ hW.lsV q325 ⟨Nat.le_of_ble_eq_true rfl, Nat.le_of_ble_eq_true rfl⟩ hl.1 (Nat.le_of_ble_eq_true rfl) dX1_begin_51 ⟨(Nat.le_of_ble_eq_true rfl), (Nat.le_of_ble_eq_true rfl)⟩ (fun q_51 H locs hR hS => ?_)
    have hR : Rp κ w_11 y X [(q_51, itC y 40 0 0 (-1))] H := hR
    refine lv_astore_n (lv' := [(1, .ref (q_51)), (0, .ref (y.2 0 0))]) hx hb dX1_begin_54 rfl hl (by decide) rfl (fun ls hl => ?_)
    have lv_55 := l0
    have lv_55_a := hW.lsV
    have lv_55_b := l0
    refine lp_X1_begin_55 (C1 := 1) (S1 := 4) hx hb hr hml hown hts hlocks hK  (Nat.le_of_ble_eq_true rfl) (Nat.le_of_ble_eq_true rfl) (fun w_55 y_55  H locs ls cells9 slots9 hW_y_55 hLe_y_55 h hR hS hl hc9 hs9 => ?_) 9 w_11 y 0 (-1) _ _ _ _ _ hW hLe l0 (by omega) h hR hS (lv_sub hl [1, 0] rfl) (by omega) (by omega)
    have hL1_y_55 := hLe.symm.trans hLe_y_55
    refine W.widen (k := 1) (n := 4) hc9 hs9 ?_
    have lw_55 := hL1_y_55.live (k := 0) rfl lv_55
    refine lv_goto (tgt := 157) hx hb dX1_begin_85 (by decide) ?_
    refine lv_aload_n hx hb dX1_begin_157 rfl (lv_at hl 0 rfl) ?_
    refine g0_0 hx hb hts hown hK hR lw_55 q247 dX1_begin_158 ?_
    refine jr_iter ⟨hx, hb, hml, hown, hts⟩ hK hR hS ⟨fun _ _ _ _ _ => rfl, fun _ _ _ _ _ => rfl⟩ hW_y_55.lsV q325 ⟨Nat.le_of_ble_eq_true rfl, Nat.le_of_ble_eq_true rfl⟩ hl.1 (Nat.le_of_ble_eq_true rfl) dX1_begin_161 ⟨(Nat.le_of_ble_eq_true rfl), (Nat.le_of_ble_eq_true rfl)⟩ (fun q_161_a H locs hR hS => ?_)
    have hR : Rp κ w_55 y_55 X [(q_161_a, itC y_55 40 0 0 (-1))] H := hR
    refine lv_astore_n (lv' := [(1, .ref (q_161_a)), (0, .ref (y_55.2 0 0))]) hx hb dX1_begin_164 rfl hl (by decide) rfl (fun ls hl => ?_)
    have lv_165_c := lw_55
    have lv_165_d := hW_y_55.lsV
    have lv_165_e := lw_55
    refine lp_X1_begin_165x1 (C1 := 2) (S1 := 8) hx hb hr hml hown hts hlocks hK  (Nat.le_of_ble_eq_true rfl) (Nat.le_of_ble_eq_true rfl) (fun w_165_a y_165_a  H locs ls cells9 slots9 hW_y_165_a hLe_y_165_a h hR hS hl hc9 hs9 => ?_) 9 w_55 y_55 0 (-1) _ _ _ _ _ hW_y_55 hLe_y_55 lw_55 (by omega) h hR hS (lv_sub hl [1, 0] rfl) (by omega) (by omega)
    have hL1_y_165_a := hLe_y_55.symm.trans hLe_y_165_a
    refine W.widen (k := 2) (n := 8) hc9 hs9 ?_
    have lw_165_a := hL1_y_165_a.live (k := 0) rfl lv_165_c
    refine lv_aload_n hx hb dX1_begin_195 rfl (lv_at hl 0 rfl) ?_
    refine ce_qi (fw := fun u => u) (fy := fun _ => y_165_a) (cr_V (n := 0) (As := []) (rest := []) ⟨hx, hb, hml, hown, hts⟩ hK hR (m_X1_part hW_y_165_a lw_165_a h) q1479 q1481 qs29 q74 q1482 rfl rfl hd_X1_part ⟨Nat.le_of_ble_eq_true rfl, Nat.le_of_ble_eq_true rfl⟩ (rv hK hR lw_165_a (ci := 0) rfl rfl) rfl rfl hl.1 rfl (lv_room (Nat.le_of_ble_eq_true rfl)) dX1_begin_196 ⟨(Nat.le_of_ble_eq_true rfl), (Nat.le_of_ble_eq_true rfl)⟩) hR hS (fun r_196_a w_196_a H locs h hR _ hS => ?_)
    refine lv_iconst (v := (3 : Int32)) hx hb dX1_begin_199 (by decide) ?_
    refine lv_icmp_eq (tgt := 204) hx hb dX1_begin_200 (by decide) (fun c_200_a => ?_) (fun c_200_a => ?_)
    · have h := h.1 c_200_a
      refine lv_aload_n hx hb dX1_begin_204 rfl (lv_at hl 0 rfl) ?_
      refine g0_0 hx hb hts hown hK hR lw_165_a q247 dX1_begin_205 ?_
      refine jr_iter ⟨hx, hb, hml, hown, hts⟩ hK hR hS ⟨fun _ _ _ _ _ => rfl, fun _ _ _ _ _ => rfl⟩ hW_y_165_a.lsV q325 ⟨Nat.le_of_ble_eq_true rfl, Nat.le_of_ble_eq_true rfl⟩ hl.1 (Nat.le_of_ble_eq_true rfl) dX1_begin_208 ⟨(Nat.le_of_ble_eq_true rfl), (Nat.le_of_ble_eq_true rfl)⟩ (fun q_208_a H locs hR hS => ?_)
      have hR : Rp κ w_196_a y_165_a X [(q_208_a, itC y_165_a 40 0 0 (-1))] H := hR
      refine lv_astore_n (lv' := [(1, .ref (q_208_a)), (0, .ref (y_165_a.2 0 0))]) hx hb dX1_begin_211 rfl hl (by decide) rfl (fun ls hl => ?_)
      have lv_212_c := lw_165_a
      have lv_212_d := hW_y_165_a.lsV
      have lv_212_e := lw_165_a
      refine lp_X1_begin_212x1 (C1 := 3) (S1 := 12) hx hb hr hml hown hts hlocks hK  (Nat.le_of_ble_eq_true rfl) (Nat.le_of_ble_eq_true rfl) (fun w_212_a y_212_a  H locs ls cells9 slots9 hW_y_212_a hLe_y_212_a h hR hS hl hc9 hs9 => ?_) 9 w_196_a y_165_a 0 (-1) _ _ _ _ _ hW_y_165_a hLe_y_165_a lw_165_a (by omega) h hR hS (lv_sub hl [1, 0] rfl) (by omega) (by omega)
      have hL1_y_212_a := hLe_y_165_a.symm.trans hLe_y_212_a
      refine W.widen (k := 3) (n := 12) hc9 hs9 ?_
      refine W.widen (k := 215) (n := 778) (Nat.le_of_ble_eq_true rfl) (Nat.le_of_ble_eq_true rfl) ?_
      exact W.vret hx hb hr (fun t ht hW9 => ⟨⟨(w_212_a, y_212_a), rfl, h, ⟨rpt ht hR, hW_y_212_a, hLe_y_212_a⟩⟩, hS.F ht⟩) hS.2.2 dX1_begin_242
    · have h := h.2 c_200_a
      refine W.widen (k := 215) (n := 778) (Nat.le_of_ble_eq_true rfl) (Nat.le_of_ble_eq_true rfl) ?_
      exact W.vret hx hb hr (fun t ht hW9 => ⟨⟨(w_196_a, y_165_a), rfl, h, ⟨rpt ht hR, hW_y_165_a, hLe_y_165_a⟩⟩, hS.F ht⟩) hS.2.2 dX1_begin_203
  replace h := h.2
  by_cases c_14_b : r_11 = (2 : Int32)
  · have h := h.1 c_14_b
    refine lv_tableIn (off := 74) (tgt := 88) hx hb dX1_begin_14 (by rw [c_14_b]; decide) (by rw [c_14_b]; decide) (by rw [c_14_b]; rfl) (by decide) ?_
    refine lv_aload_n hx hb dX1_begin_88 rfl (lv_at hl 0 rfl) ?_
    refine g0_2 hx hb hts hown hK hR l0 q249 dX1_begin_89 ?_
    refine jr_iter ⟨hx, hb, hml, hown, hts⟩ hK hR hS ⟨fun _ _ _ _ _ => rfl, fun _ _ _ _ _ => rfl⟩ hW.lsL q325 ⟨Nat.le_of_ble_eq_true rfl, Nat.le_of_ble_eq_true rfl⟩ hl.1 (Nat.le_of_ble_eq_true rfl) dX1_begin_92 ⟨(Nat.le_of_ble_eq_true rfl), (Nat.le_of_ble_eq_true rfl)⟩ (fun q_92 H locs hR hS => ?_)
    have hR : Rp κ w_11 y X [(q_92, itC y 44 0 0 (-1))] H := hR
    refine lv_astore_n (lv' := [(1, .ref (q_92)), (0, .ref (y.2 0 0))]) hx hb dX1_begin_95 rfl hl (by decide) rfl (fun ls hl => ?_)
    have lv_96 := l0
    have lv_96_a := hW.lsL
    have lv_96_b := l0
    refine lp_X1_begin_96 (C1 := 172) (S1 := 607) hx hb hr hml hown hts hlocks hK  (Nat.le_of_ble_eq_true rfl) (Nat.le_of_ble_eq_true rfl) (fun w_96 y_96  H locs ls cells9 slots9 hW_y_96 hLe_y_96 h hR hS hl hc9 hs9 => ?_) 9 w_11 y 0 (-1) _ _ _ _ _ hW hLe l0 (by omega) h hR hS (lv_sub hl [1, 0] rfl) (by omega) (by omega)
    have hL1_y_96 := hLe.symm.trans hLe_y_96
    refine W.widen (k := 172) (n := 607) hc9 hs9 ?_
    have lw_96 := hL1_y_96.live (k := 0) rfl lv_96
    refine jr_values (rest := []) ⟨hx, hb, hml, hown, hts⟩ hK hR hS q206 ⟨Nat.le_of_ble_eq_true rfl, Nat.le_of_ble_eq_true rfl⟩ hl.1 (Nat.le_of_ble_eq_true rfl) dX1_begin_123 ⟨(Nat.le_of_ble_eq_true rfl), (Nat.le_of_ble_eq_true rfl)⟩ (fun q_123 H locs hR hS => ?_)
    have hR : Rp κ w_96 y_96 X [(q_123, dvC κ)] H := hR
    refine lv_astore_n (lv' := [(1, .ref (q_123)), (0, .ref (y_96.2 0 0))]) hx hb dX1_begin_126 rfl hl (by decide) rfl (fun ls hl => ?_)
    refine lv_aload_n hx hb dX1_begin_127 rfl (lv_at hl 0 rfl) ?_
    refine xa_alen hx hb hK.1 (hR.L 0 _ rfl) 7 rfl dX1_begin_128 ?_
    refine lv_topi (fun x_129 ex_129 => ?_)
    have h := h x_129 ex_129
    refine lv_istore_n (lv' := [(2, .int (x_129)), (1, .ref (q_123)), (0, .ref (y_96.2 0 0))]) hx hb dX1_begin_129 rfl hl (by decide) rfl (fun ls hl => ?_)
    refine lv_iconst (v := (0 : Int32)) hx hb dX1_begin_130 (by decide) ?_
    refine lv_istore_n (lv' := [(3, .int ((0 : Int32))), (2, .int (x_129)), (1, .ref (q_123)), (0, .ref (y_96.2 0 0))]) hx hb dX1_begin_131 rfl hl (by decide) rfl (fun ls hl => ?_)
    have lv_132 := lw_96
    refine lp_X1_begin_132 (C1 := 213) (S1 := 770) hx hb hr hml hown hts hlocks hK  (Nat.le_of_ble_eq_true rfl) (Nat.le_of_ble_eq_true rfl) (fun w_132 y_132  H locs ls cells9 slots9 hW_y_132 hLe_y_132 h hR hS hl hc9 hs9 => ?_) 4 w_96 y_96 (0 : Int32) _ _ _ _ _ hW_y_96 hLe_y_96 lw_96  h hR hS (lv_sub hl [3, 2, 1, 0] rfl) (by omega) (by omega)
    have hL1_y_132 := hLe_y_96.symm.trans hLe_y_132
    refine W.widen (k := 213) (n := 770) hc9 hs9 ?_
    have lw_132 := hL1_y_132.live (k := 0) rfl lv_132
    refine lv_goto (tgt := 157) hx hb dX1_begin_154 (by decide) ?_
    refine lv_aload_n hx hb dX1_begin_157 rfl (lv_at hl 0 rfl) ?_
    refine g0_0 hx hb hts hown hK hR lw_132 q247 dX1_begin_158 ?_
    refine jr_iter ⟨hx, hb, hml, hown, hts⟩ hK hR hS ⟨fun _ _ _ _ _ => rfl, fun _ _ _ _ _ => rfl⟩ hW_y_132.lsV q325 ⟨Nat.le_of_ble_eq_true rfl, Nat.le_of_ble_eq_true rfl⟩ hl.1 (Nat.le_of_ble_eq_true rfl) dX1_begin_161 ⟨(Nat.le_of_ble_eq_true rfl), (Nat.le_of_ble_eq_true rfl)⟩ (fun q_161_b H locs hR hS => ?_)
    have hR : Rp κ w_132 y_132 X [(q_161_b, itC y_132 40 0 0 (-1))] H := hR
    refine lv_astore_n (lv' := [(1, .ref (q_161_b)), (0, .ref (y_132.2 0 0))]) hx hb dX1_begin_164 rfl hl (by decide) rfl (fun ls hl => ?_)
    have lv_165_f := lw_132
    have lv_165_g := hW_y_132.lsV
    have lv_165_h := lw_132
    refine lp_X1_begin_165x2 (C1 := 214) (S1 := 774) hx hb hr hml hown hts hlocks hK  (Nat.le_of_ble_eq_true rfl) (Nat.le_of_ble_eq_true rfl) (fun w_165_b y_165_b  H locs ls cells9 slots9 hW_y_165_b hLe_y_165_b h hR hS hl hc9 hs9 => ?_) 9 w_132 y_132 0 (-1) _ _ _ _ _ hW_y_132 hLe_y_132 lw_132 (by omega) h hR hS (lv_sub hl [1, 0] rfl) (by omega) (by omega)
    have hL1_y_165_b := hLe_y_132.symm.trans hLe_y_165_b
    refine W.widen (k := 214) (n := 774) hc9 hs9 ?_
    have lw_165_b := hL1_y_165_b.live (k := 0) rfl lv_165_f
    refine lv_aload_n hx hb dX1_begin_195 rfl (lv_at hl 0 rfl) ?_
    refine ce_qi (fw := fun u => u) (fy := fun _ => y_165_b) (cr_V (n := 0) (As := []) (rest := []) ⟨hx, hb, hml, hown, hts⟩ hK hR (m_X1_part hW_y_165_b lw_165_b h) q1479 q1481 qs29 q74 q1482 rfl rfl hd_X1_part ⟨Nat.le_of_ble_eq_true rfl, Nat.le_of_ble_eq_true rfl⟩ (rv hK hR lw_165_b (ci := 0) rfl rfl) rfl rfl hl.1 rfl (lv_room (Nat.le_of_ble_eq_true rfl)) dX1_begin_196 ⟨(Nat.le_of_ble_eq_true rfl), (Nat.le_of_ble_eq_true rfl)⟩) hR hS (fun r_196_b w_196_b H locs h hR _ hS => ?_)
    refine lv_iconst (v := (3 : Int32)) hx hb dX1_begin_199 (by decide) ?_
    refine lv_icmp_eq (tgt := 204) hx hb dX1_begin_200 (by decide) (fun c_200_b => ?_) (fun c_200_b => ?_)
    · have h := h.1 c_200_b
      refine lv_aload_n hx hb dX1_begin_204 rfl (lv_at hl 0 rfl) ?_
      refine g0_0 hx hb hts hown hK hR lw_165_b q247 dX1_begin_205 ?_
      refine jr_iter ⟨hx, hb, hml, hown, hts⟩ hK hR hS ⟨fun _ _ _ _ _ => rfl, fun _ _ _ _ _ => rfl⟩ hW_y_165_b.lsV q325 ⟨Nat.le_of_ble_eq_true rfl, Nat.le_of_ble_eq_true rfl⟩ hl.1 (Nat.le_of_ble_eq_true rfl) dX1_begin_208 ⟨(Nat.le_of_ble_eq_true rfl), (Nat.le_of_ble_eq_true rfl)⟩ (fun q_208_b H locs hR hS => ?_)
      have hR : Rp κ w_196_b y_165_b X [(q_208_b, itC y_165_b 40 0 0 (-1))] H := hR
      refine lv_astore_n (lv' := [(1, .ref (q_208_b)), (0, .ref (y_165_b.2 0 0))]) hx hb dX1_begin_211 rfl hl (by decide) rfl (fun ls hl => ?_)
      have lv_212_f := lw_165_b
      have lv_212_g := hW_y_165_b.lsV
      have lv_212_h := lw_165_b
      refine lp_X1_begin_212x2 (C1 := 215) (S1 := 778) hx hb hr hml hown hts hlocks hK  (Nat.le_of_ble_eq_true rfl) (Nat.le_of_ble_eq_true rfl) (fun w_212_b y_212_b  H locs ls cells9 slots9 hW_y_212_b hLe_y_212_b h hR hS hl hc9 hs9 => ?_) 9 w_196_b y_165_b 0 (-1) _ _ _ _ _ hW_y_165_b hLe_y_165_b lw_165_b (by omega) h hR hS (lv_sub hl [1, 0] rfl) (by omega) (by omega)
      have hL1_y_212_b := hLe_y_165_b.symm.trans hLe_y_212_b
      refine W.widen (k := 215) (n := 778) hc9 hs9 ?_
      refine W.widen (k := 215) (n := 778) (Nat.le_of_ble_eq_true rfl) (Nat.le_of_ble_eq_true rfl) ?_
      exact W.vret hx hb hr (fun t ht hW9 => ⟨⟨(w_212_b, y_212_b), rfl, h, ⟨rpt ht hR, hW_y_212_b, hLe_y_212_b⟩⟩, hS.F ht⟩) hS.2.2 dX1_begin_242
    · have h := h.2 c_200_b
      refine W.widen (k := 215) (n := 778) (Nat.le_of_ble_eq_true rfl) (Nat.le_of_ble_eq_true rfl) ?_
      exact W.vret hx hb hr (fun t ht hW9 => ⟨⟨(w_196_b, y_165_b), rfl, h, ⟨rpt ht hR, hW_y_165_b, hLe_y_165_b⟩⟩, hS.F ht⟩) hS.2.2 dX1_begin_203
  replace h := h.2
  replace h := h c_14 c_14_a c_14_b
  refine lv_tableOut (tgt := 157) hx hb dX1_begin_14 (tb_out (lo := 0) (hi := 2) (fun v h1 h2 => by
    have h3 : v = 0 ∨ v = 1 ∨ v = 2 := by omega
    rcases h3 with rfl | rfl | rfl
    · exact c_14
    · exact c_14_a
    · exact c_14_b
    )) (by decide) ?_
  refine lv_aload_n hx hb dX1_begin_157 rfl (lv_at hl 0 rfl) ?_
  refine g0_0 hx hb hts hown hK hR l0 q247 dX1_begin_158 ?_
  refine jr_iter ⟨hx, hb, hml, hown, hts⟩ hK hR hS ⟨fun _ _ _ _ _ => rfl, fun _ _ _ _ _ => rfl⟩ hW.lsV q325 ⟨Nat.le_of_ble_eq_true rfl, Nat.le_of_ble_eq_true rfl⟩ hl.1 (Nat.le_of_ble_eq_true rfl) dX1_begin_161 ⟨(Nat.le_of_ble_eq_true rfl), (Nat.le_of_ble_eq_true rfl)⟩ (fun q_161_c H locs hR hS => ?_)
  have hR : Rp κ w_11 y X [(q_161_c, itC y 40 0 0 (-1))] H := hR
  refine lv_astore_n (lv' := [(1, .ref (q_161_c)), (0, .ref (y.2 0 0))]) hx hb dX1_begin_164 rfl hl (by decide) rfl (fun ls hl => ?_)
  have lv_165_i := l0
  have lv_165_j := hW.lsV
  have lv_165_k := l0
  refine lp_X1_begin_165x3 (C1 := 1) (S1 := 4) hx hb hr hml hown hts hlocks hK  (Nat.le_of_ble_eq_true rfl) (Nat.le_of_ble_eq_true rfl) (fun w_165_c y_165_c  H locs ls cells9 slots9 hW_y_165_c hLe_y_165_c h hR hS hl hc9 hs9 => ?_) 9 w_11 y 0 (-1) _ _ _ _ _ hW hLe l0 (by omega) h hR hS (lv_sub hl [1, 0] rfl) (by omega) (by omega)
  have hL1_y_165_c := hLe.symm.trans hLe_y_165_c
  refine W.widen (k := 1) (n := 4) hc9 hs9 ?_
  have lw_165_c := hL1_y_165_c.live (k := 0) rfl lv_165_i
  refine lv_aload_n hx hb dX1_begin_195 rfl (lv_at hl 0 rfl) ?_
  refine ce_qi (fw := fun u => u) (fy := fun _ => y_165_c) (cr_V (n := 0) (As := []) (rest := []) ⟨hx, hb, hml, hown, hts⟩ hK hR (m_X1_part hW_y_165_c lw_165_c h) q1479 q1481 qs29 q74 q1482 rfl rfl hd_X1_part ⟨Nat.le_of_ble_eq_true rfl, Nat.le_of_ble_eq_true rfl⟩ (rv hK hR lw_165_c (ci := 0) rfl rfl) rfl rfl hl.1 rfl (lv_room (Nat.le_of_ble_eq_true rfl)) dX1_begin_196 ⟨(Nat.le_of_ble_eq_true rfl), (Nat.le_of_ble_eq_true rfl)⟩) hR hS (fun r_196_c w_196_c H locs h hR _ hS => ?_)
  refine lv_iconst (v := (3 : Int32)) hx hb dX1_begin_199 (by decide) ?_
  refine lv_icmp_eq (tgt := 204) hx hb dX1_begin_200 (by decide) (fun c_200_c => ?_) (fun c_200_c => ?_)
  · have h := h.1 c_200_c
    refine lv_aload_n hx hb dX1_begin_204 rfl (lv_at hl 0 rfl) ?_
    refine g0_0 hx hb hts hown hK hR lw_165_c q247 dX1_begin_205 ?_
    refine jr_iter ⟨hx, hb, hml, hown, hts⟩ hK hR hS ⟨fun _ _ _ _ _ => rfl, fun _ _ _ _ _ => rfl⟩ hW_y_165_c.lsV q325 ⟨Nat.le_of_ble_eq_true rfl, Nat.le_of_ble_eq_true rfl⟩ hl.1 (Nat.le_of_ble_eq_true rfl) dX1_begin_208 ⟨(Nat.le_of_ble_eq_true rfl), (Nat.le_of_ble_eq_true rfl)⟩ (fun q_208_c H locs hR hS => ?_)
    have hR : Rp κ w_196_c y_165_c X [(q_208_c, itC y_165_c 40 0 0 (-1))] H := hR
    refine lv_astore_n (lv' := [(1, .ref (q_208_c)), (0, .ref (y_165_c.2 0 0))]) hx hb dX1_begin_211 rfl hl (by decide) rfl (fun ls hl => ?_)
    have lv_212_i := lw_165_c
    have lv_212_j := hW_y_165_c.lsV
    have lv_212_k := lw_165_c
    refine lp_X1_begin_212x3 (C1 := 2) (S1 := 8) hx hb hr hml hown hts hlocks hK  (Nat.le_of_ble_eq_true rfl) (Nat.le_of_ble_eq_true rfl) (fun w_212_c y_212_c  H locs ls cells9 slots9 hW_y_212_c hLe_y_212_c h hR hS hl hc9 hs9 => ?_) 9 w_196_c y_165_c 0 (-1) _ _ _ _ _ hW_y_165_c hLe_y_165_c lw_165_c (by omega) h hR hS (lv_sub hl [1, 0] rfl) (by omega) (by omega)
    have hL1_y_212_c := hLe_y_165_c.symm.trans hLe_y_212_c
    refine W.widen (k := 2) (n := 8) hc9 hs9 ?_
    refine W.widen (k := 215) (n := 778) (Nat.le_of_ble_eq_true rfl) (Nat.le_of_ble_eq_true rfl) ?_
    exact W.vret hx hb hr (fun t ht hW9 => ⟨⟨(w_212_c, y_212_c), rfl, h, ⟨rpt ht hR, hW_y_212_c, hLe_y_212_c⟩⟩, hS.F ht⟩) hS.2.2 dX1_begin_242
  · have h := h.2 c_200_c
    refine W.widen (k := 215) (n := 778) (Nat.le_of_ble_eq_true rfl) (Nat.le_of_ble_eq_true rfl) ?_
    exact W.vret hx hb hr (fun t ht hW9 => ⟨⟨(w_196_c, y_165_c), rfl, h, ⟨rpt ht hR, hW_y_165_c, hLe_y_165_c⟩⟩, hS.F ht⟩) hS.2.2 dX1_begin_203
