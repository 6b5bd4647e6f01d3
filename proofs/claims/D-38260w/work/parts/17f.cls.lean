/-! printed by wip gen: X1_direct, X1_addVillage, X1_told_5, X1_bring, X1_best, X1_clear, X1_shareOut, X1_winner, X1_price, X1_collect -/
set_option maxRecDepth 100000
abbrev rm_X1_direct : Room := { frames := 4, cells := 10, slots := 40, locals := 94 }
def st_X1_direct_10 (κ : Kx) (y : Ly) (post : Int32 → Wd → Prop) (ex : Wd → (Int32) → Prop) (rec : Wd → Int32 → Nat → Int32 → Prop) (i1 : Nat) (w : Wd) (v2 : Int32) (c3 : Nat) (z3 : Int32) : Prop := ((¬ (¬ c3 = nV y)) → (ex w v2)) ∧ (((¬ c3 = nV y)) → (sp_X1_isLet κ y (fun r_34 w_34 => ((¬ r_34 = 0) → (rec w_34 v2 (c3 + 1) (nI c3))) ∧ ((r_34 = 0) → (((¬ gv w_34 6 c3 16 = 0) → (rec w_34 v2 (c3 + 1) (nI c3))) ∧ ((gv w_34 6 c3 16 = 0) → (sp_X1_dueByLaw κ y (fun r_59 w_59 => sp_X10_shown κ y (fun r_63 w_63 => sp_D_got κ y (fun r_76 w_76 => sp_D_worth κ y (fun r_79 w_79 => ∀ x_85 : Int32, x_85 = v2 + (r_79 - (4 : Int32)) → rec w_79 x_85 (c3 + 1) (nI c3)) w_76 i1 r_76) w_63 i1 c3 r_63 (0 : Int32) 1 (0 : Int32)) w_59 c3 r_59 (1 : Int32)) w_34 c3 i1))))) w c3 i1))
def sp_X1_direct_10 (κ : Kx) (y : Ly) (post : Int32 → Wd → Prop) (ex : Wd → (Int32) → Prop) (i1 : Nat) : Nat → Wd → Int32 → Nat → Int32 → Prop
  | 0 => fun _ _ _ _ => False
  | n + 1 => fun w v2 c3 z3 => st_X1_direct_10 κ y post ex (sp_X1_direct_10 κ y post ex i1 n) i1 w v2 c3 z3
set_option maxHeartbeats 4000000 in
theorem lp_X1_direct_10 {p : Program} {l : Launch} {e : Env} {s : State} {m : MethodId} {args : Array Value} {below : List Frame} {meth : Method} {c : Code} {κ : Kx} {y : Ly} {X : XR} {post : Int32 → Wd → Prop} {q3 : Nat} {i1 : Nat} (hx : p.tables.exec = Jvm.exec) (hb : c.code = cX1_direct) (hr : meth.sig.returnType = (Option.some Jvm.ClassFile.FieldType.int)) (hml : c.maxLocals = 5) (hown : s.vm.findClass RX1 = some m.cls) (hts : ∀ w ∈ lw_all, w.before args s = true) (hlocks : meth.locks = false) (hK : KK κ s) (hW : WFc κ y) (l0 : live y 0 0) (l1 : i1 < 3) {C1 S1 : Nat} (hC : C1 ≤ 10) (hSl : S1 ≤ 40) {ex : Wd → (Int32) → Prop}
    (kx : ∀ (w : Wd) (v2 : Int32) (H : Heap) (locs : List Loc) (ls : Array Slot) (cells slots : Nat) , ex w v2 → Rp κ w y X [] H → va_S (Af κ) s.heap H locs → lv_has ls 5 [(2, .int (v2))] → cells ≤ C1 → slots ≤ S1 → W p l e (headSpec (ws_ yX1_direct cX1_direct 5 (Option.some Jvm.ClassFile.FieldType.int)) rm_X1_direct).room s m args below meth c H locs cells slots (MQ below (va_Qi post (fun w t => Rp κ w y X [] t.heap) (Af κ)) args s 10 40 (Af κ)) (F0 m 89 ls [])) :
    ∀ (f : Nat) (w : Wd) (v2 : Int32) (c3 : Nat) (z3 : Int32) (H : Heap) (locs : List Loc) (ls : Array Slot) (cells slots : Nat)  (hc3 : c3 ≤ nV y), sp_X1_direct_10 κ y post ex i1 f w v2 c3 z3 → Rp κ w y X [(q3, itC y 40 0 c3 z3)] H → va_S (Af κ) s.heap H locs → lv_has ls 5 [(0, .ref (y.2 0 0)), (1, .ref (kA κ (20 + i1))), (2, .int (v2)), (3, .ref (q3))] → cells + f * 1 ≤ C1 → slots + f * 4 ≤ S1 → W p l e (headSpec (ws_ yX1_direct cX1_direct 5 (Option.some Jvm.ClassFile.FieldType.int)) rm_X1_direct).room s m args below meth c H locs cells slots (MQ below (va_Qi post (fun w t => Rp κ w y X [] t.heap) (Af κ)) args s 10 40 (Af κ)) (F0 m 10 ls []) := by
  intro f
  induction f with
  | zero =>
    intro w v2 c3 z3 H locs ls cells slots hc3 h
    exact False.elim h
  | succ f ih =>
    intro w v2 c3 z3 H locs ls cells slots hc3 h hR hS hl hc hs
    have h : st_X1_direct_10 κ y post ex (sp_X1_direct_10 κ y post ex i1 f) i1 w v2 c3 z3 := h
    unfold st_X1_direct_10 at h
    refine lv_aload_n hx hb dX1_direct_10 rfl (lv_at hl 3 rfl) ?_
    refine jr_hasNext (t := 0) ⟨hx, hb, hml, hown, hts⟩ hK hR rfl ⟨fun _ _ _ _ _ => rfl, fun _ _ _ _ _ => rfl⟩ hW.lsV (by omega) (Nat.le_trans hW.nV8 (by decide)) q349 ⟨Nat.le_of_ble_eq_true rfl, Nat.le_of_ble_eq_true rfl⟩ hl.1 (Nat.le_of_ble_eq_true rfl) dX1_direct_11 ⟨(Nat.le_trans (show cells + 0 ≤ C1 from by omega) hC), (Nat.le_trans (show slots + 0 ≤ S1 from by omega) hSl)⟩ ?_
    refine lv_if_eq (tgt := 89) hx hb dX1_direct_16 (by decide) (fun c_16 => ?_) (fun c_16 => ?_)
    · replace c_16 : ¬ (¬ c3 = nV y) := bi_0.mp c_16
      have h := h.1 c_16
      have hR := hR.sub (L' := []) [] rfl rfl
      exact kx w v2 _ _ _ _ _ h hR hS (lv_sub hl [2] rfl) (by omega) (by omega)
    · replace c_16 : (¬ c3 = nV y) := bi_n0.mp c_16
      have h := h.2 c_16
      refine lv_aload_n hx hb dX1_direct_19 rfl (lv_at hl 3 rfl) ?_
      have hn_20 : c3 < nV y := by omega
      refine jr_next (t := 0) (a := y.2 6 c3) ⟨hx, hb, hml, hown, hts⟩ hK hR hS rfl ⟨fun _ _ _ _ _ => rfl, fun _ _ _ _ _ => rfl⟩ hW.lsV ⟨hW.arV (Nat.lt_of_le_of_lt (Nat.zero_le _) hn_20), (Nat.le_trans hW.nV8 (by decide))⟩ hn_20 (hW.elV hn_20) q359 ⟨Nat.le_of_ble_eq_true rfl, Nat.le_of_ble_eq_true rfl⟩ hl.1 (Nat.le_of_ble_eq_true rfl) dX1_direct_20 ⟨(Nat.le_trans (show cells + 0 ≤ C1 from by omega) hC), (Nat.le_trans (show slots + 0 ≤ S1 from by omega) hSl)⟩ (fun H locs hR hS => ?_)
      have hR : Rp κ w y X [(q3, itC y 40 0 (c3 + 1) (nI c3))] H := hR
      refine jr_castS (ci := 6) hx hb hown hK hts (hR.role (hW.vil hn_20)) rfl q496 dX1_direct_25 ?_
      refine lv_astore (lv' := [(4, .ref (y.2 6 c3)), (0, .ref (y.2 0 0)), (1, .ref (kA κ (20 + i1))), (2, .int (v2)), (3, .ref (q3))]) hx hb dX1_direct_28 hl (by decide) rfl (fun ls hl => ?_)
      refine lv_aload_n hx hb dX1_direct_30 rfl (lv_at hl 1 rfl) ?_
      refine lv_aload hx hb dX1_direct_31 (lv_at hl 0 rfl) ?_
      refine lv_aload_n hx hb dX1_direct_33 rfl (lv_at hl 2 rfl) ?_
      refine ce_qi (fw := fun u => u) (fy := fun _ => y) (cr_V (n := 2) (As := [.ref (y.2 6 c3), .ref (kA κ (20 + i1))]) (rest := []) ⟨hx, hb, hml, hown, hts⟩ hK hR (m_X1_isLet hW l0 (hW.vil hn_20) l1 h) q610 q612 qs9 q74 q613 rfl rfl hd_X1_isLet ⟨Nat.le_of_ble_eq_true rfl, Nat.le_of_ble_eq_true rfl⟩ (rv hK hR l0 (ci := 0) rfl rfl) rfl rfl hl.1 rfl (lv_room (Nat.le_of_ble_eq_true rfl)) dX1_direct_34 ⟨(Nat.le_trans (show cells + 1 ≤ C1 from by omega) hC), (Nat.le_trans (show slots + 4 ≤ S1 from by omega) hSl)⟩) hR hS (fun r_34 w_34 H locs h hR _ hS => ?_)
      refine lv_if_ne (tgt := 86) hx hb dX1_direct_37 (by decide) (fun c_37 => ?_) (fun c_37 => ?_)
      · have h := h.1 c_37
        refine lv_goto (tgt := 10) hx hb dX1_direct_86 (by decide) ?_
        exact ih w_34 v2 (c3 + 1) (nI c3) _ _ _ _ _ (by omega) h hR hS (lv_sub hl [1, 2, 3, 4] rfl) (by omega) (by omega)
      · have h := h.2 c_37
        refine lv_aload hx hb dX1_direct_40 (lv_at hl 0 rfl) ?_
        refine g6_16 hx hb hts hown hK hR (hW.vil hn_20) q955 dX1_direct_42 ?_
        refine lv_if_ne (tgt := 86) hx hb dX1_direct_45 (by decide) (fun c_45 => ?_) (fun c_45 => ?_)
        · have h := h.1 c_45
          refine lv_goto (tgt := 10) hx hb dX1_direct_86 (by decide) ?_
          exact ih w_34 v2 (c3 + 1) (nI c3) _ _ _ _ _ (by omega) h hR hS (lv_sub hl [1, 2, 3, 4] rfl) (by omega) (by omega)
        · have h := h.2 c_45
          refine lv_iload_n hx hb dX1_direct_48 rfl (lv_at hl 3 rfl) ?_
          refine lv_aload_n hx hb dX1_direct_49 rfl (lv_at hl 2 rfl) ?_
          refine lv_aload_n hx hb dX1_direct_50 rfl (lv_at hl 2 rfl) ?_
          refine lv_aload hx hb dX1_direct_51 (lv_at hl 0 rfl) ?_
          refine lv_aload hx hb dX1_direct_53 (lv_at hl 0 rfl) ?_
          refine lv_aload_n hx hb dX1_direct_55 rfl (lv_at hl 1 rfl) ?_
          refine lv_aload hx hb dX1_direct_56 (lv_at hl 0 rfl) ?_
          refine lv_aload_n hx hb dX1_direct_58 rfl (lv_at hl 2 rfl) ?_
          refine ce_qi (fw := fun u => u) (fy := fun _ => y) (cr_V (n := 2) (As := [.ref (y.2 6 c3), .ref (kA κ (20 + i1))]) (rest := [.ref (y.2 6 c3), .ref (y.2 6 c3), .ref (kA κ (20 + i1)), .ref (kA κ (20 + i1)), .int (v2)]) ⟨hx, hb, hml, hown, hts⟩ hK hR (m_X1_dueByLaw hW l0 (hW.vil hn_20) l1 h) q617 q619 qs10 q74 q620 rfl rfl hd_X1_dueByLaw ⟨Nat.le_of_ble_eq_true rfl, Nat.le_of_ble_eq_true rfl⟩ (rv hK hR l0 (ci := 0) rfl rfl) rfl rfl hl.1 rfl (lv_room (Nat.le_of_ble_eq_true rfl)) dX1_direct_59 ⟨(Nat.le_trans (show cells + 1 + 0 ≤ C1 from by omega) hC), (Nat.le_trans (show slots + 4 + 0 ≤ S1 from by omega) hSl)⟩) hR hS (fun r_59 w_59 H locs h hR _ hS => ?_)
          refine lv_iconst (v := (1 : Int32)) hx hb dX1_direct_62 (by decide) ?_
          refine ce_qi (fw := fun u => u) (fy := fun _ => y) (cr_V (n := 2) (As := [.int (r_59), .int ((1 : Int32))]) (rest := [.ref (y.2 6 c3), .ref (kA κ (20 + i1)), .ref (kA κ (20 + i1)), .int (v2)]) ⟨hx, hb, hml, hown, hts⟩ hK hR (m_X10_shown hW (hW.vil hn_20) h) q633 q634 q635 q92 q636 rfl rfl hd_X10_shown ⟨Nat.le_of_ble_eq_true rfl, Nat.le_of_ble_eq_true rfl⟩ (rv hK hR (hW.vil hn_20) (ci := 6) rfl rfl) rfl rfl hl.1 rfl (lv_room (Nat.le_of_ble_eq_true rfl)) dX1_direct_63 ⟨(Nat.le_trans (show cells + 1 + 0 ≤ C1 from by omega) hC), (Nat.le_trans (show slots + 4 + 0 ≤ S1 from by omega) hSl)⟩) hR hS (fun r_63 w_63 H locs h hR _ hS => ?_)
          refine lv_iconst (v := (0 : Int32)) hx hb dX1_direct_66 (by decide) ?_
          refine lv_aload_n hx hb dX1_direct_67 rfl (lv_at hl 1 rfl) ?_
          refine g0_5 hx hb hts hown hK hR l0 q252 dX1_direct_68 ?_
          refine lv_aload_n hx hb dX1_direct_71 rfl (lv_at hl 1 rfl) ?_
          refine g0_4 hx hb hts hown hK hR l0 q251 dX1_direct_72 ?_
          refine lv_iconst (v := (0 : Int32)) hx hb dX1_direct_75 (by decide) ?_
          refine ce_qi (fw := fun u => u) (fy := fun _ => y) (cr_got (As := [.ref (y.2 6 c3), .int (r_63), .int ((0 : Int32)), .ref (y.2 1 1), .ref (y.2 1 0), .int ((0 : Int32))]) (rest := [.ref (kA κ (20 + i1)), .int (v2)]) ⟨hx, hb, hml, hown, hts⟩ hK hR l1 qi_ret (fun e9 => m_X18_got hW l1 (hW.vil hn_20) hW.tre hW.wor (h.1 e9)) ⟨rfl, rfl⟩ ⟨Nat.le_of_ble_eq_true rfl, Nat.le_of_ble_eq_true rfl⟩ (fun e9 => m_X7_got hW l1 (hW.vil hn_20) hW.tre hW.wor (h.2.1 e9)) ⟨rfl, rfl⟩ ⟨Nat.le_of_ble_eq_true rfl, Nat.le_of_ble_eq_true rfl⟩ (fun e9 => m_X7_got hW l1 (hW.vil hn_20) hW.tre hW.wor (h.2.2 e9)) ⟨rfl, rfl⟩ ⟨Nat.le_of_ble_eq_true rfl, Nat.le_of_ble_eq_true rfl⟩ q644 rfl rfl hl.1 rfl (lv_room (Nat.le_of_ble_eq_true rfl)) dX1_direct_76 ⟨(Nat.le_trans (show cells + 1 + 0 ≤ C1 from by omega) hC), (Nat.le_trans (show slots + 4 + 0 ≤ S1 from by omega) hSl)⟩) hR hS (fun r_76 w_76 H locs h hR _ hS => ?_)
          refine ce_qi (fw := fun u => u) (fy := fun _ => y) (cr_worth (As := [.int (r_76)]) (rest := [.int (v2)]) ⟨hx, hb, hml, hown, hts⟩ hK hR l1 qi_ret (fun e9 => m_X18_worth hW l1 (h.1 e9)) ⟨rfl, rfl⟩ ⟨Nat.le_of_ble_eq_true rfl, Nat.le_of_ble_eq_true rfl⟩ (fun e9 => m_X7_worth hW l1 (h.2.1 e9)) ⟨rfl, rfl⟩ ⟨Nat.le_of_ble_eq_true rfl, Nat.le_of_ble_eq_true rfl⟩ (fun e9 => m_X7_worth hW l1 (h.2.2 e9)) ⟨rfl, rfl⟩ ⟨Nat.le_of_ble_eq_true rfl, Nat.le_of_ble_eq_true rfl⟩ q663 rfl rfl hl.1 rfl (lv_room (Nat.le_of_ble_eq_true rfl)) dX1_direct_79 ⟨(Nat.le_trans (show cells + 1 + 0 ≤ C1 from by omega) hC), (Nat.le_trans (show slots + 4 + 0 ≤ S1 from by omega) hSl)⟩) hR hS (fun r_79 w_79 H locs h hR _ hS => ?_)
          refine lv_iconst (v := (4 : Int32)) hx hb dX1_direct_82 (by decide) ?_
          refine lv_isub hx hb dX1_direct_83 ?_
          refine lv_iadd hx hb dX1_direct_84 ?_
          refine lv_topi (fun x_85 ex_85 => ?_)
          have h := h x_85 ex_85
          refine lv_istore_n (lv' := [(2, .int (x_85)), (4, .ref (y.2 6 c3)), (0, .ref (y.2 0 0)), (1, .ref (kA κ (20 + i1))), (3, .ref (q3))]) hx hb dX1_direct_85 rfl hl (by decide) rfl (fun ls hl => ?_)
          refine lv_goto (tgt := 10) hx hb dX1_direct_86 (by decide) ?_
          exact ih w_79 x_85 (c3 + 1) (nI c3) _ _ _ _ _ (by omega) h hR hS (lv_sub hl [2, 3, 0, 4] rfl) (by omega) (by omega)
def sp_X1_direct (κ : Kx) (y : Ly) (post : Int32 → Wd → Prop) (w : Wd) (a1 : Nat) : Prop := sp_X1_direct_10 κ y post (fun w_10 y2_10 => post (y2_10) w_10) a1 9 w (0 : Int32) 0 (-1)
theorem hd_X1_direct : yX1_direct.cls = RX1 ∧ yX1_direct.cls ≠ "java/lang/invoke/MethodHandle" ∧ yX1_direct.cls ≠ "java/lang/invoke/VarHandle" ∧ (parseMethodDescriptor yX1_direct.desc).map (fun d => d.parameters.length) = some 1 := by decide +kernel
set_option maxHeartbeats 4000000 in
theorem m_X1_direct {l : Launch} {κ : Kx} {y : Ly} {X : XR} {post : Int32 → Wd → Prop} {w : Wd} {a1 : Nat}  (hW : WFc κ y) (l0 : live y 0 0) (l1 : a1 < 3) (h : sp_X1_direct κ y post w a1) : Met l yX1_direct (ws_ yX1_direct cX1_direct 5 (Option.some Jvm.ClassFile.FieldType.int)) rm_X1_direct (va_Pc [.ref (y.2 0 0), .ref (kA κ (20 + a1))] (RC κ w y X)) (va_Qi post (fun w t => Rp κ w y X [] t.heap) (Af κ)) 10 40 (Af κ) := by
  unfold sp_X1_direct at h
  refine Met.ofW (cc := cX1_direct) (maxL := 5) (ret := (Option.some Jvm.ClassFile.FieldType.int)) (by decide) rfl ?_
  intro p e s m args below meth c s₁ B hml hv
  obtain ⟨rfl, hR, hK⟩ := hv
  have hx := B.exec
  have hb := B.bytes
  have hr := B.returns
  have hts := atoms_spec (ws := ws_ yX1_direct cX1_direct 5 (Option.some Jvm.ClassFile.FieldType.int)) B.pre
  have hts : ∀ w ∈ lw_all, w.before _ s = true := fun w h => hts w (List.mem_cons_of_mem _ h)
  have hown : s.vm.findClass RX1 = some m.cls := findClass_of_methodNamed B.named
  have hlocks := B.notSynchronized
  have hS : va_S (Af κ) s.heap s.heap [] := va_S.rf
  have hl := lv_entry ([.ref (y.2 0 0), .ref (kA κ (20 + a1))]) (n := 5) (Nat.le_of_ble_eq_true rfl)
  rw [lg_entry_eq]
  generalize (lg_sl ([.ref (y.2 0 0), .ref (kA κ (20 + a1))]) ++ List.replicate (5 - (lg_sl ([.ref (y.2 0 0), .ref (kA κ (20 + a1))])).length) Slot.unset).toArray = ls at hl ⊢
  have hl : lv_has ls 5 [(0, .ref (y.2 0 0)), (1, .ref (kA κ (20 + a1)))] := hl
  refine lv_iconst (v := (0 : Int32)) hx hb dX1_direct_0 (by decide) ?_
  refine lv_istore_n (lv' := [(2, .int ((0 : Int32))), (0, .ref (y.2 0 0)), (1, .ref (kA κ (20 + a1)))]) hx hb dX1_direct_1 rfl hl (by decide) rfl (fun ls hl => ?_)
  refine lv_aload_n hx hb dX1_direct_2 rfl (lv_at hl 1 rfl) ?_
  refine g0_0 hx hb hts hown hK hR l0 q247 dX1_direct_3 ?_
  refine jr_iter ⟨hx, hb, hml, hown, hts⟩ hK hR hS ⟨fun _ _ _ _ _ => rfl, fun _ _ _ _ _ => rfl⟩ hW.lsV q325 ⟨Nat.le_of_ble_eq_true rfl, Nat.le_of_ble_eq_true rfl⟩ hl.1 (Nat.le_of_ble_eq_true rfl) dX1_direct_6 ⟨(Nat.le_of_ble_eq_true rfl), (Nat.le_of_ble_eq_true rfl)⟩ (fun q_6 H locs hR hS => ?_)
  have hR : Rp κ w y X [(q_6, itC y 40 0 0 (-1))] H := hR
  refine lv_astore_n (lv' := [(3, .ref (q_6)), (2, .int ((0 : Int32))), (0, .ref (y.2 0 0)), (1, .ref (kA κ (20 + a1)))]) hx hb dX1_direct_9 rfl hl (by decide) rfl (fun ls hl => ?_)
  refine lp_X1_direct_10 (C1 := 10) (S1 := 40) hx hb hr hml hown hts hlocks hK hW l0 l1 (Nat.le_of_ble_eq_true rfl) (Nat.le_of_ble_eq_true rfl) (fun w_10 y2_10 H locs ls cells9 slots9 h hR hS hl hc9 hs9 => ?_) 9 w (0 : Int32) 0 (-1) _ _ _ _ _ (by omega) h hR hS (lv_sub hl [2, 3, 1, 0] rfl) (by omega) (by omega)
  refine W.widen (k := 10) (n := 40) hc9 hs9 ?_
  refine lv_iload_n hx hb dX1_direct_89 rfl (lv_at hl 0 rfl) ?_
  refine W.widen (k := 10) (n := 40) (Nat.le_of_ble_eq_true rfl) (Nat.le_of_ble_eq_true rfl) ?_
  exact W.iret (v := y2_10) hx hb hr (fun t ht hW9 => ⟨⟨y2_10, w_10, rfl, h, rpt ht hR⟩, hS.F ht⟩) hS.2.2 dX1_direct_90
abbrev rm_X1_addVillage : Room := { frames := 3, cells := 1, slots := 3, locals := 93 }
def st_X1_addVillage_2 (κ : Kx) (y : Ly) (post : Wd → Prop) (ex : Wd → Prop) (rec : Wd → Int32 → Prop) (i1 : Nat) (w : Wd) (v2 : Int32) : Prop := (((14 : Int32) ≤ v2) → (ex w )) ∧ ((¬ ((14 : Int32) ≤ v2)) → (sp_X1_told_3 κ y (fun r_11 w_11 => sp_X1_add κ y (fun w_15 => ∀ x_18 : Int32, x_18 = v2 + (1 : Int32) → rec w_15 x_18) w_11 r_11.toInt64) w i1 v2))
def sp_X1_addVillage_2 (κ : Kx) (y : Ly) (post : Wd → Prop) (ex : Wd → Prop) (i1 : Nat) : Nat → Wd → Int32 → Prop
  | 0 => fun _ _ => False
  | n + 1 => fun w v2 => st_X1_addVillage_2 κ y post ex (sp_X1_addVillage_2 κ y post ex i1 n) i1 w v2
set_option maxHeartbeats 4000000 in
theorem lp_X1_addVillage_2 {p : Program} {l : Launch} {e : Env} {s : State} {m : MethodId} {args : Array Value} {below : List Frame} {meth : Method} {c : Code} {κ : Kx} {y : Ly} {X : XR} {post : Wd → Prop} {i1 : Nat} (hx : p.tables.exec = Jvm.exec) (hb : c.code = cX1_addVillage) (hr : meth.sig.returnType = (Option.none : Option Jvm.ClassFile.FieldType)) (hml : c.maxLocals = 7) (hown : s.vm.findClass RX1 = some m.cls) (hts : ∀ w ∈ lw_all, w.before args s = true) (hlocks : meth.locks = false) (hK : KK κ s) (hW : WFc κ y) (l0 : live y 0 0) (l1 : live y 6 i1) {C1 S1 : Nat} (hC : C1 ≤ 1) (hSl : S1 ≤ 3) {ex : Wd → Prop}
    (kx : ∀ (w : Wd)  (H : Heap) (locs : List Loc) (ls : Array Slot) (cells slots : Nat) , ex w  → Rp κ w y X [] H → va_S (Af κ) s.heap H locs → lv_has ls 7 [(0, .ref (y.2 0 0)), (1, .ref (y.2 6 i1))] → cells ≤ C1 → slots ≤ S1 → W p l e (headSpec (ws_ yX1_addVillage cX1_addVillage 7 (Option.none : Option Jvm.ClassFile.FieldType)) rm_X1_addVillage).room s m args below meth c H locs cells slots (MQ below (va_Qv post (fun w t => Rp κ w y X [] t.heap) (Af κ)) args s 1 3 (Af κ)) (F0 m 24 ls [])) :
    ∀ (f : Nat) (w : Wd) (v2 : Int32) (H : Heap) (locs : List Loc) (ls : Array Slot) (cells slots : Nat)  , sp_X1_addVillage_2 κ y post ex i1 f w v2 → Rp κ w y X [] H → va_S (Af κ) s.heap H locs → lv_has ls 7 [(0, .ref (y.2 0 0)), (1, .ref (y.2 6 i1)), (2, .int (v2))] → cells + f * 0 ≤ C1 → slots + f * 0 ≤ S1 → W p l e (headSpec (ws_ yX1_addVillage cX1_addVillage 7 (Option.none : Option Jvm.ClassFile.FieldType)) rm_X1_addVillage).room s m args below meth c H locs cells slots (MQ below (va_Qv post (fun w t => Rp κ w y X [] t.heap) (Af κ)) args s 1 3 (Af κ)) (F0 m 2 ls []) := by
  intro f
  induction f with
  | zero =>
    intro w v2 H locs ls cells slots  h
    exact False.elim h
  | succ f ih =>
    intro w v2 H locs ls cells slots  h hR hS hl hc hs
    have h : st_X1_addVillage_2 κ y post ex (sp_X1_addVillage_2 κ y post ex i1 f) i1 w v2 := h
    unfold st_X1_addVillage_2 at h
    refine lv_iload_n hx hb dX1_addVillage_2 rfl (lv_at hl 2 rfl) ?_
    refine lv_bipush (v := (14 : Int32)) hx hb dX1_addVillage_3 (by decide) ?_
    refine lv_icmp_ge (tgt := 24) hx hb dX1_addVillage_5 (by decide) (fun c_5 => ?_) (fun c_5 => ?_)
    · have h := h.1 c_5
      exact kx w  _ _ _ _ _ h hR hS (lv_sub hl [0, 1] rfl) (by omega) (by omega)
    · have h := h.2 c_5
      refine lv_aload_n hx hb dX1_addVillage_8 rfl (lv_at hl 0 rfl) ?_
      refine lv_aload_n hx hb dX1_addVillage_9 rfl (lv_at hl 1 rfl) ?_
      refine lv_iload_n hx hb dX1_addVillage_10 rfl (lv_at hl 2 rfl) ?_
      refine ce_qi (fw := fun u => u) (fy := fun _ => y) (cr_S (n := 2) (As := [.ref (y.2 6 i1), .int (v2)]) (rest := [.ref (y.2 0 0)]) ⟨hx, hb, hml, hown, hts⟩ hK hR (m_X1_told_3 hW l1 h) q676 q677 q74 q678 rfl rfl hds_X1_told_3 ⟨Nat.le_of_ble_eq_true rfl, Nat.le_of_ble_eq_true rfl⟩ rfl rfl hl.1 rfl (lv_room (Nat.le_of_ble_eq_true rfl)) dX1_addVillage_11 ⟨(Nat.le_trans (show cells + 0 ≤ C1 from by omega) hC), (Nat.le_trans (show slots + 0 ≤ S1 from by omega) hSl)⟩) hR hS (fun r_11 w_11 H locs h hR _ hS => ?_)
      refine lv_i2l hx hb dX1_addVillage_14 rfl ?_
      refine ce_qv (fw := fun u => u) (fy := fun _ => y) (cr_V (n := 1) (As := [.long (r_11.toInt64)]) (rest := []) ⟨hx, hb, hml, hown, hts⟩ hK hR (m_X1_add hW l0 h) q590 q592 qs7 q74 q593 rfl rfl hd_X1_add ⟨Nat.le_of_ble_eq_true rfl, Nat.le_of_ble_eq_true rfl⟩ (rv hK hR l0 (ci := 0) rfl rfl) rfl rfl hl.1 rfl (lv_room (Nat.le_of_ble_eq_true rfl)) dX1_addVillage_15 ⟨(Nat.le_trans (show cells + 0 ≤ C1 from by omega) hC), (Nat.le_trans (show slots + 0 ≤ S1 from by omega) hSl)⟩) hR hS (fun w_15 H locs h hR _ hS => ?_)
      obtain ⟨x_18, ex_18⟩ : ∃ z : Int32, z = v2 + (1 : Int32) := ⟨_, rfl⟩
      have h := h x_18 ex_18
      refine lv_iinc (v := x_18) (lv' := [(2, .int (x_18)), (0, .ref (y.2 0 0)), (1, .ref (y.2 6 i1))]) hx hb dX1_addVillage_18 hl (k := 2) rfl (by rw [ex_18]; rfl) (by decide) rfl (fun ls hl => ?_)
      refine lv_goto (tgt := 2) hx hb dX1_addVillage_21 (by decide) ?_
      exact ih w_15 x_18 _ _ _ _ _  h hR hS (lv_sub hl [1, 2, 0] rfl) (by omega) (by omega)
def st_X1_addVillage_72 (κ : Kx) (y : Ly) (post : Wd → Prop) (ex : Wd → Prop) (rec : Wd → Int32 → Prop) (i1 : Nat) (v3 : Int32) (v4 : Int32) (i5 : Nat) (w : Wd) (v6 : Int32) : Prop := (((6 : Int32) ≤ v6) → (ex w )) ∧ ((¬ ((6 : Int32) ≤ v6)) → ((vp_in (nI i5) (y.1 146 i1)) ∧ (sp_X1_told_4 κ y (fun r_97 w_97 => sp_X1_add κ y (fun w_101 => ∀ x_104 : Int32, x_104 = v6 + (1 : Int32) → rec w_101 x_104) w_97 r_97.toInt64) w (3 * i1 + ((nI i5).toNatClampNeg)) v6)))
def sp_X1_addVillage_72 (κ : Kx) (y : Ly) (post : Wd → Prop) (ex : Wd → Prop) (i1 : Nat) (v3 : Int32) (v4 : Int32) (i5 : Nat) : Nat → Wd → Int32 → Prop
  | 0 => fun _ _ => False
  | n + 1 => fun w v6 => st_X1_addVillage_72 κ y post ex (sp_X1_addVillage_72 κ y post ex i1 v3 v4 i5 n) i1 v3 v4 i5 w v6
set_option maxHeartbeats 4000000 in
theorem lp_X1_addVillage_72 {p : Program} {l : Launch} {e : Env} {s : State} {m : MethodId} {args : Array Value} {below : List Frame} {meth : Method} {c : Code} {κ : Kx} {y : Ly} {X : XR} {post : Wd → Prop} {q2 : Nat} {i1 : Nat} {v3 : Int32} {v4 : Int32} {i5 : Nat} (hx : p.tables.exec = Jvm.exec) (hb : c.code = cX1_addVillage) (hr : meth.sig.returnType = (Option.none : Option Jvm.ClassFile.FieldType)) (hml : c.maxLocals = 7) (hown : s.vm.findClass RX1 = some m.cls) (hts : ∀ w ∈ lw_all, w.before args s = true) (hlocks : meth.locks = false) (hK : KK κ s) (hW : WFc κ y) (l0 : live y 0 0) (l1 : live y 6 i1) (l5 : i5 < 3) {C1 S1 : Nat} (hC : C1 ≤ 1) (hSl : S1 ≤ 3) {ex : Wd → Prop}
    (kx : ∀ (w : Wd)  (H : Heap) (locs : List Loc) (ls : Array Slot) (cells slots : Nat) , ex w  → Rp κ w y X [(q2, dvC κ)] H → va_S (Af κ) s.heap H locs → lv_has ls 7 [(0, .ref (y.2 0 0)), (1, .ref (y.2 6 i1)), (2, .ref (q2)), (3, .int (v3)), (4, .int (v4))] → cells ≤ C1 → slots ≤ S1 → W p l e (headSpec (ws_ yX1_addVillage cX1_addVillage 7 (Option.none : Option Jvm.ClassFile.FieldType)) rm_X1_addVillage).room s m args below meth c H locs cells slots (MQ below (va_Qv post (fun w t => Rp κ w y X [] t.heap) (Af κ)) args s 1 3 (Af κ)) (F0 m 110 ls [])) :
    ∀ (f : Nat) (w : Wd) (v6 : Int32) (H : Heap) (locs : List Loc) (ls : Array Slot) (cells slots : Nat)  , sp_X1_addVillage_72 κ y post ex i1 v3 v4 i5 f w v6 → Rp κ w y X [(q2, dvC κ)] H → va_S (Af κ) s.heap H locs → lv_has ls 7 [(0, .ref (y.2 0 0)), (1, .ref (y.2 6 i1)), (2, .ref (q2)), (3, .int (v3)), (4, .int (v4)), (5, .ref (kA κ (20 + i5))), (6, .int (v6))] → cells + f * 0 ≤ C1 → slots + f * 0 ≤ S1 → W p l e (headSpec (ws_ yX1_addVillage cX1_addVillage 7 (Option.none : Option Jvm.ClassFile.FieldType)) rm_X1_addVillage).room s m args below meth c H locs cells slots (MQ below (va_Qv post (fun w t => Rp κ w y X [] t.heap) (Af κ)) args s 1 3 (Af κ)) (F0 m 72 ls []) := by
  intro f
  induction f with
  | zero =>
    intro w v6 H locs ls cells slots  h
    exact False.elim h
  | succ f ih =>
    intro w v6 H locs ls cells slots  h hR hS hl hc hs
    have h : st_X1_addVillage_72 κ y post ex (sp_X1_addVillage_72 κ y post ex i1 v3 v4 i5 f) i1 v3 v4 i5 w v6 := h
    unfold st_X1_addVillage_72 at h
    refine lv_iload hx hb dX1_addVillage_72 (lv_at hl 6 rfl) ?_
    refine lv_bipush (v := (6 : Int32)) hx hb dX1_addVillage_74 (by decide) ?_
    refine lv_icmp_ge (tgt := 110) hx hb dX1_addVillage_76 (by decide) (fun c_76 => ?_) (fun c_76 => ?_)
    · have h := h.1 c_76
      exact kx w  _ _ _ _ _ h hR hS (lv_sub hl [0, 1, 2, 3, 4] rfl) (by omega) (by omega)
    · have h := h.2 c_76
      refine lv_aload_n hx hb dX1_addVillage_79 rfl (lv_at hl 0 rfl) ?_
      refine lv_aload_n hx hb dX1_addVillage_80 rfl (lv_at hl 1 rfl) ?_
      refine g6_5 hx hb hts hown hK hR l1 q929 dX1_addVillage_81 ?_
      refine lv_aload hx hb dX1_addVillage_84 (lv_at hl 5 rfl) ?_
      refine ce_s (cr_oD (rest := [.ref (y.2 46 i1), .ref (y.2 0 0)]) ⟨hx, hb, hml, hown, hts⟩ hK hR l5 q595 ⟨Nat.le_of_ble_eq_true rfl, Nat.le_of_ble_eq_true rfl⟩ rfl hl.1 rfl (lv_room (Nat.le_of_ble_eq_true rfl)) dX1_addVillage_86 ⟨(Nat.le_trans (show cells + 0 ≤ C1 from by omega) hC), (Nat.le_trans (show slots + 0 ≤ S1 from by omega) hSl)⟩) ?_
      have o_89 := h.1
      have h := h.2
      refine jr_get (a := if y.1 15 (3 * i1 + ((nI i5).toNatClampNeg)) = 1 then y.2 15 (3 * i1 + ((nI i5).toNatClampNeg)) else kA κ 0) ⟨hx, hb, hml, hown, hts⟩ hK hR ⟨fun _ _ _ _ _ => rfl, fun _ _ _ _ _ => rfl⟩ (hW.vle l1) ⟨hW.vla l1, (by rw [show y.1 (46 + 100) i1 = 3 from hW.vl3 l1]; decide)⟩ o_89 (hW.elE l1 (show (nI i5).toNatClampNeg < 3 from by have h9 := (vp_lt o_89); rw [show y.1 146 i1 = 3 from hW.vl3 l1] at h9; exact h9)) q685 ⟨Nat.le_of_ble_eq_true rfl, Nat.le_of_ble_eq_true rfl⟩ hl.1 (Nat.le_of_ble_eq_true rfl) dX1_addVillage_89 ⟨(Nat.le_trans (show cells + 0 ≤ C1 from by omega) hC), (Nat.le_trans (show slots + 0 ≤ S1 from by omega) hSl)⟩ ?_
      refine jr_castS (ci := 18) hx hb hown hK hts (op_at hK hR (3 * i1 + ((nI i5).toNatClampNeg))) rfl q699 dX1_addVillage_92 ?_
      refine lv_iload hx hb dX1_addVillage_95 (lv_at hl 6 rfl) ?_
      refine ce_qi (fw := fun u => u) (fy := fun _ => y) (cr_S (n := 2) (As := [.ref (if y.1 15 (3 * i1 + ((nI i5).toNatClampNeg)) = 1 then y.2 15 (3 * i1 + ((nI i5).toNatClampNeg)) else kA κ 0), .int (v6)]) (rest := [.ref (y.2 0 0)]) ⟨hx, hb, hml, hown, hts⟩ hK hR (m_X1_told_4 hW h) q700 q701 q74 q702 rfl rfl hds_X1_told_4 ⟨Nat.le_of_ble_eq_true rfl, Nat.le_of_ble_eq_true rfl⟩ rfl rfl hl.1 rfl (lv_room (Nat.le_of_ble_eq_true rfl)) dX1_addVillage_97 ⟨(Nat.le_trans (show cells + 0 ≤ C1 from by omega) hC), (Nat.le_trans (show slots + 0 ≤ S1 from by omega) hSl)⟩) hR hS (fun r_97 w_97 H locs h hR _ hS => ?_)
      refine lv_i2l hx hb dX1_addVillage_100 rfl ?_
      refine ce_qv (fw := fun u => u) (fy := fun _ => y) (cr_V (n := 1) (As := [.long (r_97.toInt64)]) (rest := []) ⟨hx, hb, hml, hown, hts⟩ hK hR (m_X1_add hW l0 h) q590 q592 qs7 q74 q593 rfl rfl hd_X1_add ⟨Nat.le_of_ble_eq_true rfl, Nat.le_of_ble_eq_true rfl⟩ (rv hK hR l0 (ci := 0) rfl rfl) rfl rfl hl.1 rfl (lv_room (Nat.le_of_ble_eq_true rfl)) dX1_addVillage_101 ⟨(Nat.le_trans (show cells + 0 ≤ C1 from by omega) hC), (Nat.le_trans (show slots + 0 ≤ S1 from by omega) hSl)⟩) hR hS (fun w_101 H locs h hR _ hS => ?_)
      obtain ⟨x_104, ex_104⟩ : ∃ z : Int32, z = v6 + (1 : Int32) := ⟨_, rfl⟩
      have h := h x_104 ex_104
      refine lv_iinc (v := x_104) (lv' := [(6, .int (x_104)), (0, .ref (y.2 0 0)), (1, .ref (y.2 6 i1)), (2, .ref (q2)), (3, .int (v3)), (4, .int (v4)), (5, .ref (kA κ (20 + i5)))]) hx hb dX1_addVillage_104 hl (k := 6) rfl (by rw [ex_104]; rfl) (by decide) rfl (fun ls hl => ?_)
      refine lv_goto (tgt := 72) hx hb dX1_addVillage_107 (by decide) ?_
      exact ih w_101 x_104 _ _ _ _ _  h hR hS (lv_sub hl [1, 2, 3, 4, 5, 6, 0] rfl) (by omega) (by omega)
def st_X1_addVillage_34 (κ : Kx) (y : Ly) (post : Wd → Prop) (ex : Wd → Prop) (rec : Wd → Int32 → Prop) (i1 : Nat) (v3 : Int32) (w : Wd) (v4 : Int32) : Prop := ((v3 ≤ v4) → (ex w )) ∧ ((¬ (v3 ≤ v4)) → ((vp_in (v4) 3) ∧ (sp_X10_due κ y (fun r_50 w_50 => sp_X1_add κ y (fun w_54 => sp_X1_dueByLaw κ y (fun r_62 w_62 => sp_X1_add κ y (fun w_66 => sp_X1_addVillage_72 κ y post (fun w_72  => ∀ x_110 : Int32, x_110 = v4 + (1 : Int32) → rec w_72 x_110) i1 v3 v4 ((v4).toNatClampNeg) 15 w_66 (0 : Int32)) w_62 r_62.toInt64) w_54 i1 ((v4).toNatClampNeg)) w_50 r_50.toInt64) w i1 ((v4).toNatClampNeg))))
def sp_X1_addVillage_34 (κ : Kx) (y : Ly) (post : Wd → Prop) (ex : Wd → Prop) (i1 : Nat) (v3 : Int32) : Nat → Wd → Int32 → Prop
  | 0 => fun _ _ => False
  | n + 1 => fun w v4 => st_X1_addVillage_34 κ y post ex (sp_X1_addVillage_34 κ y post ex i1 v3 n) i1 v3 w v4
set_option maxHeartbeats 4000000 in
theorem lp_X1_addVillage_34 {p : Program} {l : Launch} {e : Env} {s : State} {m : MethodId} {args : Array Value} {below : List Frame} {meth : Method} {c : Code} {κ : Kx} {y : Ly} {X : XR} {post : Wd → Prop} {q2 : Nat} {i1 : Nat} {v3 : Int32} (hx : p.tables.exec = Jvm.exec) (hb : c.code = cX1_addVillage) (hr : meth.sig.returnType = (Option.none : Option Jvm.ClassFile.FieldType)) (hml : c.maxLocals = 7) (hown : s.vm.findClass RX1 = some m.cls) (hts : ∀ w ∈ lw_all, w.before args s = true) (hlocks : meth.locks = false) (hK : KK κ s) (hW : WFc κ y) (l0 : live y 0 0) (l1 : live y 6 i1) {C1 S1 : Nat} (hC : C1 ≤ 1) (hSl : S1 ≤ 3) {ex : Wd → Prop}
    (kx : ∀ (w : Wd)  (H : Heap) (locs : List Loc) (ls : Array Slot) (cells slots : Nat) , ex w  → Rp κ w y X [] H → va_S (Af κ) s.heap H locs → lv_has ls 7 [] → cells ≤ C1 → slots ≤ S1 → W p l e (headSpec (ws_ yX1_addVillage cX1_addVillage 7 (Option.none : Option Jvm.ClassFile.FieldType)) rm_X1_addVillage).room s m args below meth c H locs cells slots (MQ below (va_Qv post (fun w t => Rp κ w y X [] t.heap) (Af κ)) args s 1 3 (Af κ)) (F0 m 116 ls [])) :
    ∀ (f : Nat) (w : Wd) (v4 : Int32) (H : Heap) (locs : List Loc) (ls : Array Slot) (cells slots : Nat)  , sp_X1_addVillage_34 κ y post ex i1 v3 f w v4 → Rp κ w y X [(q2, dvC κ)] H → va_S (Af κ) s.heap H locs → lv_has ls 7 [(0, .ref (y.2 0 0)), (1, .ref (y.2 6 i1)), (2, .ref (q2)), (3, .int (v3)), (4, .int (v4))] → cells + f * 0 ≤ C1 → slots + f * 0 ≤ S1 → W p l e (headSpec (ws_ yX1_addVillage cX1_addVillage 7 (Option.none : Option Jvm.ClassFile.FieldType)) rm_X1_addVillage).room s m args below meth c H locs cells slots (MQ below (va_Qv post (fun w t => Rp κ w y X [] t.heap) (Af κ)) args s 1 3 (Af κ)) (F0 m 34 ls []) := by
  intro f
  induction f with
  | zero =>
    intro w v4 H locs ls cells slots  h
    exact False.elim h
  | succ f ih =>
    intro w v4 H locs ls cells slots  h hR hS hl hc hs
    have h : st_X1_addVillage_34 κ y post ex (sp_X1_addVillage_34 κ y post ex i1 v3 f) i1 v3 w v4 := h
    unfold st_X1_addVillage_34 at h
    refine lv_iload hx hb dX1_addVillage_34 (lv_at hl 4 rfl) ?_
    refine lv_iload_n hx hb dX1_addVillage_36 rfl (lv_at hl 3 rfl) ?_
    refine lv_icmp_ge (tgt := 116) hx hb dX1_addVillage_37 (by decide) (fun c_37 => ?_) (fun c_37 => ?_)
    · have h := h.1 c_37
      have hR := hR.sub (L' := []) [] rfl rfl
      exact kx w  _ _ _ _ _ h hR hS (lv_sub hl [] rfl) (by omega) (by omega)
    · have h := h.2 c_37
      refine lv_aload_n hx hb dX1_addVillage_40 rfl (lv_at hl 2 rfl) ?_
      refine lv_iload hx hb dX1_addVillage_41 (lv_at hl 4 rfl) ?_
      have o_43 := h.1
      have h := h.2
      refine xa_aald hx hb hK.1 (hR.L 0 _ rfl) 7 rfl o_43 dX1_addVillage_43 ?_
      refine lv_astore (lv' := [(5, .ref (kA κ (20 + (v4).toNatClampNeg))), (0, .ref (y.2 0 0)), (1, .ref (y.2 6 i1)), (2, .ref (q2)), (3, .int (v3)), (4, .int (v4))]) hx hb dX1_addVillage_44 hl (by decide) rfl (fun ls hl => ?_)
      refine lv_aload_n hx hb dX1_addVillage_46 rfl (lv_at hl 1 rfl) ?_
      refine lv_aload_n hx hb dX1_addVillage_47 rfl (lv_at hl 2 rfl) ?_
      refine lv_aload hx hb dX1_addVillage_48 (lv_at hl 0 rfl) ?_
      refine ce_qi (fw := fun u => u) (fy := fun _ => y) (cr_V (n := 1) (As := [.ref (kA κ (20 + (v4).toNatClampNeg))]) (rest := [.ref (y.2 0 0)]) ⟨hx, hb, hml, hown, hts⟩ hK hR (m_X10_due hW l1 (vp_lt o_43) h) q679 q680 q681 q92 q682 rfl rfl hd_X10_due ⟨Nat.le_of_ble_eq_true rfl, Nat.le_of_ble_eq_true rfl⟩ (rv hK hR l1 (ci := 6) rfl rfl) rfl rfl hl.1 rfl (lv_room (Nat.le_of_ble_eq_true rfl)) dX1_addVillage_50 ⟨(Nat.le_trans (show cells + 0 ≤ C1 from by omega) hC), (Nat.le_trans (show slots + 0 ≤ S1 from by omega) hSl)⟩) hR hS (fun r_50 w_50 H locs h hR _ hS => ?_)
      refine lv_i2l hx hb dX1_addVillage_53 rfl ?_
      refine ce_qv (fw := fun u => u) (fy := fun _ => y) (cr_V (n := 1) (As := [.long (r_50.toInt64)]) (rest := []) ⟨hx, hb, hml, hown, hts⟩ hK hR (m_X1_add hW l0 h) q590 q592 qs7 q74 q593 rfl rfl hd_X1_add ⟨Nat.le_of_ble_eq_true rfl, Nat.le_of_ble_eq_true rfl⟩ (rv hK hR l0 (ci := 0) rfl rfl) rfl rfl hl.1 rfl (lv_room (Nat.le_of_ble_eq_true rfl)) dX1_addVillage_54 ⟨(Nat.le_trans (show cells + 0 ≤ C1 from by omega) hC), (Nat.le_trans (show slots + 0 ≤ S1 from by omega) hSl)⟩) hR hS (fun w_54 H locs h hR _ hS => ?_)
      refine lv_aload_n hx hb dX1_addVillage_57 rfl (lv_at hl 1 rfl) ?_
      refine lv_aload_n hx hb dX1_addVillage_58 rfl (lv_at hl 1 rfl) ?_
      refine lv_aload_n hx hb dX1_addVillage_59 rfl (lv_at hl 2 rfl) ?_
      refine lv_aload hx hb dX1_addVillage_60 (lv_at hl 0 rfl) ?_
      refine ce_qi (fw := fun u => u) (fy := fun _ => y) (cr_V (n := 2) (As := [.ref (y.2 6 i1), .ref (kA κ (20 + (v4).toNatClampNeg))]) (rest := [.ref (y.2 0 0)]) ⟨hx, hb, hml, hown, hts⟩ hK hR (m_X1_dueByLaw hW l0 l1 (vp_lt o_43) h) q617 q619 qs10 q74 q620 rfl rfl hd_X1_dueByLaw ⟨Nat.le_of_ble_eq_true rfl, Nat.le_of_ble_eq_true rfl⟩ (rv hK hR l0 (ci := 0) rfl rfl) rfl rfl hl.1 rfl (lv_room (Nat.le_of_ble_eq_true rfl)) dX1_addVillage_62 ⟨(Nat.le_trans (show cells + 0 ≤ C1 from by omega) hC), (Nat.le_trans (show slots + 0 ≤ S1 from by omega) hSl)⟩) hR hS (fun r_62 w_62 H locs h hR _ hS => ?_)
      refine lv_i2l hx hb dX1_addVillage_65 rfl ?_
      refine ce_qv (fw := fun u => u) (fy := fun _ => y) (cr_V (n := 1) (As := [.long (r_62.toInt64)]) (rest := []) ⟨hx, hb, hml, hown, hts⟩ hK hR (m_X1_add hW l0 h) q590 q592 qs7 q74 q593 rfl rfl hd_X1_add ⟨Nat.le_of_ble_eq_true rfl, Nat.le_of_ble_eq_true rfl⟩ (rv hK hR l0 (ci := 0) rfl rfl) rfl rfl hl.1 rfl (lv_room (Nat.le_of_ble_eq_true rfl)) dX1_addVillage_66 ⟨(Nat.le_trans (show cells + 0 ≤ C1 from by omega) hC), (Nat.le_trans (show slots + 0 ≤ S1 from by omega) hSl)⟩) hR hS (fun w_66 H locs h hR _ hS => ?_)
      refine lv_iconst (v := (0 : Int32)) hx hb dX1_addVillage_69 (by decide) ?_
      refine lv_istore (lv' := [(6, .int ((0 : Int32))), (5, .ref (kA κ (20 + (v4).toNatClampNeg))), (0, .ref (y.2 0 0)), (1, .ref (y.2 6 i1)), (2, .ref (q2)), (3, .int (v3)), (4, .int (v4))]) hx hb dX1_addVillage_70 hl (by decide) rfl (fun ls hl => ?_)
      refine lp_X1_addVillage_72 (C1 := (cells + 0)) (S1 := (slots + 0)) hx hb hr hml hown hts hlocks hK hW l0 l1 (vp_lt o_43) (Nat.le_trans (by omega) hC) (Nat.le_trans (by omega) hSl) (fun w_72  H locs ls cells9 slots9 h hR hS hl hc9 hs9 => ?_) 15 w_66 (0 : Int32) _ _ _ _ _  h hR hS (lv_sub hl [2, 3, 4, 5, 6, 1, 0] rfl) (by omega) (by omega)
      refine W.widen (k := (cells + 0)) (n := (slots + 0)) hc9 hs9 ?_
      obtain ⟨x_110, ex_110⟩ : ∃ z : Int32, z = v4 + (1 : Int32) := ⟨_, rfl⟩
      have h := h x_110 ex_110
      refine lv_iinc (v := x_110) (lv' := [(4, .int (x_110)), (0, .ref (y.2 0 0)), (1, .ref (y.2 6 i1)), (2, .ref (q2)), (3, .int (v3))]) hx hb dX1_addVillage_110 hl (k := 4) rfl (by rw [ex_110]; rfl) (by decide) rfl (fun ls hl => ?_)
      refine lv_goto (tgt := 34) hx hb dX1_addVillage_113 (by decide) ?_
      exact ih w_72 x_110 _ _ _ _ _  h hR hS (lv_sub hl [1, 2, 3, 4, 0] rfl) (by omega) (by omega)
def sp_X1_addVillage (κ : Kx) (y : Ly) (post : Wd → Prop) (w : Wd) (a1 : Nat) : Prop := sp_X1_addVillage_2 κ y post (fun w_2  => ∀ x_30 : Int32, x_30 = nI 3 → sp_X1_addVillage_34 κ y post (fun w_34  => post w_34) a1 x_30 15 w_2 (0 : Int32)) a1 15 w (0 : Int32)
theorem hd_X1_addVillage : yX1_addVillage.cls = RX1 ∧ yX1_addVillage.cls ≠ "java/lang/invoke/MethodHandle" ∧ yX1_addVillage.cls ≠ "java/lang/invoke/VarHandle" ∧ (parseMethodDescriptor yX1_addVillage.desc).map (fun d => d.parameters.length) = some 1 := by decide +kernel
set_option maxHeartbeats 4000000 in
theorem m_X1_addVillage {l : Launch} {κ : Kx} {y : Ly} {X : XR} {post : Wd → Prop} {w : Wd} {a1 : Nat}  (hW : WFc κ y) (l0 : live y 0 0) (l1 : live y 6 a1) (h : sp_X1_addVillage κ y post w a1) : Met l yX1_addVillage (ws_ yX1_addVillage cX1_addVillage 7 (Option.none : Option Jvm.ClassFile.FieldType)) rm_X1_addVillage (va_Pc [.ref (y.2 0 0), .ref (y.2 6 a1)] (RC κ w y X)) (va_Qv post (fun w t => Rp κ w y X [] t.heap) (Af κ)) 1 3 (Af κ) := by
  unfold sp_X1_addVillage at h
  refine Met.ofW (cc := cX1_addVillage) (maxL := 7) (ret := (Option.none : Option Jvm.ClassFile.FieldType)) (by decide) rfl ?_
  intro p e s m args below meth c s₁ B hml hv
  obtain ⟨rfl, hR, hK⟩ := hv
  have hx := B.exec
  have hb := B.bytes
  have hr := B.returns
  have hts := atoms_spec (ws := ws_ yX1_addVillage cX1_addVillage 7 (Option.none : Option Jvm.ClassFile.FieldType)) B.pre
  have hts : ∀ w ∈ lw_all, w.before _ s = true := fun w h => hts w (List.mem_cons_of_mem _ h)
  have hown : s.vm.findClass RX1 = some m.cls := findClass_of_methodNamed B.named
  have hlocks := B.notSynchronized
  have hS : va_S (Af κ) s.heap s.heap [] := va_S.rf
  have hl := lv_entry ([.ref (y.2 0 0), .ref (y.2 6 a1)]) (n := 7) (Nat.le_of_ble_eq_true rfl)
  rw [lg_entry_eq]
  generalize (lg_sl ([.ref (y.2 0 0), .ref (y.2 6 a1)]) ++ List.replicate (7 - (lg_sl ([.ref (y.2 0 0), .ref (y.2 6 a1)])).length) Slot.unset).toArray = ls at hl ⊢
  have hl : lv_has ls 7 [(0, .ref (y.2 0 0)), (1, .ref (y.2 6 a1))] := hl
  refine lv_iconst (v := (0 : Int32)) hx hb dX1_addVillage_0 (by decide) ?_
  refine lv_istore_n (lv' := [(2, .int ((0 : Int32))), (0, .ref (y.2 0 0)), (1, .ref (y.2 6 a1))]) hx hb dX1_addVillage_1 rfl hl (by decide) rfl (fun ls hl => ?_)
  refine lp_X1_addVillage_2 (C1 := 0) (S1 := 0) hx hb hr hml hown hts hlocks hK hW l0 l1 (Nat.le_of_ble_eq_true rfl) (Nat.le_of_ble_eq_true rfl) (fun w_2  H locs ls cells9 slots9 h hR hS hl hc9 hs9 => ?_) 15 w (0 : Int32) _ _ _ _ _  h hR hS (lv_sub hl [1, 2, 0] rfl) (by omega) (by omega)
  refine W.widen (k := 0) (n := 0) hc9 hs9 ?_
  refine jr_values (rest := []) ⟨hx, hb, hml, hown, hts⟩ hK hR hS q206 ⟨Nat.le_of_ble_eq_true rfl, Nat.le_of_ble_eq_true rfl⟩ hl.1 (Nat.le_of_ble_eq_true rfl) dX1_addVillage_24 ⟨(Nat.le_of_ble_eq_true rfl), (Nat.le_of_ble_eq_true rfl)⟩ (fun q_24 H locs hR hS => ?_)
  have hR : Rp κ w_2 y X [(q_24, dvC κ)] H := hR
  refine lv_astore_n (lv' := [(2, .ref (q_24)), (0, .ref (y.2 0 0)), (1, .ref (y.2 6 a1))]) hx hb dX1_addVillage_27 rfl hl (by decide) rfl (fun ls hl => ?_)
  refine lv_aload_n hx hb dX1_addVillage_28 rfl (lv_at hl 0 rfl) ?_
  refine xa_alen hx hb hK.1 (hR.L 0 _ rfl) 7 rfl dX1_addVillage_29 ?_
  refine lv_topi (fun x_30 ex_30 => ?_)
  have h := h x_30 ex_30
  refine lv_istore_n (lv' := [(3, .int (x_30)), (2, .ref (q_24)), (0, .ref (y.2 0 0)), (1, .ref (y.2 6 a1))]) hx hb dX1_addVillage_30 rfl hl (by decide) rfl (fun ls hl => ?_)
  refine lv_iconst (v := (0 : Int32)) hx hb dX1_addVillage_31 (by decide) ?_
  refine lv_istore (lv' := [(4, .int ((0 : Int32))), (3, .int (x_30)), (2, .ref (q_24)), (0, .ref (y.2 0 0)), (1, .ref (y.2 6 a1))]) hx hb dX1_addVillage_32 hl (by decide) rfl (fun ls hl => ?_)
  refine lp_X1_addVillage_34 (C1 := 1) (S1 := 3) hx hb hr hml hown hts hlocks hK hW l0 l1 (Nat.le_of_ble_eq_true rfl) (Nat.le_of_ble_eq_true rfl) (fun w_34  H locs ls cells9 slots9 h hR hS hl hc9 hs9 => ?_) 15 w_2 (0 : Int32) _ _ _ _ _  h hR hS (lv_sub hl [3, 4, 2, 1, 0] rfl) (by omega) (by omega)
  refine W.widen (k := 1) (n := 3) hc9 hs9 ?_
  refine W.widen (k := 1) (n := 3) (Nat.le_of_ble_eq_true rfl) (Nat.le_of_ble_eq_true rfl) ?_
  exact W.vret hx hb hr (fun t ht hW9 => ⟨⟨w_34, rfl, h, rpt ht hR⟩, hS.F ht⟩) hS.2.2 dX1_addVillage_116
abbrev rm_X1_told_5 : Room := { frames := 4, cells := 1, slots := 4, locals := 92 }
def sp_X1_told_5 (κ : Kx) (y : Ly) (post : Int32 → Wd → Prop) (w : Wd) (a1 : Nat) (p2 : Int32) : Prop := (p2 = (0 : Int32) → (post (gv w 9 a1 3) w)) ∧ (p2 = (1 : Int32) → (post (gv w 9 a1 4) w)) ∧ (p2 = (2 : Int32) → (sp_X2_coins κ y (fun r_78 w_78 => post (r_78) w_78) w (((11 + a1))))) ∧ (p2 = (3 : Int32) → (post (gv w 9 a1 5) w)) ∧ (p2 = (4 : Int32) → (post (gv w 9 a1 6) w)) ∧ (p2 = (5 : Int32) → (sp_X1_one κ y (fun r_96 w_96 => post (r_96) w_96) w (gv w 9 a1 11))) ∧ (p2 = (6 : Int32) → (post (nI (nP y a1)) w)) ∧ (p2 = (7 : Int32) → (sp_X12_shares κ y (fun r_109 w_109 => post (r_109) w_109) w a1)) ∧ (p2 = (8 : Int32) → (post (gv w 9 a1 7) w)) ∧ (p2 = (9 : Int32) → (post (gv w 9 a1 8) w)) ∧ (p2 = (10 : Int32) → (sp_X1_lotsOf κ y (fun r_125 w_125 => post (r_125) w_125) w a1)) ∧ (p2 = (11 : Int32) → (post (gv w 9 a1 9) w)) ∧ (¬ p2 = (0 : Int32) → ¬ p2 = (1 : Int32) → ¬ p2 = (2 : Int32) → ¬ p2 = (3 : Int32) → ¬ p2 = (4 : Int32) → ¬ p2 = (5 : Int32) → ¬ p2 = (6 : Int32) → ¬ p2 = (7 : Int32) → ¬ p2 = (8 : Int32) → ¬ p2 = (9 : Int32) → ¬ p2 = (10 : Int32) → ¬ p2 = (11 : Int32) → (post (gv w 9 a1 10) w))
theorem hd_X1_told_5 : yX1_told_5.cls = RX1 ∧ yX1_told_5.cls ≠ "java/lang/invoke/MethodHandle" ∧ yX1_told_5.cls ≠ "java/lang/invoke/VarHandle" ∧ (parseMethodDescriptor yX1_told_5.desc).map (fun d => d.parameters.length) = some 2 := by decide +kernel
set_option maxHeartbeats 4000000 in
theorem m_X1_told_5 {l : Launch} {κ : Kx} {y : Ly} {X : XR} {post : Int32 → Wd → Prop} {w : Wd} {a1 : Nat} {p2 : Int32}  (hW : WFc κ y) (l0 : live y 0 0) (l1 : live y 9 a1) (h : sp_X1_told_5 κ y post w a1 p2) : Met l yX1_told_5 (ws_ yX1_told_5 cX1_told_5 3 (Option.some Jvm.ClassFile.FieldType.int)) rm_X1_told_5 (va_Pc [.ref (y.2 0 0), .ref (y.2 9 a1), .int (p2)] (RC κ w y X)) (va_Qi post (fun w t => Rp κ w y X [] t.heap) (Af κ)) 1 4 (Af κ) := by
  unfold sp_X1_told_5 at h
  refine Met.ofW (cc := cX1_told_5) (maxL := 3) (ret := (Option.some Jvm.ClassFile.FieldType.int)) (by decide) rfl ?_
  intro p e s m args below meth c s₁ B hml hv
  obtain ⟨rfl, hR, hK⟩ := hv
  have hx := B.exec
  have hb := B.bytes
  have hr := B.returns
  have hts := atoms_spec (ws := ws_ yX1_told_5 cX1_told_5 3 (Option.some Jvm.ClassFile.FieldType.int)) B.pre
  have hts : ∀ w ∈ lw_all, w.before _ s = true := fun w h => hts w (List.mem_cons_of_mem _ h)
  have hown : s.vm.findClass RX1 = some m.cls := findClass_of_methodNamed B.named
  have hlocks := B.notSynchronized
  have hS : va_S (Af κ) s.heap s.heap [] := va_S.rf
  have hl := lv_entry ([.ref (y.2 0 0), .ref (y.2 9 a1), .int (p2)]) (n := 3) (Nat.le_of_ble_eq_true rfl)
  rw [lg_entry_eq]
  generalize (lg_sl ([.ref (y.2 0 0), .ref (y.2 9 a1), .int (p2)]) ++ List.replicate (3 - (lg_sl ([.ref (y.2 0 0), .ref (y.2 9 a1), .int (p2)])).length) Slot.unset).toArray = ls at hl ⊢
  have hl : lv_has ls 3 [(0, .ref (y.2 0 0)), (1, .ref (y.2 9 a1)), (2, .int (p2))] := hl
  refine lv_iload_n hx hb dX1_told_5_0 rfl (lv_at hl 2 rfl) ?_
  by_cases c_1 : p2 = (0 : Int32)
  · have h := h.1 c_1
    refine lv_tableIn (off := 63) (tgt := 64) hx hb dX1_told_5_1 (by rw [c_1]; decide) (by rw [c_1]; decide) (by rw [c_1]; rfl) (by decide) ?_
    refine lv_aload_n hx hb dX1_told_5_64 rfl (lv_at hl 1 rfl) ?_
    refine g9_3 hx hb hts hown hK hR l1 q1128 dX1_told_5_65 ?_
    refine W.widen (k := 1) (n := 4) (Nat.le_of_ble_eq_true rfl) (Nat.le_of_ble_eq_true rfl) ?_
    exact W.iret (v := gv w 9 a1 3) hx hb hr (fun t ht hW9 => ⟨⟨gv w 9 a1 3, w, rfl, h, rpt ht hR⟩, hS.F ht⟩) hS.2.2 dX1_told_5_68
  replace h := h.2
  by_cases c_1_a : p2 = (1 : Int32)
  · have h := h.1 c_1_a
    refine lv_tableIn (off := 68) (tgt := 69) hx hb dX1_told_5_1 (by rw [c_1_a]; decide) (by rw [c_1_a]; decide) (by rw [c_1_a]; rfl) (by decide) ?_
    refine lv_aload_n hx hb dX1_told_5_69 rfl (lv_at hl 1 rfl) ?_
    refine g9_4 hx hb hts hown hK hR l1 q1131 dX1_told_5_70 ?_
    refine W.widen (k := 1) (n := 4) (Nat.le_of_ble_eq_true rfl) (Nat.le_of_ble_eq_true rfl) ?_
    exact W.iret (v := gv w 9 a1 4) hx hb hr (fun t ht hW9 => ⟨⟨gv w 9 a1 4, w, rfl, h, rpt ht hR⟩, hS.F ht⟩) hS.2.2 dX1_told_5_73
  replace h := h.2
  by_cases c_1_b : p2 = (2 : Int32)
  · have h := h.1 c_1_b
    refine lv_tableIn (off := 73) (tgt := 74) hx hb dX1_told_5_1 (by rw [c_1_b]; decide) (by rw [c_1_b]; decide) (by rw [c_1_b]; rfl) (by decide) ?_
    refine lv_aload_n hx hb dX1_told_5_74 rfl (lv_at hl 1 rfl) ?_
    refine g9_1 hx hb hts hown hK hR l1 q1124 dX1_told_5_75 ?_
    refine ce_qi (fw := fun u => u) (fy := fun _ => y) (cr_V (n := 0) (As := []) (rest := []) ⟨hx, hb, hml, hown, hts⟩ hK hR (m_X2_coins hW (hW.cch l1) h) q300 q301 q302 q78 q305 rfl rfl hd_X2_coins ⟨Nat.le_of_ble_eq_true rfl, Nat.le_of_ble_eq_true rfl⟩ (rv_ch1 hK hR (hW.cch l1) (by omega)) rfl rfl hl.1 rfl (lv_room (Nat.le_of_ble_eq_true rfl)) dX1_told_5_78 ⟨(Nat.le_of_ble_eq_true rfl), (Nat.le_of_ble_eq_true rfl)⟩) hR hS (fun r_78 w_78 H locs h hR _ hS => ?_)
    refine W.widen (k := 1) (n := 4) (Nat.le_of_ble_eq_true rfl) (Nat.le_of_ble_eq_true rfl) ?_
    exact W.iret (v := r_78) hx hb hr (fun t ht hW9 => ⟨⟨r_78, w_78, rfl, h, rpt ht hR⟩, hS.F ht⟩) hS.2.2 dX1_told_5_81
  replace h := h.2
  by_cases c_1_c : p2 = (3 : Int32)
  · have h := h.1 c_1_c
    refine lv_tableIn (off := 81) (tgt := 82) hx hb dX1_told_5_1 (by rw [c_1_c]; decide) (by rw [c_1_c]; decide) (by rw [c_1_c]; rfl) (by decide) ?_
    refine lv_aload_n hx hb dX1_told_5_82 rfl (lv_at hl 1 rfl) ?_
    refine g9_5 hx hb hts hown hK hR l1 q1133 dX1_told_5_83 ?_
    refine W.widen (k := 1) (n := 4) (Nat.le_of_ble_eq_true rfl) (Nat.le_of_ble_eq_true rfl) ?_
    exact W.iret (v := gv w 9 a1 5) hx hb hr (fun t ht hW9 => ⟨⟨gv w 9 a1 5, w, rfl, h, rpt ht hR⟩, hS.F ht⟩) hS.2.2 dX1_told_5_86
  replace h := h.2
  by_cases c_1_d : p2 = (4 : Int32)
  · have h := h.1 c_1_d
    refine lv_tableIn (off := 86) (tgt := 87) hx hb dX1_told_5_1 (by rw [c_1_d]; decide) (by rw [c_1_d]; decide) (by rw [c_1_d]; rfl) (by decide) ?_
    refine lv_aload_n hx hb dX1_told_5_87 rfl (lv_at hl 1 rfl) ?_
    refine g9_6 hx hb hts hown hK hR l1 q1134 dX1_told_5_88 ?_
    refine W.widen (k := 1) (n := 4) (Nat.le_of_ble_eq_true rfl) (Nat.le_of_ble_eq_true rfl) ?_
    exact W.iret (v := gv w 9 a1 6) hx hb hr (fun t ht hW9 => ⟨⟨gv w 9 a1 6, w, rfl, h, rpt ht hR⟩, hS.F ht⟩) hS.2.2 dX1_told_5_91
  replace h := h.2
  by_cases c_1_e : p2 = (5 : Int32)
  · have h := h.1 c_1_e
    refine lv_tableIn (off := 91) (tgt := 92) hx hb dX1_told_5_1 (by rw [c_1_e]; decide) (by rw [c_1_e]; decide) (by rw [c_1_e]; rfl) (by decide) ?_
    refine lv_aload_n hx hb dX1_told_5_92 rfl (lv_at hl 1 rfl) ?_
    refine g9_11 hx hb hts hown hK hR l1 q1143 dX1_told_5_93 ?_
    refine ce_qi (fw := fun u => u) (fy := fun _ => y) (cr_S (n := 1) (As := [.int (gv w 9 a1 11)]) (rest := []) ⟨hx, hb, hml, hown, hts⟩ hK hR (m_X1_one hW h) q548 q549 q74 q550 rfl rfl hds_X1_one ⟨Nat.le_of_ble_eq_true rfl, Nat.le_of_ble_eq_true rfl⟩ rfl rfl hl.1 rfl (lv_room (Nat.le_of_ble_eq_true rfl)) dX1_told_5_96 ⟨(Nat.le_of_ble_eq_true rfl), (Nat.le_of_ble_eq_true rfl)⟩) hR hS (fun r_96 w_96 H locs h hR _ hS => ?_)
    refine W.widen (k := 1) (n := 4) (Nat.le_of_ble_eq_true rfl) (Nat.le_of_ble_eq_true rfl) ?_
    exact W.iret (v := r_96) hx hb hr (fun t ht hW9 => ⟨⟨r_96, w_96, rfl, h, rpt ht hR⟩, hS.F ht⟩) hS.2.2 dX1_told_5_99
  replace h := h.2
  by_cases c_1_f : p2 = (6 : Int32)
  · have h := h.1 c_1_f
    refine lv_tableIn (off := 99) (tgt := 100) hx hb dX1_told_5_1 (by rw [c_1_f]; decide) (by rw [c_1_f]; decide) (by rw [c_1_f]; rfl) (by decide) ?_
    refine lv_aload_n hx hb dX1_told_5_100 rfl (lv_at hl 1 rfl) ?_
    refine g9_2 hx hb hts hown hK hR l1 q1126 dX1_told_5_101 ?_
    refine jr_size ⟨hx, hb, hml, hown, hts⟩ hK hR ⟨fun _ _ _ _ _ => rfl, fun _ _ _ _ _ => rfl⟩ (hW.cpa l1) q536 ⟨Nat.le_of_ble_eq_true rfl, Nat.le_of_ble_eq_true rfl⟩ hl.1 (Nat.le_of_ble_eq_true rfl) dX1_told_5_104 ⟨(Nat.le_of_ble_eq_true rfl), (Nat.le_of_ble_eq_true rfl)⟩ ?_
    refine W.widen (k := 1) (n := 4) (Nat.le_of_ble_eq_true rfl) (Nat.le_of_ble_eq_true rfl) ?_
    exact W.iret (v := nI (nP y a1)) hx hb hr (fun t ht hW9 => ⟨⟨nI (nP y a1), w, rfl, h, rpt ht hR⟩, hS.F ht⟩) hS.2.2 dX1_told_5_107
  replace h := h.2
  by_cases c_1_g : p2 = (7 : Int32)
  · have h := h.1 c_1_g
    refine lv_tableIn (off := 107) (tgt := 108) hx hb dX1_told_5_1 (by rw [c_1_g]; decide) (by rw [c_1_g]; decide) (by rw [c_1_g]; rfl) (by decide) ?_
    refine lv_aload_n hx hb dX1_told_5_108 rfl (lv_at hl 1 rfl) ?_
    refine ce_qi (fw := fun u => u) (fy := fun _ => y) (cr_V (n := 0) (As := []) (rest := []) ⟨hx, hb, hml, hown, hts⟩ hK hR (m_X12_shares hW l1 h) q721 q722 q723 q106 q724 rfl rfl hd_X12_shares ⟨Nat.le_of_ble_eq_true rfl, Nat.le_of_ble_eq_true rfl⟩ (rv hK hR l1 (ci := 7) rfl rfl) rfl rfl hl.1 rfl (lv_room (Nat.le_of_ble_eq_true rfl)) dX1_told_5_109 ⟨(Nat.le_of_ble_eq_true rfl), (Nat.le_of_ble_eq_true rfl)⟩) hR hS (fun r_109 w_109 H locs h hR _ hS => ?_)
    refine W.widen (k := 1) (n := 4) (Nat.le_of_ble_eq_true rfl) (Nat.le_of_ble_eq_true rfl) ?_
    exact W.iret (v := r_109) hx hb hr (fun t ht hW9 => ⟨⟨r_109, w_109, rfl, h, rpt ht hR⟩, hS.F ht⟩) hS.2.2 dX1_told_5_112
  replace h := h.2
  by_cases c_1_h : p2 = (8 : Int32)
  · have h := h.1 c_1_h
    refine lv_tableIn (off := 112) (tgt := 113) hx hb dX1_told_5_1 (by rw [c_1_h]; decide) (by rw [c_1_h]; decide) (by rw [c_1_h]; rfl) (by decide) ?_
    refine lv_aload_n hx hb dX1_told_5_113 rfl (lv_at hl 1 rfl) ?_
    refine g9_7 hx hb hts hown hK hR l1 q1135 dX1_told_5_114 ?_
    refine W.widen (k := 1) (n := 4) (Nat.le_of_ble_eq_true rfl) (Nat.le_of_ble_eq_true rfl) ?_
    exact W.iret (v := gv w 9 a1 7) hx hb hr (fun t ht hW9 => ⟨⟨gv w 9 a1 7, w, rfl, h, rpt ht hR⟩, hS.F ht⟩) hS.2.2 dX1_told_5_117
  replace h := h.2
  by_cases c_1_i : p2 = (9 : Int32)
  · have h := h.1 c_1_i
    refine lv_tableIn (off := 117) (tgt := 118) hx hb dX1_told_5_1 (by rw [c_1_i]; decide) (by rw [c_1_i]; decide) (by rw [c_1_i]; rfl) (by decide) ?_
    refine lv_aload_n hx hb dX1_told_5_118 rfl (lv_at hl 1 rfl) ?_
    refine g9_8 hx hb hts hown hK hR l1 q1137 dX1_told_5_119 ?_
    refine W.widen (k := 1) (n := 4) (Nat.le_of_ble_eq_true rfl) (Nat.le_of_ble_eq_true rfl) ?_
    exact W.iret (v := gv w 9 a1 8) hx hb hr (fun t ht hW9 => ⟨⟨gv w 9 a1 8, w, rfl, h, rpt ht hR⟩, hS.F ht⟩) hS.2.2 dX1_told_5_122
  replace h := h.2
  by_cases c_1_j : p2 = (10 : Int32)
  · have h := h.1 c_1_j
    refine lv_tableIn (off := 122) (tgt := 123) hx hb dX1_told_5_1 (by rw [c_1_j]; decide) (by rw [c_1_j]; decide) (by rw [c_1_j]; rfl) (by decide) ?_
    refine lv_aload_n hx hb dX1_told_5_123 rfl (lv_at hl 0 rfl) ?_
    refine lv_aload_n hx hb dX1_told_5_124 rfl (lv_at hl 1 rfl) ?_
    refine ce_qi (fw := fun u => u) (fy := fun _ => y) (cr_V (n := 1) (As := [.ref (y.2 9 a1)]) (rest := []) ⟨hx, hb, hml, hown, hts⟩ hK hR (m_X1_lotsOf hW l0 l1 h) q731 q733 qs14 q74 q734 rfl rfl hd_X1_lotsOf ⟨Nat.le_of_ble_eq_true rfl, Nat.le_of_ble_eq_true rfl⟩ (rv hK hR l0 (ci := 0) rfl rfl) rfl rfl hl.1 rfl (lv_room (Nat.le_of_ble_eq_true rfl)) dX1_told_5_125 ⟨(Nat.le_of_ble_eq_true rfl), (Nat.le_of_ble_eq_true rfl)⟩) hR hS (fun r_125 w_125 H locs h hR _ hS => ?_)
    refine W.widen (k := 1) (n := 4) (Nat.le_of_ble_eq_true rfl) (Nat.le_of_ble_eq_true rfl) ?_
    exact W.iret (v := r_125) hx hb hr (fun t ht hW9 => ⟨⟨r_125, w_125, rfl, h, rpt ht hR⟩, hS.F ht⟩) hS.2.2 dX1_told_5_128
  replace h := h.2
  by_cases c_1_k : p2 = (11 : Int32)
  · have h := h.1 c_1_k
    refine lv_tableIn (off := 128) (tgt := 129) hx hb dX1_told_5_1 (by rw [c_1_k]; decide) (by rw [c_1_k]; decide) (by rw [c_1_k]; rfl) (by decide) ?_
    refine lv_aload_n hx hb dX1_told_5_129 rfl (lv_at hl 1 rfl) ?_
    refine g9_9 hx hb hts hown hK hR l1 q1139 dX1_told_5_130 ?_
    refine W.widen (k := 1) (n := 4) (Nat.le_of_ble_eq_true rfl) (Nat.le_of_ble_eq_true rfl) ?_
    exact W.iret (v := gv w 9 a1 9) hx hb hr (fun t ht hW9 => ⟨⟨gv w 9 a1 9, w, rfl, h, rpt ht hR⟩, hS.F ht⟩) hS.2.2 dX1_told_5_133
  replace h := h.2
  replace h := h c_1 c_1_a c_1_b c_1_c c_1_d c_1_e c_1_f c_1_g c_1_h c_1_i c_1_j c_1_k
  refine lv_tableOut (tgt := 134) hx hb dX1_told_5_1 (tb_out (lo := 0) (hi := 11) (fun v h1 h2 => by
    have h3 : v = 0 ∨ v = 1 ∨ v = 2 ∨ v = 3 ∨ v = 4 ∨ v = 5 ∨ v = 6 ∨ v = 7 ∨ v = 8 ∨ v = 9 ∨ v = 10 ∨ v = 11 := by omega
    rcases h3 with rfl | rfl | rfl | rfl | rfl | rfl | rfl | rfl | rfl | rfl | rfl | rfl
    · exact c_1
    · exact c_1_a
    · exact c_1_b
    · exact c_1_c
    · exact c_1_d
    · exact c_1_e
    · exact c_1_f
    · exact c_1_g
    · exact c_1_h
    · exact c_1_i
    · exact c_1_j
    · exact c_1_k
    )) (by decide) ?_
  refine lv_aload_n hx hb dX1_told_5_134 rfl (lv_at hl 1 rfl) ?_
  refine g9_10 hx hb hts hown hK hR l1 q1141 dX1_told_5_135 ?_
  refine W.widen (k := 1) (n := 4) (Nat.le_of_ble_eq_true rfl) (Nat.le_of_ble_eq_true rfl) ?_
  exact W.iret (v := gv w 9 a1 10) hx hb hr (fun t ht hW9 => ⟨⟨gv w 9 a1 10, w, rfl, h, rpt ht hR⟩, hS.F ht⟩) hS.2.2 dX1_told_5_138
abbrev rm_X1_bring : Room := { frames := 4, cells := 1, slots := 4, locals := 94 }
def st_X1_bring_11 (κ : Kx) (y : Ly) (post : Int32 → Wd → Prop) (ex : Wd → (Int32) → Prop) (rec : Wd → Int32 → Nat → Int32 → Prop) (i1 : Nat) (v2 : Int32) (w : Wd) (v3 : Int32) (c4 : Nat) (z4 : Int32) : Prop := ((¬ (¬ c4 = nV y)) → (ex w v3)) ∧ (((¬ c4 = nV y)) → (sp_X1_has κ y (fun r_42 w_42 => ((r_42 = 0) → (rec w_42 v3 (c4 + 1) (nI c4))) ∧ ((¬ (r_42 = 0)) → (((gv w_42 6 c4 16 = 0) → (((gv w_42 11 i1 1).toNatClampNeg < 3) ∧ (sp_X10_due κ y (fun r_65 w_65 => ((gv w_65 11 i1 1).toNatClampNeg < 3) ∧ (sp_X10_shown κ y (fun r_89 w_89 => ((v2 < (2 : Int32)) → (sp_D_got κ y (fun r_111 w_111 => ((gv w_111 11 i1 1).toNatClampNeg < 3) ∧ (sp_D_worth κ y (fun r_123 w_123 => ∀ x_127 : Int32, x_127 = v3 + r_123 → rec w_123 x_127 (c4 + 1) (nI c4)) w_111 ((gv w_111 11 i1 1).toNatClampNeg) r_111)) w_89 ((gv w_65 11 i1 1).toNatClampNeg) c4 r_89 (0 : Int32) 1 (0 : Int32))) ∧ ((¬ (v2 < (2 : Int32))) → (sp_D_got κ y (fun r_111_a w_111_a => ((gv w_111_a 11 i1 1).toNatClampNeg < 3) ∧ (sp_D_worth κ y (fun r_123_a w_123_a => ∀ x_127_a : Int32, x_127_a = v3 + r_123_a → rec w_123_a x_127_a (c4 + 1) (nI c4)) w_111_a ((gv w_111_a 11 i1 1).toNatClampNeg) r_111_a)) w_89 ((gv w_65 11 i1 1).toNatClampNeg) c4 r_89 (1 : Int32) 1 (0 : Int32)))) w_65 c4 (r_65 + ((r_65 * v2) / (8 : Int32))) v2)) w_42 c4 ((gv w_42 11 i1 1).toNatClampNeg)))) ∧ ((¬ (gv w_42 6 c4 16 = 0)) → (rec w_42 v3 (c4 + 1) (nI c4)))))) w (gv w 11 i1 2) (nI c4)))
def sp_X1_bring_11 (κ : Kx) (y : Ly) (post : Int32 → Wd → Prop) (ex : Wd → (Int32) → Prop) (i1 : Nat) (v2 : Int32) : Nat → Wd → Int32 → Nat → Int32 → Prop
  | 0 => fun _ _ _ _ => False
  | n + 1 => fun w v3 c4 z4 => st_X1_bring_11 κ y post ex (sp_X1_bring_11 κ y post ex i1 v2 n) i1 v2 w v3 c4 z4
set_option maxHeartbeats 4000000 in
theorem lp_X1_bring_11 {p : Program} {l : Launch} {e : Env} {s : State} {m : MethodId} {args : Array Value} {below : List Frame} {meth : Method} {c : Code} {κ : Kx} {y : Ly} {X : XR} {post : Int32 → Wd → Prop} {q4 : Nat} {i1 : Nat} {v2 : Int32} (hx : p.tables.exec = Jvm.exec) (hb : c.code = cX1_bring) (hr : meth.sig.returnType = (Option.some Jvm.ClassFile.FieldType.int)) (hml : c.maxLocals = 8) (hown : s.vm.findClass RX1 = some m.cls) (hts : ∀ w ∈ lw_all, w.before args s = true) (hlocks : meth.locks = false) (hK : KK κ s) (hW : WFc κ y) (l0 : live y 0 0) (l1 : live y 11 i1) {C1 S1 : Nat} (hC : C1 ≤ 1) (hSl : S1 ≤ 4) {ex : Wd → (Int32) → Prop}
    (kx : ∀ (w : Wd) (v3 : Int32) (H : Heap) (locs : List Loc) (ls : Array Slot) (cells slots : Nat) , ex w v3 → Rp κ w y X [] H → va_S (Af κ) s.heap H locs → lv_has ls 8 [(3, .int (v3))] → cells ≤ C1 → slots ≤ S1 → W p l e (headSpec (ws_ yX1_bring cX1_bring 8 (Option.some Jvm.ClassFile.FieldType.int)) rm_X1_bring).room s m args below meth c H locs cells slots (MQ below (va_Qi post (fun w t => Rp κ w y X [] t.heap) (Af κ)) args s 1 4 (Af κ)) (F0 m 131 ls [])) :
    ∀ (f : Nat) (w : Wd) (v3 : Int32) (c4 : Nat) (z4 : Int32) (H : Heap) (locs : List Loc) (ls : Array Slot) (cells slots : Nat)  (hc4 : c4 ≤ nV y), sp_X1_bring_11 κ y post ex i1 v2 f w v3 c4 z4 → Rp κ w y X [(q4, itC y 40 0 c4 z4)] H → va_S (Af κ) s.heap H locs → lv_has ls 8 [(0, .ref (y.2 0 0)), (1, .ref (y.2 11 i1)), (2, .int (v2)), (3, .int (v3)), (4, .ref (q4))] → cells + f * 0 ≤ C1 → slots + f * 0 ≤ S1 → W p l e (headSpec (ws_ yX1_bring cX1_bring 8 (Option.some Jvm.ClassFile.FieldType.int)) rm_X1_bring).room s m args below meth c H locs cells slots (MQ below (va_Qi post (fun w t => Rp κ w y X [] t.heap) (Af κ)) args s 1 4 (Af κ)) (F0 m 11 ls []) := by
  intro f
  induction f with
  | zero =>
    intro w v3 c4 z4 H locs ls cells slots hc4 h
    exact False.elim h
  | succ f ih =>
    intro w v3 c4 z4 H locs ls cells slots hc4 h hR hS hl hc hs
    have h : st_X1_bring_11 κ y post ex (sp_X1_bring_11 κ y post ex i1 v2 f) i1 v2 w v3 c4 z4 := h
    unfold st_X1_bring_11 at h
    refine lv_aload hx hb dX1_bring_11 (lv_at hl 4 rfl) ?_
    refine jr_hasNext (t := 0) ⟨hx, hb, hml, hown, hts⟩ hK hR rfl ⟨fun _ _ _ _ _ => rfl, fun _ _ _ _ _ => rfl⟩ hW.lsV (by omega) (Nat.le_trans hW.nV8 (by decide)) q349 ⟨Nat.le_of_ble_eq_true rfl, Nat.le_of_ble_eq_true rfl⟩ hl.1 (Nat.le_of_ble_eq_true rfl) dX1_bring_13 ⟨(Nat.le_trans (show cells + 0 ≤ C1 from by omega) hC), (Nat.le_trans (show slots + 0 ≤ S1 from by omega) hSl)⟩ ?_
    refine lv_if_eq (tgt := 131) hx hb dX1_bring_18 (by decide) (fun c_18 => ?_) (fun c_18 => ?_)
    · replace c_18 : ¬ (¬ c4 = nV y) := bi_0.mp c_18
      have h := h.1 c_18
      have hR := hR.sub (L' := []) [] rfl rfl
      exact kx w v3 _ _ _ _ _ h hR hS (lv_sub hl [3] rfl) (by omega) (by omega)
    · replace c_18 : (¬ c4 = nV y) := bi_n0.mp c_18
      have h := h.2 c_18
      refine lv_aload hx hb dX1_bring_21 (lv_at hl 4 rfl) ?_
      have hn_23 : c4 < nV y := by omega
      refine jr_next (t := 0) (a := y.2 6 c4) ⟨hx, hb, hml, hown, hts⟩ hK hR hS rfl ⟨fun _ _ _ _ _ => rfl, fun _ _ _ _ _ => rfl⟩ hW.lsV ⟨hW.arV (Nat.lt_of_le_of_lt (Nat.zero_le _) hn_23), (Nat.le_trans hW.nV8 (by decide))⟩ hn_23 (hW.elV hn_23) q359 ⟨Nat.le_of_ble_eq_true rfl, Nat.le_of_ble_eq_true rfl⟩ hl.1 (Nat.le_of_ble_eq_true rfl) dX1_bring_23 ⟨(Nat.le_trans (show cells + 0 ≤ C1 from by omega) hC), (Nat.le_trans (show slots + 0 ≤ S1 from by omega) hSl)⟩ (fun H locs hR hS => ?_)
      have hR : Rp κ w y X [(q4, itC y 40 0 (c4 + 1) (nI c4))] H := hR
      refine jr_castS (ci := 6) hx hb hown hK hts (hR.role (hW.vil hn_23)) rfl q496 dX1_bring_28 ?_
      refine lv_astore (lv' := [(5, .ref (y.2 6 c4)), (0, .ref (y.2 0 0)), (1, .ref (y.2 11 i1)), (2, .int (v2)), (3, .int (v3)), (4, .ref (q4))]) hx hb dX1_bring_31 hl (by decide) rfl (fun ls hl => ?_)
      refine lv_aload_n hx hb dX1_bring_33 rfl (lv_at hl 2 rfl) ?_
      refine g11_2 hx hb hts hown hK hR l1 q1257 dX1_bring_34 ?_
      refine lv_aload hx hb dX1_bring_37 (lv_at hl 0 rfl) ?_
      refine g6_0 hx hb hts hown hK hR (hW.vil hn_23) q920 dX1_bring_39 ?_
      refine ce_qi (fw := fun u => u) (fy := fun _ => y) (cr_S (n := 2) (As := [.int (gv w 11 i1 2), .int (nI c4)]) (rest := []) ⟨hx, hb, hml, hown, hts⟩ hK hR (m_X1_has hW h) q614 q615 q74 q616 rfl rfl hds_X1_has ⟨Nat.le_of_ble_eq_true rfl, Nat.le_of_ble_eq_true rfl⟩ rfl rfl hl.1 rfl (lv_room (Nat.le_of_ble_eq_true rfl)) dX1_bring_42 ⟨(Nat.le_trans (show cells + 0 ≤ C1 from by omega) hC), (Nat.le_trans (show slots + 0 ≤ S1 from by omega) hSl)⟩) hR hS (fun r_42 w_42 H locs h hR _ hS => ?_)
      refine lv_if_eq (tgt := 11) hx hb dX1_bring_45 (by decide) (fun c_45 => ?_) (fun c_45 => ?_)
      · have h := h.1 c_45
        exact ih w_42 v3 (c4 + 1) (nI c4) _ _ _ _ _ (by omega) h hR hS (lv_sub hl [1, 2, 3, 4, 5] rfl) (by omega) (by omega)
      · have h := h.2 c_45
        refine lv_aload hx hb dX1_bring_48 (lv_at hl 0 rfl) ?_
        refine g6_16 hx hb hts hown hK hR (hW.vil hn_23) q955 dX1_bring_50 ?_
        refine lv_if_eq (tgt := 59) hx hb dX1_bring_53 (by decide) (fun c_53 => ?_) (fun c_53 => ?_)
        · have h := h.1 c_53
          refine lv_aload hx hb dX1_bring_59 (lv_at hl 0 rfl) ?_
          refine lv_aload_n hx hb dX1_bring_61 rfl (lv_at hl 2 rfl) ?_
          refine g11_1 hx hb hts hown hK hR l1 q1255 dX1_bring_62 ?_
          have o_62 := h.1
          have h := h.2
          refine ce_qi (fw := fun u => u) (fy := fun _ => y) (cr_V (n := 1) (As := [.ref (kA κ (20 + (gv w_42 11 i1 1).toNatClampNeg))]) (rest := []) ⟨hx, hb, hml, hown, hts⟩ hK hR (m_X10_due hW (hW.vil hn_23) o_62 h) q679 q680 q681 q92 q682 rfl rfl hd_X10_due ⟨Nat.le_of_ble_eq_true rfl, Nat.le_of_ble_eq_true rfl⟩ (rv hK hR (hW.vil hn_23) (ci := 6) rfl rfl) rfl rfl hl.1 rfl (lv_room (Nat.le_of_ble_eq_true rfl)) dX1_bring_65 ⟨(Nat.le_trans (show cells + 0 ≤ C1 from by omega) hC), (Nat.le_trans (show slots + 0 ≤ S1 from by omega) hSl)⟩) hR hS (fun r_65 w_65 H locs h hR _ hS => ?_)
          refine lv_istore (lv' := [(6, .int (r_65)), (5, .ref (y.2 6 c4)), (0, .ref (y.2 0 0)), (1, .ref (y.2 11 i1)), (2, .int (v2)), (3, .int (v3)), (4, .ref (q4))]) hx hb dX1_bring_68 hl (by decide) rfl (fun ls hl => ?_)
          refine lv_aload_n hx hb dX1_bring_70 rfl (lv_at hl 3 rfl) ?_
          refine g11_1 hx hb hts hown hK hR l1 q1255 dX1_bring_71 ?_
          have o_71 := h.1
          have h := h.2
          refine lv_aload hx hb dX1_bring_74 (lv_at hl 1 rfl) ?_
          refine lv_aload hx hb dX1_bring_76 (lv_at hl 1 rfl) ?_
          refine lv_iload hx hb dX1_bring_78 (lv_at hl 0 rfl) ?_
          refine lv_iload hx hb dX1_bring_80 (lv_at hl 0 rfl) ?_
          refine lv_iload_n hx hb dX1_bring_82 rfl (lv_at hl 4 rfl) ?_
          refine lv_imul hx hb dX1_bring_83 ?_
          refine lv_bipush (v := (8 : Int32)) hx hb dX1_bring_84 (by decide) ?_
          refine lv_idiv hx hb dX1_bring_86 (by decide) ?_
          refine lv_iadd hx hb dX1_bring_87 ?_
          refine lv_iload_n hx hb dX1_bring_88 rfl (lv_at hl 4 rfl) ?_
          refine ce_qi (fw := fun u => u) (fy := fun _ => y) (cr_V (n := 2) (As := [.int (r_65 + ((r_65 * v2) / (8 : Int32))), .int (v2)]) (rest := [.ref (y.2 6 c4), .ref (kA κ (20 + (gv w_65 11 i1 1).toNatClampNeg))]) ⟨hx, hb, hml, hown, hts⟩ hK hR (m_X10_shown hW (hW.vil hn_23) h) q633 q634 q635 q92 q636 rfl rfl hd_X10_shown ⟨Nat.le_of_ble_eq_true rfl, Nat.le_of_ble_eq_true rfl⟩ (rv hK hR (hW.vil hn_23) (ci := 6) rfl rfl) rfl rfl hl.1 rfl (lv_room (Nat.le_of_ble_eq_true rfl)) dX1_bring_89 ⟨(Nat.le_trans (show cells + 0 ≤ C1 from by omega) hC), (Nat.le_trans (show slots + 0 ≤ S1 from by omega) hSl)⟩) hR hS (fun r_89 w_89 H locs h hR _ hS => ?_)
          refine lv_iload_n hx hb dX1_bring_92 rfl (lv_at hl 4 rfl) ?_
          refine lv_iconst (v := (2 : Int32)) hx hb dX1_bring_93 (by decide) ?_
          refine lv_icmp_lt (tgt := 101) hx hb dX1_bring_94 (by decide) (fun c_94 => ?_) (fun c_94 => ?_)
          · have h := h.1 c_94
            refine lv_iconst (v := (0 : Int32)) hx hb dX1_bring_101 (by decide) ?_
            refine lv_aload_n hx hb dX1_bring_102 rfl (lv_at hl 2 rfl) ?_
            refine g0_5 hx hb hts hown hK hR l0 q252 dX1_bring_103 ?_
            refine lv_aload_n hx hb dX1_bring_106 rfl (lv_at hl 2 rfl) ?_
            refine g0_4 hx hb hts hown hK hR l0 q251 dX1_bring_107 ?_
            refine lv_iconst (v := (0 : Int32)) hx hb dX1_bring_110 (by decide) ?_
            refine ce_qi (fw := fun u => u) (fy := fun _ => y) (cr_got (As := [.ref (y.2 6 c4), .int (r_89), .int ((0 : Int32)), .ref (y.2 1 1), .ref (y.2 1 0), .int ((0 : Int32))]) (rest := []) ⟨hx, hb, hml, hown, hts⟩ hK hR o_71 qi_ret (fun e9 => m_X18_got hW o_71 (hW.vil hn_23) hW.tre hW.wor (h.1 e9)) ⟨rfl, rfl⟩ ⟨Nat.le_of_ble_eq_true rfl, Nat.le_of_ble_eq_true rfl⟩ (fun e9 => m_X7_got hW o_71 (hW.vil hn_23) hW.tre hW.wor (h.2.1 e9)) ⟨rfl, rfl⟩ ⟨Nat.le_of_ble_eq_true rfl, Nat.le_of_ble_eq_true rfl⟩ (fun e9 => m_X7_got hW o_71 (hW.vil hn_23) hW.tre hW.wor (h.2.2 e9)) ⟨rfl, rfl⟩ ⟨Nat.le_of_ble_eq_true rfl, Nat.le_of_ble_eq_true rfl⟩ q644 rfl rfl hl.1 rfl (lv_room (Nat.le_of_ble_eq_true rfl)) dX1_bring_111 ⟨(Nat.le_trans (show cells + 0 ≤ C1 from by omega) hC), (Nat.le_trans (show slots + 0 ≤ S1 from by omega) hSl)⟩) hR hS (fun r_111 w_111 H locs h hR _ hS => ?_)
            refine lv_istore (lv' := [(7, .int (r_111)), (6, .int (r_65)), (5, .ref (y.2 6 c4)), (0, .ref (y.2 0 0)), (1, .ref (y.2 11 i1)), (2, .int (v2)), (3, .int (v3)), (4, .ref (q4))]) hx hb dX1_bring_114 hl (by decide) rfl (fun ls hl => ?_)
            refine lv_iload_n hx hb dX1_bring_116 rfl (lv_at hl 6 rfl) ?_
            refine lv_aload_n hx hb dX1_bring_117 rfl (lv_at hl 4 rfl) ?_
            refine g11_1 hx hb hts hown hK hR l1 q1255 dX1_bring_118 ?_
            have o_118 := h.1
            have h := h.2
            refine lv_iload hx hb dX1_bring_121 (lv_at hl 0 rfl) ?_
            refine ce_qi (fw := fun u => u) (fy := fun _ => y) (cr_worth (As := [.int (r_111)]) (rest := [.int (v3)]) ⟨hx, hb, hml, hown, hts⟩ hK hR o_118 qi_ret (fun e9 => m_X18_worth hW o_118 (h.1 e9)) ⟨rfl, rfl⟩ ⟨Nat.le_of_ble_eq_true rfl, Nat.le_of_ble_eq_true rfl⟩ (fun e9 => m_X7_worth hW o_118 (h.2.1 e9)) ⟨rfl, rfl⟩ ⟨Nat.le_of_ble_eq_true rfl, Nat.le_of_ble_eq_true rfl⟩ (fun e9 => m_X7_worth hW o_118 (h.2.2 e9)) ⟨rfl, rfl⟩ ⟨Nat.le_of_ble_eq_true rfl, Nat.le_of_ble_eq_true rfl⟩ q663 rfl rfl hl.1 rfl (lv_room (Nat.le_of_ble_eq_true rfl)) dX1_bring_123 ⟨(Nat.le_trans (show cells + 0 ≤ C1 from by omega) hC), (Nat.le_trans (show slots + 0 ≤ S1 from by omega) hSl)⟩) hR hS (fun r_123 w_123 H locs h hR _ hS => ?_)
            refine lv_iadd hx hb dX1_bring_126 ?_
            refine lv_topi (fun x_127 ex_127 => ?_)
            have h := h x_127 ex_127
            refine lv_istore_n (lv' := [(3, .int (x_127)), (7, .int (r_111)), (6, .int (r_65)), (5, .ref (y.2 6 c4)), (0, .ref (y.2 0 0)), (1, .ref (y.2 11 i1)), (2, .int (v2)), (4, .ref (q4))]) hx hb dX1_bring_127 rfl hl (by decide) rfl (fun ls hl => ?_)
            refine lv_goto (tgt := 11) hx hb dX1_bring_128 (by decide) ?_
            exact ih w_123 x_127 (c4 + 1) (nI c4) _ _ _ _ _ (by omega) h hR hS (lv_sub hl [4, 5, 6, 0, 7] rfl) (by omega) (by omega)
          · have h := h.2 c_94
            refine lv_iconst (v := (1 : Int32)) hx hb dX1_bring_97 (by decide) ?_
            refine lv_goto (tgt := 102) hx hb dX1_bring_98 (by decide) ?_
            refine lv_aload_n hx hb dX1_bring_102 rfl (lv_at hl 2 rfl) ?_
            refine g0_5 hx hb hts hown hK hR l0 q252 dX1_bring_103 ?_
            refine lv_aload_n hx hb dX1_bring_106 rfl (lv_at hl 2 rfl) ?_
            refine g0_4 hx hb hts hown hK hR l0 q251 dX1_bring_107 ?_
            refine lv_iconst (v := (0 : Int32)) hx hb dX1_bring_110 (by decide) ?_
            refine ce_qi (fw := fun u => u) (fy := fun _ => y) (cr_got (As := [.ref (y.2 6 c4), .int (r_89), .int ((1 : Int32)), .ref (y.2 1 1), .ref (y.2 1 0), .int ((0 : Int32))]) (rest := []) ⟨hx, hb, hml, hown, hts⟩ hK hR o_71 qi_ret (fun e9 => m_X18_got hW o_71 (hW.vil hn_23) hW.tre hW.wor (h.1 e9)) ⟨rfl, rfl⟩ ⟨Nat.le_of_ble_eq_true rfl, Nat.le_of_ble_eq_true rfl⟩ (fun e9 => m_X7_got hW o_71 (hW.vil hn_23) hW.tre hW.wor (h.2.1 e9)) ⟨rfl, rfl⟩ ⟨Nat.le_of_ble_eq_true rfl, Nat.le_of_ble_eq_true rfl⟩ (fun e9 => m_X7_got hW o_71 (hW.vil hn_23) hW.tre hW.wor (h.2.2 e9)) ⟨rfl, rfl⟩ ⟨Nat.le_of_ble_eq_true rfl, Nat.le_of_ble_eq_true rfl⟩ q644 rfl rfl hl.1 rfl (lv_room (Nat.le_of_ble_eq_true rfl)) dX1_bring_111 ⟨(Nat.le_trans (show cells + 0 ≤ C1 from by omega) hC), (Nat.le_trans (show slots + 0 ≤ S1 from by omega) hSl)⟩) hR hS (fun r_111_a w_111_a H locs h hR _ hS => ?_)
            refine lv_istore (lv' := [(7, .int (r_111_a)), (6, .int (r_65)), (5, .ref (y.2 6 c4)), (0, .ref (y.2 0 0)), (1, .ref (y.2 11 i1)), (2, .int (v2)), (3, .int (v3)), (4, .ref (q4))]) hx hb dX1_bring_114 hl (by decide) rfl (fun ls hl => ?_)
            refine lv_iload_n hx hb dX1_bring_116 rfl (lv_at hl 6 rfl) ?_
            refine lv_aload_n hx hb dX1_bring_117 rfl (lv_at hl 4 rfl) ?_
            refine g11_1 hx hb hts hown hK hR l1 q1255 dX1_bring_118 ?_
            have o_118_a := h.1
            have h := h.2
            refine lv_iload hx hb dX1_bring_121 (lv_at hl 0 rfl) ?_
            refine ce_qi (fw := fun u => u) (fy := fun _ => y) (cr_worth (As := [.int (r_111_a)]) (rest := [.int (v3)]) ⟨hx, hb, hml, hown, hts⟩ hK hR o_118_a qi_ret (fun e9 => m_X18_worth hW o_118_a (h.1 e9)) ⟨rfl, rfl⟩ ⟨Nat.le_of_ble_eq_true rfl, Nat.le_of_ble_eq_true rfl⟩ (fun e9 => m_X7_worth hW o_118_a (h.2.1 e9)) ⟨rfl, rfl⟩ ⟨Nat.le_of_ble_eq_true rfl, Nat.le_of_ble_eq_true rfl⟩ (fun e9 => m_X7_worth hW o_118_a (h.2.2 e9)) ⟨rfl, rfl⟩ ⟨Nat.le_of_ble_eq_true rfl, Nat.le_of_ble_eq_true rfl⟩ q663 rfl rfl hl.1 rfl (lv_room (Nat.le_of_ble_eq_true rfl)) dX1_bring_123 ⟨(Nat.le_trans (show cells + 0 ≤ C1 from by omega) hC), (Nat.le_trans (show slots + 0 ≤ S1 from by omega) hSl)⟩) hR hS (fun r_123_a w_123_a H locs h hR _ hS => ?_)
            refine lv_iadd hx hb dX1_bring_126 ?_
            refine lv_topi (fun x_127_a ex_127_a => ?_)
            have h := h x_127_a ex_127_a
            refine lv_istore_n (lv' := [(3, .int (x_127_a)), (7, .int (r_111_a)), (6, .int (r_65)), (5, .ref (y.2 6 c4)), (0, .ref (y.2 0 0)), (1, .ref (y.2 11 i1)), (2, .int (v2)), (4, .ref (q4))]) hx hb dX1_bring_127 rfl hl (by decide) rfl (fun ls hl => ?_)
            refine lv_goto (tgt := 11) hx hb dX1_bring_128 (by decide) ?_
            exact ih w_123_a x_127_a (c4 + 1) (nI c4) _ _ _ _ _ (by omega) h hR hS (lv_sub hl [4, 5, 6, 0, 7] rfl) (by omega) (by omega)
        · have h := h.2 c_53
          refine lv_goto (tgt := 11) hx hb dX1_bring_56 (by decide) ?_
          exact ih w_42 v3 (c4 + 1) (nI c4) _ _ _ _ _ (by omega) h hR hS (lv_sub hl [1, 2, 3, 4, 5] rfl) (by omega) (by omega)
def sp_X1_bring (κ : Kx) (y : Ly) (post : Int32 → Wd → Prop) (w : Wd) (a1 : Nat) (p2 : Int32) : Prop := sp_X1_bring_11 κ y post (fun w_11 y3_11 => post (y3_11) w_11) a1 p2 9 w (0 : Int32) 0 (-1)
theorem hd_X1_bring : yX1_bring.cls = RX1 ∧ yX1_bring.cls ≠ "java/lang/invoke/MethodHandle" ∧ yX1_bring.cls ≠ "java/lang/invoke/VarHandle" ∧ (parseMethodDescriptor yX1_bring.desc).map (fun d => d.parameters.length) = some 2 := by decide +kernel
set_option maxHeartbeats 4000000 in
theorem m_X1_bring {l : Launch} {κ : Kx} {y : Ly} {X : XR} {post : Int32 → Wd → Prop} {w : Wd} {a1 : Nat} {p2 : Int32}  (hW : WFc κ y) (l0 : live y 0 0) (l1 : live y 11 a1) (h : sp_X1_bring κ y post w a1 p2) : Met l yX1_bring (ws_ yX1_bring cX1_bring 8 (Option.some Jvm.ClassFile.FieldType.int)) rm_X1_bring (va_Pc [.ref (y.2 0 0), .ref (y.2 11 a1), .int (p2)] (RC κ w y X)) (va_Qi post (fun w t => Rp κ w y X [] t.heap) (Af κ)) 1 4 (Af κ) := by
  unfold sp_X1_bring at h
  refine Met.ofW (cc := cX1_bring) (maxL := 8) (ret := (Option.some Jvm.ClassFile.FieldType.int)) (by decide) rfl ?_
  intro p e s m args below meth c s₁ B hml hv
  obtain ⟨rfl, hR, hK⟩ := hv
  have hx := B.exec
  have hb := B.bytes
  have hr := B.returns
  have hts := atoms_spec (ws := ws_ yX1_bring cX1_bring 8 (Option.some Jvm.ClassFile.FieldType.int)) B.pre
  have hts : ∀ w ∈ lw_all, w.before _ s = true := fun w h => hts w (List.mem_cons_of_mem _ h)
  have hown : s.vm.findClass RX1 = some m.cls := findClass_of_methodNamed B.named
  have hlocks := B.notSynchronized
  have hS : va_S (Af κ) s.heap s.heap [] := va_S.rf
  have hl := lv_entry ([.ref (y.2 0 0), .ref (y.2 11 a1), .int (p2)]) (n := 8) (Nat.le_of_ble_eq_true rfl)
  rw [lg_entry_eq]
  generalize (lg_sl ([.ref (y.2 0 0), .ref (y.2 11 a1), .int (p2)]) ++ List.replicate (8 - (lg_sl ([.ref (y.2 0 0), .ref (y.2 11 a1), .int (p2)])).length) Slot.unset).toArray = ls at hl ⊢
  have hl : lv_has ls 8 [(0, .ref (y.2 0 0)), (1, .ref (y.2 11 a1)), (2, .int (p2))] := hl
  refine lv_iconst (v := (0 : Int32)) hx hb dX1_bring_0 (by decide) ?_
  refine lv_istore_n (lv' := [(3, .int ((0 : Int32))), (0, .ref (y.2 0 0)), (1, .ref (y.2 11 a1)), (2, .int (p2))]) hx hb dX1_bring_1 rfl hl (by decide) rfl (fun ls hl => ?_)
  refine lv_aload_n hx hb dX1_bring_2 rfl (lv_at hl 1 rfl) ?_
  refine g0_0 hx hb hts hown hK hR l0 q247 dX1_bring_3 ?_
  refine jr_iter ⟨hx, hb, hml, hown, hts⟩ hK hR hS ⟨fun _ _ _ _ _ => rfl, fun _ _ _ _ _ => rfl⟩ hW.lsV q325 ⟨Nat.le_of_ble_eq_true rfl, Nat.le_of_ble_eq_true rfl⟩ hl.1 (Nat.le_of_ble_eq_true rfl) dX1_bring_6 ⟨(Nat.le_of_ble_eq_true rfl), (Nat.le_of_ble_eq_true rfl)⟩ (fun q_6 H locs hR hS => ?_)
  have hR : Rp κ w y X [(q_6, itC y 40 0 0 (-1))] H := hR
  refine lv_astore (lv' := [(4, .ref (q_6)), (3, .int ((0 : Int32))), (0, .ref (y.2 0 0)), (1, .ref (y.2 11 a1)), (2, .int (p2))]) hx hb dX1_bring_9 hl (by decide) rfl (fun ls hl => ?_)
  refine lp_X1_bring_11 (C1 := 1) (S1 := 4) hx hb hr hml hown hts hlocks hK hW l0 l1 (Nat.le_of_ble_eq_true rfl) (Nat.le_of_ble_eq_true rfl) (fun w_11 y3_11 H locs ls cells9 slots9 h hR hS hl hc9 hs9 => ?_) 9 w (0 : Int32) 0 (-1) _ _ _ _ _ (by omega) h hR hS (lv_sub hl [2, 3, 4, 1, 0] rfl) (by omega) (by omega)
  refine W.widen (k := 1) (n := 4) hc9 hs9 ?_
  refine lv_iload_n hx hb dX1_bring_131 rfl (lv_at hl 0 rfl) ?_
  refine W.widen (k := 1) (n := 4) (Nat.le_of_ble_eq_true rfl) (Nat.le_of_ble_eq_true rfl) ?_
  exact W.iret (v := y3_11) hx hb hr (fun t ht hW9 => ⟨⟨y3_11, w_11, rfl, h, rpt ht hR⟩, hS.F ht⟩) hS.2.2 dX1_bring_132
abbrev rm_X1_best : Room := { frames := 5, cells := 8, slots := 32, locals := 121 }
def st_X1_best_4 (κ : Kx) (y : Ly) (post : Int32 → Wd → Prop) (ex : Wd → (Int32) → Prop) (rec : Wd → Int32 → Int32 → Prop) (i1 : Nat) (w : Wd) (v2 : Int32) (v3 : Int32) : Prop := (((4 : Int32) ≤ v3) → (ex w v2)) ∧ ((¬ ((4 : Int32) ≤ v3)) → (sp_X1_bring κ y (fun r_12 w_12 => sp_X1_bring κ y (fun r_18 w_18 => ((r_12 ≤ r_18) → (∀ x_26 : Int32, x_26 = v3 + (1 : Int32) → rec w_18 v2 x_26)) ∧ ((¬ (r_12 ≤ r_18)) → (∀ x_26_a : Int32, x_26_a = v3 + (1 : Int32) → rec w_18 v3 x_26_a))) w_12 i1 v2) w i1 v3))
def sp_X1_best_4 (κ : Kx) (y : Ly) (post : Int32 → Wd → Prop) (ex : Wd → (Int32) → Prop) (i1 : Nat) : Nat → Wd → Int32 → Int32 → Prop
  | 0 => fun _ _ _ => False
  | n + 1 => fun w v2 v3 => st_X1_best_4 κ y post ex (sp_X1_best_4 κ y post ex i1 n) i1 w v2 v3
set_option maxHeartbeats 4000000 in
theorem lp_X1_best_4 {p : Program} {l : Launch} {e : Env} {s : State} {m : MethodId} {args : Array Value} {below : List Frame} {meth : Method} {c : Code} {κ : Kx} {y : Ly} {X : XR} {post : Int32 → Wd → Prop} {i1 : Nat} (hx : p.tables.exec = Jvm.exec) (hb : c.code = cX1_best) (hr : meth.sig.returnType = (Option.some Jvm.ClassFile.FieldType.int)) (hml : c.maxLocals = 4) (hown : s.vm.findClass RX1 = some m.cls) (hts : ∀ w ∈ lw_all, w.before args s = true) (hlocks : meth.locks = false) (hK : KK κ s) (hW : WFc κ y) (l0 : live y 0 0) (l1 : live y 11 i1) {C1 S1 : Nat} (hC : C1 ≤ 8) (hSl : S1 ≤ 32) {ex : Wd → (Int32) → Prop}
    (kx : ∀ (w : Wd) (v2 : Int32) (H : Heap) (locs : List Loc) (ls : Array Slot) (cells slots : Nat) , ex w v2 → Rp κ w y X [] H → va_S (Af κ) s.heap H locs → lv_has ls 4 [(2, .int (v2))] → cells ≤ C1 → slots ≤ S1 → W p l e (headSpec (ws_ yX1_best cX1_best 4 (Option.some Jvm.ClassFile.FieldType.int)) rm_X1_best).room s m args below meth c H locs cells slots (MQ below (va_Qi post (fun w t => Rp κ w y X [] t.heap) (Af κ)) args s 8 32 (Af κ)) (F0 m 32 ls [])) :
    ∀ (f : Nat) (w : Wd) (v2 : Int32) (v3 : Int32) (H : Heap) (locs : List Loc) (ls : Array Slot) (cells slots : Nat)  , sp_X1_best_4 κ y post ex i1 f w v2 v3 → Rp κ w y X [] H → va_S (Af κ) s.heap H locs → lv_has ls 4 [(0, .ref (y.2 0 0)), (1, .ref (y.2 11 i1)), (2, .int (v2)), (3, .int (v3))] → cells + f * 2 ≤ C1 → slots + f * 8 ≤ S1 → W p l e (headSpec (ws_ yX1_best cX1_best 4 (Option.some Jvm.ClassFile.FieldType.int)) rm_X1_best).room s m args below meth c H locs cells slots (MQ below (va_Qi post (fun w t => Rp κ w y X [] t.heap) (Af κ)) args s 8 32 (Af κ)) (F0 m 4 ls []) := by
  intro f
  induction f with
  | zero =>
    intro w v2 v3 H locs ls cells slots  h
    exact False.elim h
  | succ f ih =>
    intro w v2 v3 H locs ls cells slots  h hR hS hl hc hs
    have h : st_X1_best_4 κ y post ex (sp_X1_best_4 κ y post ex i1 f) i1 w v2 v3 := h
    unfold st_X1_best_4 at h
    refine lv_iload_n hx hb dX1_best_4 rfl (lv_at hl 3 rfl) ?_
    refine lv_iconst (v := (4 : Int32)) hx hb dX1_best_5 (by decide) ?_
    refine lv_icmp_ge (tgt := 32) hx hb dX1_best_6 (by decide) (fun c_6 => ?_) (fun c_6 => ?_)
    · have h := h.1 c_6
      exact kx w v2 _ _ _ _ _ h hR hS (lv_sub hl [2] rfl) (by omega) (by omega)
    · have h := h.2 c_6
      refine lv_aload_n hx hb dX1_best_9 rfl (lv_at hl 0 rfl) ?_
      refine lv_aload_n hx hb dX1_best_10 rfl (lv_at hl 1 rfl) ?_
      refine lv_iload_n hx hb dX1_best_11 rfl (lv_at hl 3 rfl) ?_
      refine ce_qi (fw := fun u => u) (fy := fun _ => y) (cr_V (n := 2) (As := [.ref (y.2 11 i1), .int (v3)]) (rest := []) ⟨hx, hb, hml, hown, hts⟩ hK hR (m_X1_bring hW l0 l1 h) q757 q759 qs15 q74 q760 rfl rfl hd_X1_bring ⟨Nat.le_of_ble_eq_true rfl, Nat.le_of_ble_eq_true rfl⟩ (rv hK hR l0 (ci := 0) rfl rfl) rfl rfl hl.1 rfl (lv_room (Nat.le_of_ble_eq_true rfl)) dX1_best_12 ⟨(Nat.le_trans (show cells + 1 ≤ C1 from by omega) hC), (Nat.le_trans (show slots + 4 ≤ S1 from by omega) hSl)⟩) hR hS (fun r_12 w_12 H locs h hR _ hS => ?_)
      refine lv_aload_n hx hb dX1_best_15 rfl (lv_at hl 0 rfl) ?_
      refine lv_aload_n hx hb dX1_best_16 rfl (lv_at hl 1 rfl) ?_
      refine lv_iload_n hx hb dX1_best_17 rfl (lv_at hl 2 rfl) ?_
      refine ce_qi (fw := fun u => u) (fy := fun _ => y) (cr_V (n := 2) (As := [.ref (y.2 11 i1), .int (v2)]) (rest := [.int (r_12)]) ⟨hx, hb, hml, hown, hts⟩ hK hR (m_X1_bring hW l0 l1 h) q757 q759 qs15 q74 q760 rfl rfl hd_X1_bring ⟨Nat.le_of_ble_eq_true rfl, Nat.le_of_ble_eq_true rfl⟩ (rv hK hR l0 (ci := 0) rfl rfl) rfl rfl hl.1 rfl (lv_room (Nat.le_of_ble_eq_true rfl)) dX1_best_18 ⟨(Nat.le_trans (show cells + 1 + 1 ≤ C1 from by omega) hC), (Nat.le_trans (show slots + 4 + 4 ≤ S1 from by omega) hSl)⟩) hR hS (fun r_18 w_18 H locs h hR _ hS => ?_)
      refine lv_icmp_le (tgt := 26) hx hb dX1_best_21 (by decide) (fun c_21 => ?_) (fun c_21 => ?_)
      · have h := h.1 c_21
        obtain ⟨x_26, ex_26⟩ : ∃ z : Int32, z = v3 + (1 : Int32) := ⟨_, rfl⟩
        have h := h x_26 ex_26
        refine lv_iinc (v := x_26) (lv' := [(3, .int (x_26)), (0, .ref (y.2 0 0)), (1, .ref (y.2 11 i1)), (2, .int (v2))]) hx hb dX1_best_26 hl (k := 3) rfl (by rw [ex_26]; rfl) (by decide) rfl (fun ls hl => ?_)
        refine lv_goto (tgt := 4) hx hb dX1_best_29 (by decide) ?_
        exact ih w_18 v2 x_26 _ _ _ _ _  h hR hS (lv_sub hl [1, 2, 3, 0] rfl) (by omega) (by omega)
      · have h := h.2 c_21
        refine lv_iload_n hx hb dX1_best_24 rfl (lv_at hl 3 rfl) ?_
        refine lv_istore_n (lv' := [(2, .int (v3)), (0, .ref (y.2 0 0)), (1, .ref (y.2 11 i1)), (3, .int (v3))]) hx hb dX1_best_25 rfl hl (by decide) rfl (fun ls hl => ?_)
        obtain ⟨x_26_a, ex_26_a⟩ : ∃ z : Int32, z = v3 + (1 : Int32) := ⟨_, rfl⟩
        have h := h x_26_a ex_26_a
        refine lv_iinc (v := x_26_a) (lv' := [(3, .int (x_26_a)), (2, .int (v3)), (0, .ref (y.2 0 0)), (1, .ref (y.2 11 i1))]) hx hb dX1_best_26 hl (k := 3) rfl (by rw [ex_26_a]; rfl) (by decide) rfl (fun ls hl => ?_)
        refine lv_goto (tgt := 4) hx hb dX1_best_29 (by decide) ?_
        exact ih w_18 v3 x_26_a _ _ _ _ _  h hR hS (lv_sub hl [2, 3, 1, 0] rfl) (by omega) (by omega)
def sp_X1_best (κ : Kx) (y : Ly) (post : Int32 → Wd → Prop) (w : Wd) (a1 : Nat) : Prop := sp_X1_best_4 κ y post (fun w_4 y2_4 => post (y2_4) w_4) a1 4 w (0 : Int32) (1 : Int32)
theorem hd_X1_best : yX1_best.cls = RX1 ∧ yX1_best.cls ≠ "java/lang/invoke/MethodHandle" ∧ yX1_best.cls ≠ "java/lang/invoke/VarHandle" ∧ (parseMethodDescriptor yX1_best.desc).map (fun d => d.parameters.length) = some 1 := by decide +kernel
set_option maxHeartbeats 4000000 in
theorem m_X1_best {l : Launch} {κ : Kx} {y : Ly} {X : XR} {post : Int32 → Wd → Prop} {w : Wd} {a1 : Nat}  (hW : WFc κ y) (l0 : live y 0 0) (l1 : live y 11 a1) (h : sp_X1_best κ y post w a1) : Met l yX1_best (ws_ yX1_best cX1_best 4 (Option.some Jvm.ClassFile.FieldType.int)) rm_X1_best (va_Pc [.ref (y.2 0 0), .ref (y.2 11 a1)] (RC κ w y X)) (va_Qi post (fun w t => Rp κ w y X [] t.heap) (Af κ)) 8 32 (Af κ) := by
  unfold sp_X1_best at h
  refine Met.ofW (cc := cX1_best) (maxL := 4) (ret := (Option.some Jvm.ClassFile.FieldType.int)) (by decide) rfl ?_
  intro p e s m args below meth c s₁ B hml hv
  obtain ⟨rfl, hR, hK⟩ := hv
  have hx := B.exec
  have hb := B.bytes
  have hr := B.returns
  have hts := atoms_spec (ws := ws_ yX1_best cX1_best 4 (Option.some Jvm.ClassFile.FieldType.int)) B.pre
  have hts : ∀ w ∈ lw_all, w.before _ s = true := fun w h => hts w (List.mem_cons_of_mem _ h)
  have hown : s.vm.findClass RX1 = some m.cls := findClass_of_methodNamed B.named
  have hlocks := B.notSynchronized
  have hS : va_S (Af κ) s.heap s.heap [] := va_S.rf
  have hl := lv_entry ([.ref (y.2 0 0), .ref (y.2 11 a1)]) (n := 4) (Nat.le_of_ble_eq_true rfl)
  rw [lg_entry_eq]
  generalize (lg_sl ([.ref (y.2 0 0), .ref (y.2 11 a1)]) ++ List.replicate (4 - (lg_sl ([.ref (y.2 0 0), .ref (y.2 11 a1)])).length) Slot.unset).toArray = ls at hl ⊢
  have hl : lv_has ls 4 [(0, .ref (y.2 0 0)), (1, .ref (y.2 11 a1))] := hl
  refine lv_iconst (v := (0 : Int32)) hx hb dX1_best_0 (by decide) ?_
  refine lv_istore_n (lv' := [(2, .int ((0 : Int32))), (0, .ref (y.2 0 0)), (1, .ref (y.2 11 a1))]) hx hb dX1_best_1 rfl hl (by decide) rfl (fun ls hl => ?_)
  refine lv_iconst (v := (1 : Int32)) hx hb dX1_best_2 (by decide) ?_
  refine lv_istore_n (lv' := [(3, .int ((1 : Int32))), (2, .int ((0 : Int32))), (0, .ref (y.2 0 0)), (1, .ref (y.2 11 a1))]) hx hb dX1_best_3 rfl hl (by decide) rfl (fun ls hl => ?_)
  refine lp_X1_best_4 (C1 := 8) (S1 := 32) hx hb hr hml hown hts hlocks hK hW l0 l1 (Nat.le_of_ble_eq_true rfl) (Nat.le_of_ble_eq_true rfl) (fun w_4 y2_4 H locs ls cells9 slots9 h hR hS hl hc9 hs9 => ?_) 4 w (0 : Int32) (1 : Int32) _ _ _ _ _  h hR hS (lv_sub hl [2, 3, 1, 0] rfl) (by omega) (by omega)
  refine W.widen (k := 8) (n := 32) hc9 hs9 ?_
  refine lv_iload_n hx hb dX1_best_32 rfl (lv_at hl 0 rfl) ?_
  refine W.widen (k := 8) (n := 32) (Nat.le_of_ble_eq_true rfl) (Nat.le_of_ble_eq_true rfl) ?_
  exact W.iret (v := y2_4) hx hb hr (fun t ht hW9 => ⟨⟨y2_4, w_4, rfl, h, rpt ht hR⟩, hS.F ht⟩) hS.2.2 dX1_best_33
abbrev rm_X1_clear : Room := { frames := 8, cells := 2, slots := 12, locals := 133 }
def sp_X1_clear (κ : Kx) (y : Ly) (post : Int32 → Wd → Prop) (px : String → Wd → Prop) (w : Wd) (p1 : Int32) (p2 : Int32) : Prop := sp_X1_villageOf κ y (fun i_2 w_2 => sp_X1_isIn κ y (fun r_10 w_10 => sp_X1_check κ y (fun w_15 => ∀ w_31 : Wd, w_31 = sv w_15 6 i_2 7 (jmin (600 : Int32) ((gv w_15 6 i_2 7) + p2)) → post (gv w_31 6 i_2 7) w_31) px w_10 r_10) w_2 p2 (1 : Int32) (100 : Int32)) px w p1
theorem hd_X1_clear : yX1_clear.cls = RX1 ∧ yX1_clear.cls ≠ "java/lang/invoke/MethodHandle" ∧ yX1_clear.cls ≠ "java/lang/invoke/VarHandle" ∧ (parseMethodDescriptor yX1_clear.desc).map (fun d => d.parameters.length) = some 2 := by decide +kernel
set_option maxHeartbeats 4000000 in
theorem m_X1_clear {l : Launch} {κ : Kx} {y : Ly} {X : XR} {post : Int32 → Wd → Prop} {px : String → Wd → Prop} {w : Wd} {p1 : Int32} {p2 : Int32}  (hfl : l.stackTraces = false) (hW : WFc κ y) (l0 : live y 0 0) (h : sp_X1_clear κ y post px w p1 p2) : vx_Met l yX1_clear (ws_ yX1_clear cX1_clear 4 (Option.some Jvm.ClassFile.FieldType.int)) rm_X1_clear (va_Pc [.ref (y.2 0 0), .int (p1), .int (p2)] (RC κ w y X)) (va_Qi post (fun w t => Rp κ w y X [] t.heap) (Af κ)) (XCk κ y X px) 2 12 (Af κ) := by
  unfold sp_X1_clear at h
  refine vx_ofW (cc := cX1_clear) (maxL := 4) (ret := (Option.some Jvm.ClassFile.FieldType.int)) (by decide) rfl ?_
  intro p e s m args below meth c s₁ B hml ht hv
  obtain ⟨rfl, hR, hK⟩ := hv
  have hx := B.exec
  have hb := B.bytes
  have hr := B.returns
  have hts := atoms_spec (ws := ws_ yX1_clear cX1_clear 4 (Option.some Jvm.ClassFile.FieldType.int)) B.pre
  have hts : ∀ w ∈ lw_all, w.before _ s = true := fun w h => hts w (List.mem_cons_of_mem _ h)
  have hown : s.vm.findClass RX1 = some m.cls := findClass_of_methodNamed B.named
  have hlocks := B.notSynchronized
  have hR0 := hR
  have hS : va_S (Af κ) s.heap s.heap [] := va_S.rf
  have hl := lv_entry ([.ref (y.2 0 0), .int (p1), .int (p2)]) (n := 4) (Nat.le_of_ble_eq_true rfl)
  rw [lg_entry_eq]
  generalize (lg_sl ([.ref (y.2 0 0), .int (p1), .int (p2)]) ++ List.replicate (4 - (lg_sl ([.ref (y.2 0 0), .int (p1), .int (p2)])).length) Slot.unset).toArray = ls at hl ⊢
  have hl : lv_has ls 4 [(0, .ref (y.2 0 0)), (1, .int (p1)), (2, .int (p2))] := hl
  refine lv_aload_n hx hb dX1_clear_0 rfl (lv_at hl 0 rfl) ?_
  refine lv_iload_n hx hb dX1_clear_1 rfl (lv_at hl 1 rfl) ?_
  refine cex_qr (fw := fun u : Nat × Wd => u.2) (fy := fun _ => y) (P := (fun (u : Nat × Wd) ra => ra = y.2 6 u.1 ∧ live y 6 u.1)) (crx_V (n := 1) (As := [.int (p1)]) (rest := []) ⟨hx, hb, hml, hown, hts⟩ hK hR (m_X1_villageOf hfl hW l0 h) q1029 q1031 qs20 q74 q1032 rfl rfl hd_X1_villageOf ⟨Nat.le_of_ble_eq_true rfl, Nat.le_of_ble_eq_true rfl⟩ (rv hK hR l0 (ci := 0) rfl rfl) rfl rfl hl.1 rfl (lv_room (Nat.le_of_ble_eq_true rfl)) dX1_clear_2 ⟨(Nat.le_of_ble_eq_true rfl), (Nat.le_of_ble_eq_true rfl)⟩) hR hS ht hlocks (Nat.le_of_ble_eq_true rfl) (Nat.le_of_ble_eq_true rfl) (fun u9 a_2 H locs h p9 hR _ hS => ?_)
  obtain ⟨i_2, w_2⟩ := u9
  obtain ⟨e9, lv_2⟩ := p9
  dsimp only at e9 lv_2
  subst e9
  refine lv_astore_n (lv' := [(3, .ref (y.2 6 i_2)), (0, .ref (y.2 0 0)), (1, .int (p1)), (2, .int (p2))]) hx hb dX1_clear_5 rfl hl (by decide) rfl (fun ls hl => ?_)
  refine lv_iload_n hx hb dX1_clear_6 rfl (lv_at hl 3 rfl) ?_
  refine lv_iconst (v := (1 : Int32)) hx hb dX1_clear_7 (by decide) ?_
  refine lv_bipush (v := (100 : Int32)) hx hb dX1_clear_8 (by decide) ?_
  refine ce_qi (fw := fun u => u) (fy := fun _ => y) (cr_S (n := 3) (As := [.int (p2), .int ((1 : Int32)), .int ((100 : Int32))]) (rest := []) ⟨hx, hb, hml, hown, hts⟩ hK hR (m_X1_isIn hW h) q790 q791 q74 q792 rfl rfl hds_X1_isIn ⟨Nat.le_of_ble_eq_true rfl, Nat.le_of_ble_eq_true rfl⟩ rfl rfl hl.1 rfl (lv_room (Nat.le_of_ble_eq_true rfl)) dX1_clear_10 ⟨(Nat.le_of_ble_eq_true rfl), (Nat.le_of_ble_eq_true rfl)⟩) hR hS (fun r_10 w_10 H locs h hR _ hS => ?_)
  refine jr_ldcS (own := "Publicanry") (k := 174) (tx := "more") (n := 1174) hx hb hown hK (List.mem_of_getElem? (i := 2) rfl) dX1_clear_13 ?_
  refine cex_qv (fw := fun u => u) (fy := fun _ => y) (crx_S (n := 2) (As := [.int (r_10), .ref (kA κ 1174)]) (rest := []) ⟨hx, hb, hml, hown, hts⟩ hK hR (m_X1_check hfl hW h) q794 q795 q74 q796 rfl rfl hds_X1_check ⟨Nat.le_of_ble_eq_true rfl, Nat.le_of_ble_eq_true rfl⟩ rfl rfl hl.1 rfl (lv_room (Nat.le_of_ble_eq_true rfl)) dX1_clear_15 ⟨(Nat.le_of_ble_eq_true rfl), (Nat.le_of_ble_eq_true rfl)⟩) hR hS ht hlocks (Nat.le_of_ble_eq_true rfl) (Nat.le_of_ble_eq_true rfl) (fun w_15 H locs h hR _ hS => ?_)
  refine lv_aload_n hx hb dX1_clear_18 rfl (lv_at hl 0 rfl) ?_
  refine lv_sipush (v := (600 : Int32)) hx hb dX1_clear_19 (by decide) ?_
  refine lv_aload_n hx hb dX1_clear_22 rfl (lv_at hl 0 rfl) ?_
  refine g6_7 hx hb hts hown hK hR lv_2 q934 dX1_clear_23 ?_
  refine lv_iload_n hx hb dX1_clear_26 rfl (lv_at hl 3 rfl) ?_
  refine lv_iadd hx hb dX1_clear_27 ?_
  refine va_mmin hx hb (hml.trans hl.1.symm) hown (hts _ q640) (hts _ q322) (hts _ q95) (hts _ q323) (Nat.le_of_ble_eq_true rfl) (Nat.le_of_ble_eq_true rfl) (Nat.le_of_ble_eq_true rfl) (Nat.le_of_ble_eq_true rfl) dX1_clear_28 ?_
  refine p6_7 hx hb hts hown hK hR hS lv_2 q934 dX1_clear_31 (fun H locs w_31 ew_31 hR hS => ?_)
  have h := h w_31 ew_31
  refine lv_aload_n hx hb dX1_clear_34 rfl (lv_at hl 0 rfl) ?_
  refine g6_7 hx hb hts hown hK hR lv_2 q934 dX1_clear_35 ?_
  refine W.widen (k := 2) (n := 12) (Nat.le_of_ble_eq_true rfl) (Nat.le_of_ble_eq_true rfl) ?_
  refine vx_ret ?_; exact W.iret (v := gv w_31 6 i_2 7) hx hb hr (fun t ht hW9 => ⟨⟨gv w_31 6 i_2 7, w_31, rfl, h, rpt ht hR⟩, hS.F ht⟩) hS.2.2 dX1_clear_38
abbrev rm_X1_shareOut : Room := { frames := 8, cells := 5, slots := 27, locals := 133 }
def sp_X1_shareOut (κ : Kx) (y : Ly) (post : Int32 → Wd → Prop) (px : String → Wd → Prop) (w : Wd) (p1 : Int32) (p2 : Int32) : Prop := sp_X1_companyOf κ y (fun i_2 w_2 => ((p2 < (1 : Int32)) → (sp_X1_check κ y (fun w_18 => (((nP y i_2 = 0)) → (sp_X1_state κ y (fun w_49 => sp_X2_pay κ y (fun r_61 w_61 => sp_X12_shareOut κ y (fun w_67 => sp_X2_coins κ y (fun r_74 w_74 => post (r_74) w_74) w_67 (((11 + i_2)))) w_61 i_2 p2) w_49 (((11 + i_2))) 0 p2) px w_18 (0 : Int32))) ∧ ((¬ (nP y i_2 = 0)) → (sp_X2_hasAll κ y (fun r_36 w_36 => ((r_36 = 0) → (sp_X1_state κ y (fun w_49_a => sp_X2_pay κ y (fun r_61_a w_61_a => sp_X12_shareOut κ y (fun w_67_a => sp_X2_coins κ y (fun r_74_a w_74_a => post (r_74_a) w_74_a) w_67_a (((11 + i_2)))) w_61_a i_2 p2) w_49_a (((11 + i_2))) 0 p2) px w_36 (0 : Int32))) ∧ ((¬ (r_36 = 0)) → (sp_X1_state κ y (fun w_49_b => sp_X2_pay κ y (fun r_61_b w_61_b => sp_X12_shareOut κ y (fun w_67_b => sp_X2_coins κ y (fun r_74_b w_74_b => post (r_74_b) w_74_b) w_67_b (((11 + i_2)))) w_61_b i_2 p2) w_49_b (((11 + i_2))) 0 p2) px w_36 (1 : Int32)))) w_18 (((11 + i_2))) p2))) px w_2 (0 : Int32))) ∧ ((¬ (p2 < (1 : Int32))) → (sp_X1_check κ y (fun w_18_a => (((nP y i_2 = 0)) → (sp_X1_state κ y (fun w_49_c => sp_X2_pay κ y (fun r_61_c w_61_c => sp_X12_shareOut κ y (fun w_67_c => sp_X2_coins κ y (fun r_74_c w_74_c => post (r_74_c) w_74_c) w_67_c (((11 + i_2)))) w_61_c i_2 p2) w_49_c (((11 + i_2))) 0 p2) px w_18_a (0 : Int32))) ∧ ((¬ (nP y i_2 = 0)) → (sp_X2_hasAll κ y (fun r_36_a w_36_a => ((r_36_a = 0) → (sp_X1_state κ y (fun w_49_d => sp_X2_pay κ y (fun r_61_d w_61_d => sp_X12_shareOut κ y (fun w_67_d => sp_X2_coins κ y (fun r_74_d w_74_d => post (r_74_d) w_74_d) w_67_d (((11 + i_2)))) w_61_d i_2 p2) w_49_d (((11 + i_2))) 0 p2) px w_36_a (0 : Int32))) ∧ ((¬ (r_36_a = 0)) → (sp_X1_state κ y (fun w_49_e => sp_X2_pay κ y (fun r_61_e w_61_e => sp_X12_shareOut κ y (fun w_67_e => sp_X2_coins κ y (fun r_74_e w_74_e => post (r_74_e) w_74_e) w_67_e (((11 + i_2)))) w_61_e i_2 p2) w_49_e (((11 + i_2))) 0 p2) px w_36_a (1 : Int32)))) w_18_a (((11 + i_2))) p2))) px w_2 (1 : Int32)))) px w p1
theorem hd_X1_shareOut : yX1_shareOut.cls = RX1 ∧ yX1_shareOut.cls ≠ "java/lang/invoke/MethodHandle" ∧ yX1_shareOut.cls ≠ "java/lang/invoke/VarHandle" ∧ (parseMethodDescriptor yX1_shareOut.desc).map (fun d => d.parameters.length) = some 2 := by decide +kernel
set_option maxHeartbeats 4000000 in
theorem m_X1_shareOut {l : Launch} {κ : Kx} {y : Ly} {X : XR} {post : Int32 → Wd → Prop} {px : String → Wd → Prop} {w : Wd} {p1 : Int32} {p2 : Int32}  (hfl : l.stackTraces = false) (hW : WFc κ y) (l0 : live y 0 0) (h : sp_X1_shareOut κ y post px w p1 p2) : vx_Met l yX1_shareOut (ws_ yX1_shareOut cX1_shareOut 4 (Option.some Jvm.ClassFile.FieldType.int)) rm_X1_shareOut (va_Pc [.ref (y.2 0 0), .int (p1), .int (p2)] (RC κ w y X)) (va_Qi post (fun w t => Rp κ w y X [] t.heap) (Af κ)) (XCk κ y X px) 5 27 (Af κ) := by
  unfold sp_X1_shareOut at h
  refine vx_ofW (cc := cX1_shareOut) (maxL := 4) (ret := (Option.some Jvm.ClassFile.FieldType.int)) (by decide) rfl ?_
  intro p e s m args below meth c s₁ B hml ht hv
  obtain ⟨rfl, hR, hK⟩ := hv
  have hx := B.exec
  have hb := B.bytes
  have hr := B.returns
  have hts := atoms_spec (ws := ws_ yX1_shareOut cX1_shareOut 4 (Option.some Jvm.ClassFile.FieldType.int)) B.pre
  have hts : ∀ w ∈ lw_all, w.before _ s = true := fun w h => hts w (List.mem_cons_of_mem _ h)
  have hown : s.vm.findClass RX1 = some m.cls := findClass_of_methodNamed B.named
  have hlocks := B.notSynchronized
  have hR0 := hR
  have hS : va_S (Af κ) s.heap s.heap [] := va_S.rf
  have hl := lv_entry ([.ref (y.2 0 0), .int (p1), .int (p2)]) (n := 4) (Nat.le_of_ble_eq_true rfl)
  rw [lg_entry_eq]
  generalize (lg_sl ([.ref (y.2 0 0), .int (p1), .int (p2)]) ++ List.replicate (4 - (lg_sl ([.ref (y.2 0 0), .int (p1), .int (p2)])).length) Slot.unset).toArray = ls at hl ⊢
  have hl : lv_has ls 4 [(0, .ref (y.2 0 0)), (1, .int (p1)), (2, .int (p2))] := hl
  refine lv_aload_n hx hb dX1_shareOut_0 rfl (lv_at hl 0 rfl) ?_
  refine lv_iload_n hx hb dX1_shareOut_1 rfl (lv_at hl 1 rfl) ?_
  refine cex_qr (fw := fun u : Nat × Wd => u.2) (fy := fun _ => y) (P := (fun (u : Nat × Wd) ra => ra = y.2 9 u.1 ∧ live y 9 u.1)) (crx_V (n := 1) (As := [.int (p1)]) (rest := []) ⟨hx, hb, hml, hown, hts⟩ hK hR (m_X1_companyOf hfl hW l0 h) q1176 q1178 qs22 q74 q1179 rfl rfl hd_X1_companyOf ⟨Nat.le_of_ble_eq_true rfl, Nat.le_of_ble_eq_true rfl⟩ (rv hK hR l0 (ci := 0) rfl rfl) rfl rfl hl.1 rfl (lv_room (Nat.le_of_ble_eq_true rfl)) dX1_shareOut_2 ⟨(Nat.le_of_ble_eq_true rfl), (Nat.le_of_ble_eq_true rfl)⟩) hR hS ht hlocks (Nat.le_of_ble_eq_true rfl) (Nat.le_of_ble_eq_true rfl) (fun u9 a_2 H locs h p9 hR _ hS => ?_)
  obtain ⟨i_2, w_2⟩ := u9
  obtain ⟨e9, lv_2⟩ := p9
  dsimp only at e9 lv_2
  subst e9
  refine lv_astore_n (lv' := [(3, .ref (y.2 9 i_2)), (0, .ref (y.2 0 0)), (1, .int (p1)), (2, .int (p2))]) hx hb dX1_shareOut_5 rfl hl (by decide) rfl (fun ls hl => ?_)
  refine lv_iload_n hx hb dX1_shareOut_6 rfl (lv_at hl 3 rfl) ?_
  refine lv_iconst (v := (1 : Int32)) hx hb dX1_shareOut_7 (by decide) ?_
  refine lv_icmp_lt (tgt := 15) hx hb dX1_shareOut_8 (by decide) (fun c_8 => ?_) (fun c_8 => ?_)
  · have h := h.1 c_8
    refine lv_iconst (v := (0 : Int32)) hx hb dX1_shareOut_15 (by decide) ?_
    refine jr_ldcS (own := "Publicanry") (k := 245) (tx := "amount") (n := 1245) hx hb hown hK (List.mem_of_getElem? (i := 8) rfl) dX1_shareOut_16 ?_
    refine cex_qv (fw := fun u => u) (fy := fun _ => y) (crx_S (n := 2) (As := [.int ((0 : Int32)), .ref (kA κ 1245)]) (rest := []) ⟨hx, hb, hml, hown, hts⟩ hK hR (m_X1_check hfl hW h) q794 q795 q74 q796 rfl rfl hds_X1_check ⟨Nat.le_of_ble_eq_true rfl, Nat.le_of_ble_eq_true rfl⟩ rfl rfl hl.1 rfl (lv_room (Nat.le_of_ble_eq_true rfl)) dX1_shareOut_18 ⟨(Nat.le_of_ble_eq_true rfl), (Nat.le_of_ble_eq_true rfl)⟩) hR hS ht hlocks (Nat.le_of_ble_eq_true rfl) (Nat.le_of_ble_eq_true rfl) (fun w_18 H locs h hR _ hS => ?_)
    refine lv_aload_n hx hb dX1_shareOut_21 rfl (lv_at hl 0 rfl) ?_
    refine g9_2 hx hb hts hown hK hR lv_2 q1126 dX1_shareOut_22 ?_
    refine jr_isEmpty ⟨hx, hb, hml, hown, hts⟩ hK hR ⟨fun _ _ _ _ _ => rfl, fun _ _ _ _ _ => rfl⟩ (hW.cpa lv_2) (Nat.le_trans (hW.nP5 lv_2) (by decide)) q1204 ⟨Nat.le_of_ble_eq_true rfl, Nat.le_of_ble_eq_true rfl⟩ hl.1 (Nat.le_of_ble_eq_true rfl) dX1_shareOut_25 ⟨(Nat.le_of_ble_eq_true rfl), (Nat.le_of_ble_eq_true rfl)⟩ ?_
    refine lv_if_ne (tgt := 46) hx hb dX1_shareOut_28 (by decide) (fun c_28 => ?_) (fun c_28 => ?_)
    · replace c_28 : (nP y i_2 = 0) := bi_n0.mp c_28
      have h := h.1 c_28
      refine lv_iconst (v := (0 : Int32)) hx hb dX1_shareOut_46 (by decide) ?_
      refine jr_ldcS (own := "Publicanry") (k := 253) (tx := "chest") (n := 1253) hx hb hown hK (List.mem_of_getElem? (i := 9) rfl) dX1_shareOut_47 ?_
      refine cex_qv (fw := fun u => u) (fy := fun _ => y) (crx_S (n := 2) (As := [.int ((0 : Int32)), .ref (kA κ 1253)]) (rest := []) ⟨hx, hb, hml, hown, hts⟩ hK hR (m_X1_state hfl hW h) q813 q814 q74 q815 rfl rfl hds_X1_state ⟨Nat.le_of_ble_eq_true rfl, Nat.le_of_ble_eq_true rfl⟩ rfl rfl hl.1 rfl (lv_room (Nat.le_of_ble_eq_true rfl)) dX1_shareOut_49 ⟨(Nat.le_of_ble_eq_true rfl), (Nat.le_of_ble_eq_true rfl)⟩) hR hS ht hlocks (Nat.le_of_ble_eq_true rfl) (Nat.le_of_ble_eq_true rfl) (fun w_49 H locs h hR _ hS => ?_)
      refine lv_aload_n hx hb dX1_shareOut_52 rfl (lv_at hl 0 rfl) ?_
      refine g9_1 hx hb hts hown hK hR lv_2 q1124 dX1_shareOut_53 ?_
      refine lv_aload_n hx hb dX1_shareOut_56 rfl (lv_at hl 1 rfl) ?_
      refine g0_4 hx hb hts hown hK hR l0 q251 dX1_shareOut_57 ?_
      refine lv_iload_n hx hb dX1_shareOut_60 rfl (lv_at hl 3 rfl) ?_
      refine ce_qi (fw := fun u => u) (fy := fun _ => y) (cr_V (n := 2) (As := [.ref (y.2 1 0), .int (p2)]) (rest := []) ⟨hx, hb, hml, hown, hts⟩ hK hR (m_X2_pay hW (hW.cch lv_2) hW.wor (by first | omega | assumption) h) q306 q307 q308 q78 q320 rfl rfl hd_X2_pay ⟨Nat.le_of_ble_eq_true rfl, Nat.le_of_ble_eq_true rfl⟩ (rv_ch1 hK hR (hW.cch lv_2) (by omega)) rfl rfl hl.1 rfl (lv_room (Nat.le_of_ble_eq_true rfl)) dX1_shareOut_61 ⟨(Nat.le_of_ble_eq_true rfl), (Nat.le_of_ble_eq_true rfl)⟩) hR hS (fun r_61 w_61 H locs h hR _ hS => ?_)
      refine lv_pop hx hb dX1_shareOut_64 rfl ?_
      refine lv_aload_n hx hb dX1_shareOut_65 rfl (lv_at hl 0 rfl) ?_
      refine lv_iload_n hx hb dX1_shareOut_66 rfl (lv_at hl 3 rfl) ?_
      refine ce_qv (fw := fun u => u) (fy := fun _ => y) (cr_V (n := 1) (As := [.int (p2)]) (rest := []) ⟨hx, hb, hml, hown, hts⟩ hK hR (m_X12_shareOut hW lv_2 h) q1217 q1218 q1219 q106 q1220 rfl rfl hd_X12_shareOut ⟨Nat.le_of_ble_eq_true rfl, Nat.le_of_ble_eq_true rfl⟩ (rv hK hR lv_2 (ci := 7) rfl rfl) rfl rfl hl.1 rfl (lv_room (Nat.le_of_ble_eq_true rfl)) dX1_shareOut_67 ⟨(Nat.le_of_ble_eq_true rfl), (Nat.le_of_ble_eq_true rfl)⟩) hR hS (fun w_67 H locs h hR _ hS => ?_)
      refine lv_aload_n hx hb dX1_shareOut_70 rfl (lv_at hl 0 rfl) ?_
      refine g9_1 hx hb hts hown hK hR lv_2 q1124 dX1_shareOut_71 ?_
      refine ce_qi (fw := fun u => u) (fy := fun _ => y) (cr_V (n := 0) (As := []) (rest := []) ⟨hx, hb, hml, hown, hts⟩ hK hR (m_X2_coins hW (hW.cch lv_2) h) q300 q301 q302 q78 q305 rfl rfl hd_X2_coins ⟨Nat.le_of_ble_eq_true rfl, Nat.le_of_ble_eq_true rfl⟩ (rv_ch1 hK hR (hW.cch lv_2) (by omega)) rfl rfl hl.1 rfl (lv_room (Nat.le_of_ble_eq_true rfl)) dX1_shareOut_74 ⟨(Nat.le_of_ble_eq_true rfl), (Nat.le_of_ble_eq_true rfl)⟩) hR hS (fun r_74 w_74 H locs h hR _ hS => ?_)
      refine W.widen (k := 5) (n := 27) (Nat.le_of_ble_eq_true rfl) (Nat.le_of_ble_eq_true rfl) ?_
      refine vx_ret ?_; exact W.iret (v := r_74) hx hb hr (fun t ht hW9 => ⟨⟨r_74, w_74, rfl, h, rpt ht hR⟩, hS.F ht⟩) hS.2.2 dX1_shareOut_77
    · replace c_28 : ¬ (nP y i_2 = 0) := bi_0.mp c_28
      have h := h.2 c_28
      refine lv_aload_n hx hb dX1_shareOut_31 rfl (lv_at hl 0 rfl) ?_
      refine g9_1 hx hb hts hown hK hR lv_2 q1124 dX1_shareOut_32 ?_
      refine lv_iload_n hx hb dX1_shareOut_35 rfl (lv_at hl 3 rfl) ?_
      refine ce_qi (fw := fun u => u) (fy := fun _ => y) (cr_V (n := 1) (As := [.int (p2)]) (rest := []) ⟨hx, hb, hml, hown, hts⟩ hK hR (m_X2_hasAll hW (hW.cch lv_2) h) q1208 q1209 q1210 q78 q1215 rfl rfl hd_X2_hasAll ⟨Nat.le_of_ble_eq_true rfl, Nat.le_of_ble_eq_true rfl⟩ (rv_ch1 hK hR (hW.cch lv_2) (by omega)) rfl rfl hl.1 rfl (lv_room (Nat.le_of_ble_eq_true rfl)) dX1_shareOut_36 ⟨(Nat.le_of_ble_eq_true rfl), (Nat.le_of_ble_eq_true rfl)⟩) hR hS (fun r_36 w_36 H locs h hR _ hS => ?_)
      refine lv_if_eq (tgt := 46) hx hb dX1_shareOut_39 (by decide) (fun c_39 => ?_) (fun c_39 => ?_)
      · have h := h.1 c_39
        refine lv_iconst (v := (0 : Int32)) hx hb dX1_shareOut_46 (by decide) ?_
        refine jr_ldcS (own := "Publicanry") (k := 253) (tx := "chest") (n := 1253) hx hb hown hK (List.mem_of_getElem? (i := 9) rfl) dX1_shareOut_47 ?_
        refine cex_qv (fw := fun u => u) (fy := fun _ => y) (crx_S (n := 2) (As := [.int ((0 : Int32)), .ref (kA κ 1253)]) (rest := []) ⟨hx, hb, hml, hown, hts⟩ hK hR (m_X1_state hfl hW h) q813 q814 q74 q815 rfl rfl hds_X1_state ⟨Nat.le_of_ble_eq_true rfl, Nat.le_of_ble_eq_true rfl⟩ rfl rfl hl.1 rfl (lv_room (Nat.le_of_ble_eq_true rfl)) dX1_shareOut_49 ⟨(Nat.le_of_ble_eq_true rfl), (Nat.le_of_ble_eq_true rfl)⟩) hR hS ht hlocks (Nat.le_of_ble_eq_true rfl) (Nat.le_of_ble_eq_true rfl) (fun w_49_a H locs h hR _ hS => ?_)
        refine lv_aload_n hx hb dX1_shareOut_52 rfl (lv_at hl 0 rfl) ?_
        refine g9_1 hx hb hts hown hK hR lv_2 q1124 dX1_shareOut_53 ?_
        refine lv_aload_n hx hb dX1_shareOut_56 rfl (lv_at hl 1 rfl) ?_
        refine g0_4 hx hb hts hown hK hR l0 q251 dX1_shareOut_57 ?_
        refine lv_iload_n hx hb dX1_shareOut_60 rfl (lv_at hl 3 rfl) ?_
        refine ce_qi (fw := fun u => u) (fy := fun _ => y) (cr_V (n := 2) (As := [.ref (y.2 1 0), .int (p2)]) (rest := []) ⟨hx, hb, hml, hown, hts⟩ hK hR (m_X2_pay hW (hW.cch lv_2) hW.wor (by first | omega | assumption) h) q306 q307 q308 q78 q320 rfl rfl hd_X2_pay ⟨Nat.le_of_ble_eq_true rfl, Nat.le_of_ble_eq_true rfl⟩ (rv_ch1 hK hR (hW.cch lv_2) (by omega)) rfl rfl hl.1 rfl (lv_room (Nat.le_of_ble_eq_true rfl)) dX1_shareOut_61 ⟨(Nat.le_of_ble_eq_true rfl), (Nat.le_of_ble_eq_true rfl)⟩) hR hS (fun r_61_a w_61_a H locs h hR _ hS => ?_)
        refine lv_pop hx hb dX1_shareOut_64 rfl ?_
        refine lv_aload_n hx hb dX1_shareOut_65 rfl (lv_at hl 0 rfl) ?_
        refine lv_iload_n hx hb dX1_shareOut_66 rfl (lv_at hl 3 rfl) ?_
        refine ce_qv (fw := fun u => u) (fy := fun _ => y) (cr_V (n := 1) (As := [.int (p2)]) (rest := []) ⟨hx, hb, hml, hown, hts⟩ hK hR (m_X12_shareOut hW lv_2 h) q1217 q1218 q1219 q106 q1220 rfl rfl hd_X12_shareOut ⟨Nat.le_of_ble_eq_true rfl, Nat.le_of_ble_eq_true rfl⟩ (rv hK hR lv_2 (ci := 7) rfl rfl) rfl rfl hl.1 rfl (lv_room (Nat.le_of_ble_eq_true rfl)) dX1_shareOut_67 ⟨(Nat.le_of_ble_eq_true rfl), (Nat.le_of_ble_eq_true rfl)⟩) hR hS (fun w_67_a H locs h hR _ hS => ?_)
        refine lv_aload_n hx hb dX1_shareOut_70 rfl (lv_at hl 0 rfl) ?_
        refine g9_1 hx hb hts hown hK hR lv_2 q1124 dX1_shareOut_71 ?_
        refine ce_qi (fw := fun u => u) (fy := fun _ => y) (cr_V (n := 0) (As := []) (rest := []) ⟨hx, hb, hml, hown, hts⟩ hK hR (m_X2_coins hW (hW.cch lv_2) h) q300 q301 q302 q78 q305 rfl rfl hd_X2_coins ⟨Nat.le_of_ble_eq_true rfl, Nat.le_of_ble_eq_true rfl⟩ (rv_ch1 hK hR (hW.cch lv_2) (by omega)) rfl rfl hl.1 rfl (lv_room (Nat.le_of_ble_eq_true rfl)) dX1_shareOut_74 ⟨(Nat.le_of_ble_eq_true rfl), (Nat.le_of_ble_eq_true rfl)⟩) hR hS (fun r_74_a w_74_a H locs h hR _ hS => ?_)
        refine W.widen (k := 5) (n := 27) (Nat.le_of_ble_eq_true rfl) (Nat.le_of_ble_eq_true rfl) ?_
        refine vx_ret ?_; exact W.iret (v := r_74_a) hx hb hr (fun t ht hW9 => ⟨⟨r_74_a, w_74_a, rfl, h, rpt ht hR⟩, hS.F ht⟩) hS.2.2 dX1_shareOut_77
      · have h := h.2 c_39
        refine lv_iconst (v := (1 : Int32)) hx hb dX1_shareOut_42 (by decide) ?_
        refine lv_goto (tgt := 47) hx hb dX1_shareOut_43 (by decide) ?_
        refine jr_ldcS (own := "Publicanry") (k := 253) (tx := "chest") (n := 1253) hx hb hown hK (List.mem_of_getElem? (i := 9) rfl) dX1_shareOut_47 ?_
        refine cex_qv (fw := fun u => u) (fy := fun _ => y) (crx_S (n := 2) (As := [.int ((1 : Int32)), .ref (kA κ 1253)]) (rest := []) ⟨hx, hb, hml, hown, hts⟩ hK hR (m_X1_state hfl hW h) q813 q814 q74 q815 rfl rfl hds_X1_state ⟨Nat.le_of_ble_eq_true rfl, Nat.le_of_ble_eq_true rfl⟩ rfl rfl hl.1 rfl (lv_room (Nat.le_of_ble_eq_true rfl)) dX1_shareOut_49 ⟨(Nat.le_of_ble_eq_true rfl), (Nat.le_of_ble_eq_true rfl)⟩) hR hS ht hlocks (Nat.le_of_ble_eq_true rfl) (Nat.le_of_ble_eq_true rfl) (fun w_49_b H locs h hR _ hS => ?_)
        refine lv_aload_n hx hb dX1_shareOut_52 rfl (lv_at hl 0 rfl) ?_
        refine g9_1 hx hb hts hown hK hR lv_2 q1124 dX1_shareOut_53 ?_
        refine lv_aload_n hx hb dX1_shareOut_56 rfl (lv_at hl 1 rfl) ?_
        refine g0_4 hx hb hts hown hK hR l0 q251 dX1_shareOut_57 ?_
        refine lv_iload_n hx hb dX1_shareOut_60 rfl (lv_at hl 3 rfl) ?_
        refine ce_qi (fw := fun u => u) (fy := fun _ => y) (cr_V (n := 2) (As := [.ref (y.2 1 0), .int (p2)]) (rest := []) ⟨hx, hb, hml, hown, hts⟩ hK hR (m_X2_pay hW (hW.cch lv_2) hW.wor (by first | omega | assumption) h) q306 q307 q308 q78 q320 rfl rfl hd_X2_pay ⟨Nat.le_of_ble_eq_true rfl, Nat.le_of_ble_eq_true rfl⟩ (rv_ch1 hK hR (hW.cch lv_2) (by omega)) rfl rfl hl.1 rfl (lv_room (Nat.le_of_ble_eq_true rfl)) dX1_shareOut_61 ⟨(Nat.le_of_ble_eq_true rfl), (Nat.le_of_ble_eq_true rfl)⟩) hR hS (fun r_61_b w_61_b H locs h hR _ hS => ?_)
        refine lv_pop hx hb dX1_shareOut_64 rfl ?_
        refine lv_aload_n hx hb dX1_shareOut_65 rfl (lv_at hl 0 rfl) ?_
        refine lv_iload_n hx hb dX1_shareOut_66 rfl (lv_at hl 3 rfl) ?_
        refine ce_qv (fw := fun u => u) (fy := fun _ => y) (cr_V (n := 1) (As := [.int (p2)]) (rest := []) ⟨hx, hb, hml, hown, hts⟩ hK hR (m_X12_shareOut hW lv_2 h) q1217 q1218 q1219 q106 q1220 rfl rfl hd_X12_shareOut ⟨Nat.le_of_ble_eq_true rfl, Nat.le_of_ble_eq_true rfl⟩ (rv hK hR lv_2 (ci := 7) rfl rfl) rfl rfl hl.1 rfl (lv_room (Nat.le_of_ble_eq_true rfl)) dX1_shareOut_67 ⟨(Nat.le_of_ble_eq_true rfl), (Nat.le_of_ble_eq_true rfl)⟩) hR hS (fun w_67_b H locs h hR _ hS => ?_)
        refine lv_aload_n hx hb dX1_shareOut_70 rfl (lv_at hl 0 rfl) ?_
        refine g9_1 hx hb hts hown hK hR lv_2 q1124 dX1_shareOut_71 ?_
        refine ce_qi (fw := fun u => u) (fy := fun _ => y) (cr_V (n := 0) (As := []) (rest := []) ⟨hx, hb, hml, hown, hts⟩ hK hR (m_X2_coins hW (hW.cch lv_2) h) q300 q301 q302 q78 q305 rfl rfl hd_X2_coins ⟨Nat.le_of_ble_eq_true rfl, Nat.le_of_ble_eq_true rfl⟩ (rv_ch1 hK hR (hW.cch lv_2) (by omega)) rfl rfl hl.1 rfl (lv_room (Nat.le_of_ble_eq_true rfl)) dX1_shareOut_74 ⟨(Nat.le_of_ble_eq_true rfl), (Nat.le_of_ble_eq_true rfl)⟩) hR hS (fun r_74_b w_74_b H locs h hR _ hS => ?_)
        refine W.widen (k := 5) (n := 27) (Nat.le_of_ble_eq_true rfl) (Nat.le_of_ble_eq_true rfl) ?_
        refine vx_ret ?_; exact W.iret (v := r_74_b) hx hb hr (fun t ht hW9 => ⟨⟨r_74_b, w_74_b, rfl, h, rpt ht hR⟩, hS.F ht⟩) hS.2.2 dX1_shareOut_77
  · have h := h.2 c_8
    refine lv_iconst (v := (1 : Int32)) hx hb dX1_shareOut_11 (by decide) ?_
    refine lv_goto (tgt := 16) hx hb dX1_shareOut_12 (by decide) ?_
    refine jr_ldcS (own := "Publicanry") (k := 245) (tx := "amount") (n := 1245) hx hb hown hK (List.mem_of_getElem? (i := 8) rfl) dX1_shareOut_16 ?_
    refine cex_qv (fw := fun u => u) (fy := fun _ => y) (crx_S (n := 2) (As := [.int ((1 : Int32)), .ref (kA κ 1245)]) (rest := []) ⟨hx, hb, hml, hown, hts⟩ hK hR (m_X1_check hfl hW h) q794 q795 q74 q796 rfl rfl hds_X1_check ⟨Nat.le_of_ble_eq_true rfl, Nat.le_of_ble_eq_true rfl⟩ rfl rfl hl.1 rfl (lv_room (Nat.le_of_ble_eq_true rfl)) dX1_shareOut_18 ⟨(Nat.le_of_ble_eq_true rfl), (Nat.le_of_ble_eq_true rfl)⟩) hR hS ht hlocks (Nat.le_of_ble_eq_true rfl) (Nat.le_of_ble_eq_true rfl) (fun w_18_a H locs h hR _ hS => ?_)
    refine lv_aload_n hx hb dX1_shareOut_21 rfl (lv_at hl 0 rfl) ?_
    refine g9_2 hx hb hts hown hK hR lv_2 q1126 dX1_shareOut_22 ?_
    refine jr_isEmpty ⟨hx, hb, hml, hown, hts⟩ hK hR ⟨fun _ _ _ _ _ => rfl, fun _ _ _ _ _ => rfl⟩ (hW.cpa lv_2) (Nat.le_trans (hW.nP5 lv_2) (by decide)) q1204 ⟨Nat.le_of_ble_eq_true rfl, Nat.le_of_ble_eq_true rfl⟩ hl.1 (Nat.le_of_ble_eq_true rfl) dX1_shareOut_25 ⟨(Nat.le_of_ble_eq_true rfl), (Nat.le_of_ble_eq_true rfl)⟩ ?_
    refine lv_if_ne (tgt := 46) hx hb dX1_shareOut_28 (by decide) (fun c_28_a => ?_) (fun c_28_a => ?_)
    · replace c_28_a : (nP y i_2 = 0) := bi_n0.mp c_28_a
      have h := h.1 c_28_a
      refine lv_iconst (v := (0 : Int32)) hx hb dX1_shareOut_46 (by decide) ?_
      refine jr_ldcS (own := "Publicanry") (k := 253) (tx := "chest") (n := 1253) hx hb hown hK (List.mem_of_getElem? (i := 9) rfl) dX1_shareOut_47 ?_
      refine cex_qv (fw := fun u => u) (fy := fun _ => y) (crx_S (n := 2) (As := [.int ((0 : Int32)), .ref (kA κ 1253)]) (rest := []) ⟨hx, hb, hml, hown, hts⟩ hK hR (m_X1_state hfl hW h) q813 q814 q74 q815 rfl rfl hds_X1_state ⟨Nat.le_of_ble_eq_true rfl, Nat.le_of_ble_eq_true rfl⟩ rfl rfl hl.1 rfl (lv_room (Nat.le_of_ble_eq_true rfl)) dX1_shareOut_49 ⟨(Nat.le_of_ble_eq_true rfl), (Nat.le_of_ble_eq_true rfl)⟩) hR hS ht hlocks (Nat.le_of_ble_eq_true rfl) (Nat.le_of_ble_eq_true rfl) (fun w_49_c H locs h hR _ hS => ?_)
      refine lv_aload_n hx hb dX1_shareOut_52 rfl (lv_at hl 0 rfl) ?_
      refine g9_1 hx hb hts hown hK hR lv_2 q1124 dX1_shareOut_53 ?_
      refine lv_aload_n hx hb dX1_shareOut_56 rfl (lv_at hl 1 rfl) ?_
      refine g0_4 hx hb hts hown hK hR l0 q251 dX1_shareOut_57 ?_
      refine lv_iload_n hx hb dX1_shareOut_60 rfl (lv_at hl 3 rfl) ?_
      refine ce_qi (fw := fun u => u) (fy := fun _ => y) (cr_V (n := 2) (As := [.ref (y.2 1 0), .int (p2)]) (rest := []) ⟨hx, hb, hml, hown, hts⟩ hK hR (m_X2_pay hW (hW.cch lv_2) hW.wor (by first | omega | assumption) h) q306 q307 q308 q78 q320 rfl rfl hd_X2_pay ⟨Nat.le_of_ble_eq_true rfl, Nat.le_of_ble_eq_true rfl⟩ (rv_ch1 hK hR (hW.cch lv_2) (by omega)) rfl rfl hl.1 rfl (lv_room (Nat.le_of_ble_eq_true rfl)) dX1_shareOut_61 ⟨(Nat.le_of_ble_eq_true rfl), (Nat.le_of_ble_eq_true rfl)⟩) hR hS (fun r_61_c w_61_c H locs h hR _ hS => ?_)
      refine lv_pop hx hb dX1_shareOut_64 rfl ?_
      refine lv_aload_n hx hb dX1_shareOut_65 rfl (lv_at hl 0 rfl) ?_
      refine lv_iload_n hx hb dX1_shareOut_66 rfl (lv_at hl 3 rfl) ?_
      refine ce_qv (fw := fun u => u) (fy := fun _ => y) (cr_V (n := 1) (As := [.int (p2)]) (rest := []) ⟨hx, hb, hml, hown, hts⟩ hK hR (m_X12_shareOut hW lv_2 h) q1217 q1218 q1219 q106 q1220 rfl rfl hd_X12_shareOut ⟨Nat.le_of_ble_eq_true rfl, Nat.le_of_ble_eq_true rfl⟩ (rv hK hR lv_2 (ci := 7) rfl rfl) rfl rfl hl.1 rfl (lv_room (Nat.le_of_ble_eq_true rfl)) dX1_shareOut_67 ⟨(Nat.le_of_ble_eq_true rfl), (Nat.le_of_ble_eq_true rfl)⟩) hR hS (fun w_67_c H locs h hR _ hS => ?_)
      refine lv_aload_n hx hb dX1_shareOut_70 rfl (lv_at hl 0 rfl) ?_
      refine g9_1 hx hb hts hown hK hR lv_2 q1124 dX1_shareOut_71 ?_
      refine ce_qi (fw := fun u => u) (fy := fun _ => y) (cr_V (n := 0) (As := []) (rest := []) ⟨hx, hb, hml, hown, hts⟩ hK hR (m_X2_coins hW (hW.cch lv_2) h) q300 q301 q302 q78 q305 rfl rfl hd_X2_coins ⟨Nat.le_of_ble_eq_true rfl, Nat.le_of_ble_eq_true rfl⟩ (rv_ch1 hK hR (hW.cch lv_2) (by omega)) rfl rfl hl.1 rfl (lv_room (Nat.le_of_ble_eq_true rfl)) dX1_shareOut_74 ⟨(Nat.le_of_ble_eq_true rfl), (Nat.le_of_ble_eq_true rfl)⟩) hR hS (fun r_74_c w_74_c H locs h hR _ hS => ?_)
      refine W.widen (k := 5) (n := 27) (Nat.le_of_ble_eq_true rfl) (Nat.le_of_ble_eq_true rfl) ?_
      refine vx_ret ?_; exact W.iret (v := r_74_c) hx hb hr (fun t ht hW9 => ⟨⟨r_74_c, w_74_c, rfl, h, rpt ht hR⟩, hS.F ht⟩) hS.2.2 dX1_shareOut_77
    · replace c_28_a : ¬ (nP y i_2 = 0) := bi_0.mp c_28_a
      have h := h.2 c_28_a
      refine lv_aload_n hx hb dX1_shareOut_31 rfl (lv_at hl 0 rfl) ?_
      refine g9_1 hx hb hts hown hK hR lv_2 q1124 dX1_shareOut_32 ?_
      refine lv_iload_n hx hb dX1_shareOut_35 rfl (lv_at hl 3 rfl) ?_
      refine ce_qi (fw := fun u => u) (fy := fun _ => y) (cr_V (n := 1) (As := [.int (p2)]) (rest := []) ⟨hx, hb, hml, hown, hts⟩ hK hR (m_X2_hasAll hW (hW.cch lv_2) h) q1208 q1209 q1210 q78 q1215 rfl rfl hd_X2_hasAll ⟨Nat.le_of_ble_eq_true rfl, Nat.le_of_ble_eq_true rfl⟩ (rv_ch1 hK hR (hW.cch lv_2) (by omega)) rfl rfl hl.1 rfl (lv_room (Nat.le_of_ble_eq_true rfl)) dX1_shareOut_36 ⟨(Nat.le_of_ble_eq_true rfl), (Nat.le_of_ble_eq_true rfl)⟩) hR hS (fun r_36_a w_36_a H locs h hR _ hS => ?_)
      refine lv_if_eq (tgt := 46) hx hb dX1_shareOut_39 (by decide) (fun c_39_a => ?_) (fun c_39_a => ?_)
      · have h := h.1 c_39_a
        refine lv_iconst (v := (0 : Int32)) hx hb dX1_shareOut_46 (by decide) ?_
        refine jr_ldcS (own := "Publicanry") (k := 253) (tx := "chest") (n := 1253) hx hb hown hK (List.mem_of_getElem? (i := 9) rfl) dX1_shareOut_47 ?_
        refine cex_qv (fw := fun u => u) (fy := fun _ => y) (crx_S (n := 2) (As := [.int ((0 : Int32)), .ref (kA κ 1253)]) (rest := []) ⟨hx, hb, hml, hown, hts⟩ hK hR (m_X1_state hfl hW h) q813 q814 q74 q815 rfl rfl hds_X1_state ⟨Nat.le_of_ble_eq_true rfl, Nat.le_of_ble_eq_true rfl⟩ rfl rfl hl.1 rfl (lv_room (Nat.le_of_ble_eq_true rfl)) dX1_shareOut_49 ⟨(Nat.le_of_ble_eq_true rfl), (Nat.le_of_ble_eq_true rfl)⟩) hR hS ht hlocks (Nat.le_of_ble_eq_true rfl) (Nat.le_of_ble_eq_true rfl) (fun w_49_d H locs h hR _ hS => ?_)
        refine lv_aload_n hx hb dX1_shareOut_52 rfl (lv_at hl 0 rfl) ?_
        refine g9_1 hx hb hts hown hK hR lv_2 q1124 dX1_shareOut_53 ?_
        refine lv_aload_n hx hb dX1_shareOut_56 rfl (lv_at hl 1 rfl) ?_
        refine g0_4 hx hb hts hown hK hR l0 q251 dX1_shareOut_57 ?_
        refine lv_iload_n hx hb dX1_shareOut_60 rfl (lv_at hl 3 rfl) ?_
        refine ce_qi (fw := fun u => u) (fy := fun _ => y) (cr_V (n := 2) (As := [.ref (y.2 1 0), .int (p2)]) (rest := []) ⟨hx, hb, hml, hown, hts⟩ hK hR (m_X2_pay hW (hW.cch lv_2) hW.wor (by first | omega | assumption) h) q306 q307 q308 q78 q320 rfl rfl hd_X2_pay ⟨Nat.le_of_ble_eq_true rfl, Nat.le_of_ble_eq_true rfl⟩ (rv_ch1 hK hR (hW.cch lv_2) (by omega)) rfl rfl hl.1 rfl (lv_room (Nat.le_of_ble_eq_true rfl)) dX1_shareOut_61 ⟨(Nat.le_of_ble_eq_true rfl), (Nat.le_of_ble_eq_true rfl)⟩) hR hS (fun r_61_d w_61_d H locs h hR _ hS => ?_)
        refine lv_pop hx hb dX1_shareOut_64 rfl ?_
        refine lv_aload_n hx hb dX1_shareOut_65 rfl (lv_at hl 0 rfl) ?_
        refine lv_iload_n hx hb dX1_shareOut_66 rfl (lv_at hl 3 rfl) ?_
        refine ce_qv (fw := fun u => u) (fy := fun _ => y) (cr_V (n := 1) (As := [.int (p2)]) (rest := []) ⟨hx, hb, hml, hown, hts⟩ hK hR (m_X12_shareOut hW lv_2 h) q1217 q1218 q1219 q106 q1220 rfl rfl hd_X12_shareOut ⟨Nat.le_of_ble_eq_true rfl, Nat.le_of_ble_eq_true rfl⟩ (rv hK hR lv_2 (ci := 7) rfl rfl) rfl rfl hl.1 rfl (lv_room (Nat.le_of_ble_eq_true rfl)) dX1_shareOut_67 ⟨(Nat.le_of_ble_eq_true rfl), (Nat.le_of_ble_eq_true rfl)⟩) hR hS (fun w_67_d H locs h hR _ hS => ?_)
        refine lv_aload_n hx hb dX1_shareOut_70 rfl (lv_at hl 0 rfl) ?_
        refine g9_1 hx hb hts hown hK hR lv_2 q1124 dX1_shareOut_71 ?_
        refine ce_qi (fw := fun u => u) (fy := fun _ => y) (cr_V (n := 0) (As := []) (rest := []) ⟨hx, hb, hml, hown, hts⟩ hK hR (m_X2_coins hW (hW.cch lv_2) h) q300 q301 q302 q78 q305 rfl rfl hd_X2_coins ⟨Nat.le_of_ble_eq_true rfl, Nat.le_of_ble_eq_true rfl⟩ (rv_ch1 hK hR (hW.cch lv_2) (by omega)) rfl rfl hl.1 rfl (lv_room (Nat.le_of_ble_eq_true rfl)) dX1_shareOut_74 ⟨(Nat.le_of_ble_eq_true rfl), (Nat.le_of_ble_eq_true rfl)⟩) hR hS (fun r_74_d w_74_d H locs h hR _ hS => ?_)
        refine W.widen (k := 5) (n := 27) (Nat.le_of_ble_eq_true rfl) (Nat.le_of_ble_eq_true rfl) ?_
        refine vx_ret ?_; exact W.iret (v := r_74_d) hx hb hr (fun t ht hW9 => ⟨⟨r_74_d, w_74_d, rfl, h, rpt ht hR⟩, hS.F ht⟩) hS.2.2 dX1_shareOut_77
      · have h := h.2 c_39_a
        refine lv_iconst (v := (1 : Int32)) hx hb dX1_shareOut_42 (by decide) ?_
        refine lv_goto (tgt := 47) hx hb dX1_shareOut_43 (by decide) ?_
        refine jr_ldcS (own := "Publicanry") (k := 253) (tx := "chest") (n := 1253) hx hb hown hK (List.mem_of_getElem? (i := 9) rfl) dX1_shareOut_47 ?_
        refine cex_qv (fw := fun u => u) (fy := fun _ => y) (crx_S (n := 2) (As := [.int ((1 : Int32)), .ref (kA κ 1253)]) (rest := []) ⟨hx, hb, hml, hown, hts⟩ hK hR (m_X1_state hfl hW h) q813 q814 q74 q815 rfl rfl hds_X1_state ⟨Nat.le_of_ble_eq_true rfl, Nat.le_of_ble_eq_true rfl⟩ rfl rfl hl.1 rfl (lv_room (Nat.le_of_ble_eq_true rfl)) dX1_shareOut_49 ⟨(Nat.le_of_ble_eq_true rfl), (Nat.le_of_ble_eq_true rfl)⟩) hR hS ht hlocks (Nat.le_of_ble_eq_true rfl) (Nat.le_of_ble_eq_true rfl) (fun w_49_e H locs h hR _ hS => ?_)
        refine lv_aload_n hx hb dX1_shareOut_52 rfl (lv_at hl 0 rfl) ?_
        refine g9_1 hx hb hts hown hK hR lv_2 q1124 dX1_shareOut_53 ?_
        refine lv_aload_n hx hb dX1_shareOut_56 rfl (lv_at hl 1 rfl) ?_
        refine g0_4 hx hb hts hown hK hR l0 q251 dX1_shareOut_57 ?_
        refine lv_iload_n hx hb dX1_shareOut_60 rfl (lv_at hl 3 rfl) ?_
        refine ce_qi (fw := fun u => u) (fy := fun _ => y) (cr_V (n := 2) (As := [.ref (y.2 1 0), .int (p2)]) (rest := []) ⟨hx, hb, hml, hown, hts⟩ hK hR (m_X2_pay hW (hW.cch lv_2) hW.wor (by first | omega | assumption) h) q306 q307 q308 q78 q320 rfl rfl hd_X2_pay ⟨Nat.le_of_ble_eq_true rfl, Nat.le_of_ble_eq_true rfl⟩ (rv_ch1 hK hR (hW.cch lv_2) (by omega)) rfl rfl hl.1 rfl (lv_room (Nat.le_of_ble_eq_true rfl)) dX1_shareOut_61 ⟨(Nat.le_of_ble_eq_true rfl), (Nat.le_of_ble_eq_true rfl)⟩) hR hS (fun r_61_e w_61_e H locs h hR _ hS => ?_)
        refine lv_pop hx hb dX1_shareOut_64 rfl ?_
        refine lv_aload_n hx hb dX1_shareOut_65 rfl (lv_at hl 0 rfl) ?_
        refine lv_iload_n hx hb dX1_shareOut_66 rfl (lv_at hl 3 rfl) ?_
        refine ce_qv (fw := fun u => u) (fy := fun _ => y) (cr_V (n := 1) (As := [.int (p2)]) (rest := []) ⟨hx, hb, hml, hown, hts⟩ hK hR (m_X12_shareOut hW lv_2 h) q1217 q1218 q1219 q106 q1220 rfl rfl hd_X12_shareOut ⟨Nat.le_of_ble_eq_true rfl, Nat.le_of_ble_eq_true rfl⟩ (rv hK hR lv_2 (ci := 7) rfl rfl) rfl rfl hl.1 rfl (lv_room (Nat.le_of_ble_eq_true rfl)) dX1_shareOut_67 ⟨(Nat.le_of_ble_eq_true rfl), (Nat.le_of_ble_eq_true rfl)⟩) hR hS (fun w_67_e H locs h hR _ hS => ?_)
        refine lv_aload_n hx hb dX1_shareOut_70 rfl (lv_at hl 0 rfl) ?_
        refine g9_1 hx hb hts hown hK hR lv_2 q1124 dX1_shareOut_71 ?_
        refine ce_qi (fw := fun u => u) (fy := fun _ => y) (cr_V (n := 0) (As := []) (rest := []) ⟨hx, hb, hml, hown, hts⟩ hK hR (m_X2_coins hW (hW.cch lv_2) h) q300 q301 q302 q78 q305 rfl rfl hd_X2_coins ⟨Nat.le_of_ble_eq_true rfl, Nat.le_of_ble_eq_true rfl⟩ (rv_ch1 hK hR (hW.cch lv_2) (by omega)) rfl rfl hl.1 rfl (lv_room (Nat.le_of_ble_eq_true rfl)) dX1_shareOut_74 ⟨(Nat.le_of_ble_eq_true rfl), (Nat.le_of_ble_eq_true rfl)⟩) hR hS (fun r_74_e w_74_e H locs h hR _ hS => ?_)
        refine W.widen (k := 5) (n := 27) (Nat.le_of_ble_eq_true rfl) (Nat.le_of_ble_eq_true rfl) ?_
        refine vx_ret ?_; exact W.iret (v := r_74_e) hx hb hr (fun t ht hW9 => ⟨⟨r_74_e, w_74_e, rfl, h, rpt ht hR⟩, hS.F ht⟩) hS.2.2 dX1_shareOut_77
abbrev rm_X1_winner : Room := { frames := 4, cells := 2, slots := 5, locals := 110 }
def sp_X1_winner (κ : Kx) (y : Ly) (post : Option Nat → Wd → Prop) (w : Wd) (a1 : Nat) : Prop := sp_X15_best κ y (fun r_6 w_6 => ((¬ r_6 = (-1 : Int32)) → ((vp_in (r_6) (nC y)) ∧ (post (some (((r_6).toNatClampNeg))) w_6))) ∧ ((r_6 = (-1 : Int32)) → (post (none) w_6))) w a1 (-1 : Int32)
theorem hd_X1_winner : yX1_winner.cls = RX1 ∧ yX1_winner.cls ≠ "java/lang/invoke/MethodHandle" ∧ yX1_winner.cls ≠ "java/lang/invoke/VarHandle" ∧ (parseMethodDescriptor yX1_winner.desc).map (fun d => d.parameters.length) = some 1 := by decide +kernel
set_option maxHeartbeats 4000000 in
theorem m_X1_winner {l : Launch} {κ : Kx} {y : Ly} {X : XR} {post : Option Nat → Wd → Prop} {w : Wd} {a1 : Nat}  (hW : WFc κ y) (l0 : live y 0 0) (l1 : live y 11 a1) (h : sp_X1_winner κ y post w a1) : Met l yX1_winner (ws_ yX1_winner cX1_winner 3 (Option.some (Jvm.ClassFile.FieldType.object "java/util/Optional"))) rm_X1_winner (va_Pc [.ref (y.2 0 0), .ref (y.2 11 a1)] (RC κ w y X)) (va_Qr (fun u : Option Nat × Wd => post u.1 u.2) (fun u ra t => Rp κ u.2 y X (wnL y u.1 ra) t.heap ∧ wnP κ y u.1 ra) (Af κ)) 2 5 (Af κ) := by
  unfold sp_X1_winner at h
  refine Met.ofW (cc := cX1_winner) (maxL := 3) (ret := (Option.some (Jvm.ClassFile.FieldType.object "java/util/Optional"))) (by decide) rfl ?_
  intro p e s m args below meth c s₁ B hml hv
  obtain ⟨rfl, hR, hK⟩ := hv
  have hx := B.exec
  have hb := B.bytes
  have hr := B.returns
  have hts := atoms_spec (ws := ws_ yX1_winner cX1_winner 3 (Option.some (Jvm.ClassFile.FieldType.object "java/util/Optional"))) B.pre
  have hts : ∀ w ∈ lw_all, w.before _ s = true := fun w h => hts w (List.mem_cons_of_mem _ h)
  have hown : s.vm.findClass RX1 = some m.cls := findClass_of_methodNamed B.named
  have hlocks := B.notSynchronized
  have hS : va_S (Af κ) s.heap s.heap [] := va_S.rf
  have hl := lv_entry ([.ref (y.2 0 0), .ref (y.2 11 a1)]) (n := 3) (Nat.le_of_ble_eq_true rfl)
  rw [lg_entry_eq]
  generalize (lg_sl ([.ref (y.2 0 0), .ref (y.2 11 a1)]) ++ List.replicate (3 - (lg_sl ([.ref (y.2 0 0), .ref (y.2 11 a1)])).length) Slot.unset).toArray = ls at hl ⊢
  have hl : lv_has ls 3 [(0, .ref (y.2 0 0)), (1, .ref (y.2 11 a1))] := hl
  refine lv_aload_n hx hb dX1_winner_0 rfl (lv_at hl 1 rfl) ?_
  refine lv_aload_n hx hb dX1_winner_1 rfl (lv_at hl 0 rfl) ?_
  refine g0_1 hx hb hts hown hK hR l0 q248 dX1_winner_2 ?_
  refine lv_iconst (v := (-1 : Int32)) hx hb dX1_winner_5 (by decide) ?_
  refine ce_qi (fw := fun u => u) (fy := fun _ => y) (cr_V (n := 2) (As := [.ref (y.2 42 0), .int ((-1 : Int32))]) (rest := []) ⟨hx, hb, hml, hown, hts⟩ hK hR (m_X15_best hW l1 h) q1339 q1340 q1341 q112 q1342 rfl rfl hd_X15_best ⟨Nat.le_of_ble_eq_true rfl, Nat.le_of_ble_eq_true rfl⟩ (rv hK hR l1 (ci := 9) rfl rfl) rfl rfl hl.1 rfl (lv_room (Nat.le_of_ble_eq_true rfl)) dX1_winner_6 ⟨(Nat.le_of_ble_eq_true rfl), (Nat.le_of_ble_eq_true rfl)⟩) hR hS (fun r_6 w_6 H locs h hR _ hS => ?_)
  refine lv_istore_n (lv' := [(2, .int (r_6)), (0, .ref (y.2 0 0)), (1, .ref (y.2 11 a1))]) hx hb dX1_winner_9 rfl hl (by decide) rfl (fun ls hl => ?_)
  refine lv_iload_n hx hb dX1_winner_10 rfl (lv_at hl 0 rfl) ?_
  refine lv_iconst (v := (-1 : Int32)) hx hb dX1_winner_11 (by decide) ?_
  refine lv_icmp_ne (tgt := 21) hx hb dX1_winner_12 (by decide) (fun c_12 => ?_) (fun c_12 => ?_)
  · have h := h.1 c_12
    refine lv_aload_n hx hb dX1_winner_21 rfl (lv_at hl 1 rfl) ?_
    refine g0_1 hx hb hts hown hK hR l0 q248 dX1_winner_22 ?_
    refine lv_iload_n hx hb dX1_winner_25 rfl (lv_at hl 0 rfl) ?_
    have o_26 := h.1
    have h := h.2
    refine jr_get (a := y.2 9 ((r_6).toNatClampNeg)) ⟨hx, hb, hml, hown, hts⟩ hK hR ⟨fun _ _ _ _ _ => rfl, fun _ _ _ _ _ => rfl⟩ hW.lsC ⟨hW.arC (Nat.lt_of_le_of_lt (Nat.zero_le _) (vp_lt o_26)), (Nat.le_trans hW.nC4 (by decide))⟩ o_26 (hW.elC (vp_lt o_26)) q685 ⟨Nat.le_of_ble_eq_true rfl, Nat.le_of_ble_eq_true rfl⟩ hl.1 (Nat.le_of_ble_eq_true rfl) dX1_winner_26 ⟨(Nat.le_of_ble_eq_true rfl), (Nat.le_of_ble_eq_true rfl)⟩ ?_
    refine jr_castS (ci := 7) hx hb hown hK hts (hR.role (hW.com (vp_lt o_26))) rfl q371 dX1_winner_29 ?_
    refine jr_of (rest := []) ⟨hx, hb, hml, hown, hts⟩ hK hR hS q1355 ⟨Nat.le_of_ble_eq_true rfl, Nat.le_of_ble_eq_true rfl⟩ hl.1 (Nat.le_of_ble_eq_true rfl) dX1_winner_32 ⟨(Nat.le_of_ble_eq_true rfl), (Nat.le_of_ble_eq_true rfl)⟩ (fun q_32 H locs hR hS => ?_)
    have hR : Rp κ w_6 y X [(q_32, .inr (18, [.ref (y.2 9 (((r_6).toNatClampNeg)))]))] H := hR
    refine W.widen (k := 2) (n := 5) (Nat.le_of_ble_eq_true rfl) (Nat.le_of_ble_eq_true rfl) ?_
    exact W.aret hx hb hr (Or.inl ⟨_, rfl⟩) (Or.inr ⟨_, rfl⟩) (fun t ht hW9 => ⟨⟨(some (((r_6).toNatClampNeg)), w_6), _, rfl, h, rpt ht hR, (hW.com (vp_lt o_26))⟩, hS.F ht⟩) hS.2.2 dX1_winner_35
  · have h := h.2 c_12
    refine jr_empty (rest := []) ⟨hx, hb, hml, hown, hts⟩ hK hR q1354 ⟨Nat.le_of_ble_eq_true rfl, Nat.le_of_ble_eq_true rfl⟩ hl.1 (Nat.le_of_ble_eq_true rfl) dX1_winner_15 ⟨(Nat.le_of_ble_eq_true rfl), (Nat.le_of_ble_eq_true rfl)⟩ ?_
    refine lv_goto (tgt := 35) hx hb dX1_winner_18 (by decide) ?_
    refine W.widen (k := 2) (n := 5) (Nat.le_of_ble_eq_true rfl) (Nat.le_of_ble_eq_true rfl) ?_
    exact W.aret hx hb hr (Or.inl ⟨_, rfl⟩) (Or.inr ⟨_, rfl⟩) (fun t ht hW9 => ⟨⟨(none, w_6), _, rfl, h, rpt ht hR, rfl⟩, hS.F ht⟩) hS.2.2 dX1_winner_35
abbrev rm_X1_price : Room := { frames := 4, cells := 2, slots := 8, locals := 93 }
def st_X1_price_69 (κ : Kx) (y : Ly) (post : Int32 → Wd → Prop) (ex : Wd → Prop) (rec : Wd → Nat → Int32 → Prop) (i1 : Nat) (i2 : Nat) (v4 : Int32) (w : Wd) (c5 : Nat) (z5 : Int32) : Prop := ((¬ (¬ c5 = nC y)) → (ex w )) ∧ (((¬ c5 = nC y)) → (((c5 = i2) → (rec w (c5 + 1) (nI c5))) ∧ ((¬ (c5 = i2)) → (((¬ gv w 9 c5 5 = gv w 9 i2 5) → (rec w (c5 + 1) (nI c5))) ∧ ((gv w 9 c5 5 = gv w 9 i2 5) → (sp_X15_counts κ y (fun r_112 w_112 => ((r_112 = 0) → (rec w_112 (c5 + 1) (nI c5))) ∧ ((¬ (r_112 = 0)) → (sp_X2_pay κ y (fun r_137 w_137 => rec w_137 (c5 + 1) (nI c5)) w_112 (((11 + i2))) (((11 + c5))) ((v4 - (gv w_112 11 i1 4)) / (10 : Int32))))) w i1 c5))))))
def sp_X1_price_69 (κ : Kx) (y : Ly) (post : Int32 → Wd → Prop) (ex : Wd → Prop) (i1 : Nat) (i2 : Nat) (v4 : Int32) : Nat → Wd → Nat → Int32 → Prop
  | 0 => fun _ _ _ => False
  | n + 1 => fun w c5 z5 => st_X1_price_69 κ y post ex (sp_X1_price_69 κ y post ex i1 i2 v4 n) i1 i2 v4 w c5 z5
set_option maxHeartbeats 4000000 in
theorem lp_X1_price_69 {p : Program} {l : Launch} {e : Env} {s : State} {m : MethodId} {args : Array Value} {below : List Frame} {meth : Method} {c : Code} {κ : Kx} {y : Ly} {X : XR} {post : Int32 → Wd → Prop} {q5 : Nat} {i1 : Nat} {i2 : Nat} {v4 : Int32} (hx : p.tables.exec = Jvm.exec) (hb : c.code = cX1_price) (hr : meth.sig.returnType = (Option.some Jvm.ClassFile.FieldType.int)) (hml : c.maxLocals = 7) (hown : s.vm.findClass RX1 = some m.cls) (hts : ∀ w ∈ lw_all, w.before args s = true) (hlocks : meth.locks = false) (hK : KK κ s) (hW : WFc κ y) (l1 : live y 11 i1) (l2 : live y 9 i2) {C1 S1 : Nat} (hC : C1 ≤ 2) (hSl : S1 ≤ 8) {ex : Wd → Prop}
    (kx : ∀ (w : Wd)  (H : Heap) (locs : List Loc) (ls : Array Slot) (cells slots : Nat) , ex w  → Rp κ w y X [] H → va_S (Af κ) s.heap H locs → lv_has ls 7 [(1, .ref (y.2 11 i1))] → cells ≤ C1 → slots ≤ S1 → W p l e (headSpec (ws_ yX1_price cX1_price 7 (Option.some Jvm.ClassFile.FieldType.int)) rm_X1_price).room s m args below meth c H locs cells slots (MQ below (va_Qi post (fun w t => Rp κ w y X [] t.heap) (Af κ)) args s 2 8 (Af κ)) (F0 m 144 ls [])) :
    ∀ (f : Nat) (w : Wd) (c5 : Nat) (z5 : Int32) (H : Heap) (locs : List Loc) (ls : Array Slot) (cells slots : Nat)  (hc5 : c5 ≤ nC y), sp_X1_price_69 κ y post ex i1 i2 v4 f w c5 z5 → Rp κ w y X [(q5, itC y 42 0 c5 z5)] H → va_S (Af κ) s.heap H locs → lv_has ls 7 [(1, .ref (y.2 11 i1)), (2, .ref (y.2 9 i2)), (4, .int (v4)), (5, .ref (q5))] → cells + f * 0 ≤ C1 → slots + f * 0 ≤ S1 → W p l e (headSpec (ws_ yX1_price cX1_price 7 (Option.some Jvm.ClassFile.FieldType.int)) rm_X1_price).room s m args below meth c H locs cells slots (MQ below (va_Qi post (fun w t => Rp κ w y X [] t.heap) (Af κ)) args s 2 8 (Af κ)) (F0 m 69 ls []) := by
  intro f
  induction f with
  | zero =>
    intro w c5 z5 H locs ls cells slots hc5 h
    exact False.elim h
  | succ f ih =>
    intro w c5 z5 H locs ls cells slots hc5 h hR hS hl hc hs
    have h : st_X1_price_69 κ y post ex (sp_X1_price_69 κ y post ex i1 i2 v4 f) i1 i2 v4 w c5 z5 := h
    unfold st_X1_price_69 at h
    refine lv_aload hx hb dX1_price_69 (lv_at hl 3 rfl) ?_
    refine jr_hasNext (t := 0) ⟨hx, hb, hml, hown, hts⟩ hK hR rfl ⟨fun _ _ _ _ _ => rfl, fun _ _ _ _ _ => rfl⟩ hW.lsC (by omega) (Nat.le_trans hW.nC4 (by decide)) q349 ⟨Nat.le_of_ble_eq_true rfl, Nat.le_of_ble_eq_true rfl⟩ hl.1 (Nat.le_of_ble_eq_true rfl) dX1_price_71 ⟨(Nat.le_trans (show cells + 0 ≤ C1 from by omega) hC), (Nat.le_trans (show slots + 0 ≤ S1 from by omega) hSl)⟩ ?_
    refine lv_if_eq (tgt := 144) hx hb dX1_price_76 (by decide) (fun c_76 => ?_) (fun c_76 => ?_)
    · replace c_76 : ¬ (¬ c5 = nC y) := bi_0.mp c_76
      have h := h.1 c_76
      have hR := hR.sub (L' := []) [] rfl rfl
      exact kx w  _ _ _ _ _ h hR hS (lv_sub hl [0] rfl) (by omega) (by omega)
    · replace c_76 : (¬ c5 = nC y) := bi_n0.mp c_76
      have h := h.2 c_76
      refine lv_aload hx hb dX1_price_79 (lv_at hl 3 rfl) ?_
      have hn_81 : c5 < nC y := by omega
      refine jr_next (t := 0) (a := y.2 9 c5) ⟨hx, hb, hml, hown, hts⟩ hK hR hS rfl ⟨fun _ _ _ _ _ => rfl, fun _ _ _ _ _ => rfl⟩ hW.lsC ⟨hW.arC (Nat.lt_of_le_of_lt (Nat.zero_le _) hn_81), (Nat.le_trans hW.nC4 (by decide))⟩ hn_81 (hW.elC hn_81) q359 ⟨Nat.le_of_ble_eq_true rfl, Nat.le_of_ble_eq_true rfl⟩ hl.1 (Nat.le_of_ble_eq_true rfl) dX1_price_81 ⟨(Nat.le_trans (show cells + 0 ≤ C1 from by omega) hC), (Nat.le_trans (show slots + 0 ≤ S1 from by omega) hSl)⟩ (fun H locs hR hS => ?_)
      have hR : Rp κ w y X [(q5, itC y 42 0 (c5 + 1) (nI c5))] H := hR
      refine jr_castS (ci := 7) hx hb hown hK hts (hR.role (hW.com hn_81)) rfl q371 dX1_price_86 ?_
      refine lv_astore (lv' := [(6, .ref (y.2 9 c5)), (1, .ref (y.2 11 i1)), (2, .ref (y.2 9 i2)), (4, .int (v4)), (5, .ref (q5))]) hx hb dX1_price_89 hl (by decide) rfl (fun ls hl => ?_)
      refine lv_aload hx hb dX1_price_91 (lv_at hl 0 rfl) ?_
      refine lv_aload_n hx hb dX1_price_93 rfl (lv_at hl 2 rfl) ?_
      refine lv_acmp_eq (rx := some (y.2 9 c5)) (ry := some (y.2 9 i2)) (tgt := 141) hx hb dX1_price_94 (by decide) (fun c_94 => ?_) (fun c_94 => ?_)
      · replace c_94 : c5 = i2 := (hR.inj (hW.com hn_81) l2 ((Option.some.inj c_94))).2
        have h := h.1 c_94
        refine lv_goto (tgt := 69) hx hb dX1_price_141 (by decide) ?_
        exact ih w (c5 + 1) (nI c5) _ _ _ _ _ (by omega) h hR hS (lv_sub hl [1, 2, 3, 4] rfl) (by omega) (by omega)
      · replace c_94 : ¬ (c5 = i2) := fun q9 => c_94 (congrArg some (congrArg (y.2 9) q9))
        have h := h.2 c_94
        refine lv_aload hx hb dX1_price_97 (lv_at hl 0 rfl) ?_
        refine g9_5 hx hb hts hown hK hR (hW.com hn_81) q1133 dX1_price_99 ?_
        refine lv_aload_n hx hb dX1_price_102 rfl (lv_at hl 2 rfl) ?_
        refine g9_5 hx hb hts hown hK hR l2 q1133 dX1_price_103 ?_
        refine lv_icmp_ne (tgt := 141) hx hb dX1_price_106 (by decide) (fun c_106 => ?_) (fun c_106 => ?_)
        · have h := h.1 c_106
          refine lv_goto (tgt := 69) hx hb dX1_price_141 (by decide) ?_
          exact ih w (c5 + 1) (nI c5) _ _ _ _ _ (by omega) h hR hS (lv_sub hl [1, 2, 3, 4] rfl) (by omega) (by omega)
        · have h := h.2 c_106
          refine lv_aload_n hx hb dX1_price_109 rfl (lv_at hl 1 rfl) ?_
          refine lv_aload hx hb dX1_price_110 (lv_at hl 0 rfl) ?_
          refine ce_qi (fw := fun u => u) (fy := fun _ => y) (cr_V (n := 1) (As := [.ref (y.2 9 c5)]) (rest := []) ⟨hx, hb, hml, hown, hts⟩ hK hR (m_X15_counts hW l1 (hW.com hn_81) h) q1381 q1350 q1351 q112 q1352 rfl rfl hd_X15_counts ⟨Nat.le_of_ble_eq_true rfl, Nat.le_of_ble_eq_true rfl⟩ (rv hK hR l1 (ci := 9) rfl rfl) rfl rfl hl.1 rfl (lv_room (Nat.le_of_ble_eq_true rfl)) dX1_price_112 ⟨(Nat.le_trans (show cells + 0 ≤ C1 from by omega) hC), (Nat.le_trans (show slots + 0 ≤ S1 from by omega) hSl)⟩) hR hS (fun r_112 w_112 H locs h hR _ hS => ?_)
          refine lv_if_eq (tgt := 141) hx hb dX1_price_115 (by decide) (fun c_115 => ?_) (fun c_115 => ?_)
          · have h := h.1 c_115
            refine lv_goto (tgt := 69) hx hb dX1_price_141 (by decide) ?_
            exact ih w_112 (c5 + 1) (nI c5) _ _ _ _ _ (by omega) h hR hS (lv_sub hl [1, 2, 3, 4] rfl) (by omega) (by omega)
          · have h := h.2 c_115
            refine lv_aload_n hx hb dX1_price_118 rfl (lv_at hl 2 rfl) ?_
            refine g9_1 hx hb hts hown hK hR l2 q1124 dX1_price_119 ?_
            refine lv_aload hx hb dX1_price_122 (lv_at hl 0 rfl) ?_
            refine g9_1 hx hb hts hown hK hR (hW.com hn_81) q1124 dX1_price_124 ?_
            refine lv_iload hx hb dX1_price_127 (lv_at hl 3 rfl) ?_
            refine lv_aload_n hx hb dX1_price_129 rfl (lv_at hl 1 rfl) ?_
            refine g11_4 hx hb hts hown hK hR l1 q1261 dX1_price_130 ?_
            refine lv_isub hx hb dX1_price_133 ?_
            refine lv_bipush (v := (10 : Int32)) hx hb dX1_price_134 (by decide) ?_
            refine lv_idiv hx hb dX1_price_136 (by decide) ?_
            refine ce_qi (fw := fun u => u) (fy := fun _ => y) (cr_V (n := 2) (As := [.ref (y.2 1 ((11 + c5))), .int ((v4 - (gv w_112 11 i1 4)) / (10 : Int32))]) (rest := []) ⟨hx, hb, hml, hown, hts⟩ hK hR (m_X2_pay hW (hW.cch l2) (hW.cch (hW.com hn_81)) (by first | omega | assumption) h) q306 q307 q308 q78 q320 rfl rfl hd_X2_pay ⟨Nat.le_of_ble_eq_true rfl, Nat.le_of_ble_eq_true rfl⟩ (rv_ch1 hK hR (hW.cch l2) (by omega)) rfl rfl hl.1 rfl (lv_room (Nat.le_of_ble_eq_true rfl)) dX1_price_137 ⟨(Nat.le_trans (show cells + 0 ≤ C1 from by omega) hC), (Nat.le_trans (show slots + 0 ≤ S1 from by omega) hSl)⟩) hR hS (fun r_137 w_137 H locs h hR _ hS => ?_)
            refine lv_pop hx hb dX1_price_140 rfl ?_
            refine lv_goto (tgt := 69) hx hb dX1_price_141 (by decide) ?_
            exact ih w_137 (c5 + 1) (nI c5) _ _ _ _ _ (by omega) h hR hS (lv_sub hl [1, 2, 3, 4] rfl) (by omega) (by omega)
def sp_X1_price (κ : Kx) (y : Ly) (post : Int32 → Wd → Prop) (w : Wd) (a1 : Nat) (a2 : Nat) : Prop := sp_X15_best κ y (fun r_9 w_9 => (vp_in (nI a2) 4) ∧ (∀ x_22 : Int32, x_22 = gv w_9 12 a1 (nI a2).toNatClampNeg → ((r_9 = (-1 : Int32)) → (post (x_22) w_9)) ∧ ((¬ (r_9 = (-1 : Int32))) → (((gv w_9 9 a2 5 = 0) → (post (x_22) w_9)) ∧ ((¬ (gv w_9 9 a2 5 = 0)) → ((vp_in (r_9) (nC y)) ∧ (((gv w_9 9 (((r_9).toNatClampNeg)) 5 = gv w_9 9 a2 5) → (sp_X1_price_69 κ y post (fun w_69  => post (gv w_69 11 a1 4) w_69) a1 a2 x_22 5 w_9 0 (-1))) ∧ ((¬ (gv w_9 9 (((r_9).toNatClampNeg)) 5 = gv w_9 9 a2 5)) → (post (x_22) w_9))))))))) w a1 (nI a2)
theorem hd_X1_price : yX1_price.cls = RX1 ∧ yX1_price.cls ≠ "java/lang/invoke/MethodHandle" ∧ yX1_price.cls ≠ "java/lang/invoke/VarHandle" ∧ (parseMethodDescriptor yX1_price.desc).map (fun d => d.parameters.length) = some 2 := by decide +kernel
set_option maxHeartbeats 4000000 in
theorem m_X1_price {l : Launch} {κ : Kx} {y : Ly} {X : XR} {post : Int32 → Wd → Prop} {w : Wd} {a1 : Nat} {a2 : Nat}  (hW : WFc κ y) (l0 : live y 0 0) (l1 : live y 11 a1) (l2 : live y 9 a2) (h : sp_X1_price κ y post w a1 a2) : Met l yX1_price (ws_ yX1_price cX1_price 7 (Option.some Jvm.ClassFile.FieldType.int)) rm_X1_price (va_Pc [.ref (y.2 0 0), .ref (y.2 11 a1), .ref (y.2 9 a2)] (RC κ w y X)) (va_Qi post (fun w t => Rp κ w y X [] t.heap) (Af κ)) 2 8 (Af κ) := by
  unfold sp_X1_price at h
  refine Met.ofW (cc := cX1_price) (maxL := 7) (ret := (Option.some Jvm.ClassFile.FieldType.int)) (by decide) rfl ?_
  intro p e s m args below meth c s₁ B hml hv
  obtain ⟨rfl, hR, hK⟩ := hv
  have hx := B.exec
  have hb := B.bytes
  have hr := B.returns
  have hts := atoms_spec (ws := ws_ yX1_price cX1_price 7 (Option.some Jvm.ClassFile.FieldType.int)) B.pre
  have hts : ∀ w ∈ lw_all, w.before _ s = true := fun w h => hts w (List.mem_cons_of_mem _ h)
  have hown : s.vm.findClass RX1 = some m.cls := findClass_of_methodNamed B.named
  have hlocks := B.notSynchronized
  have hS : va_S (Af κ) s.heap s.heap [] := va_S.rf
  have hl := lv_entry ([.ref (y.2 0 0), .ref (y.2 11 a1), .ref (y.2 9 a2)]) (n := 7) (Nat.le_of_ble_eq_true rfl)
  rw [lg_entry_eq]
  generalize (lg_sl ([.ref (y.2 0 0), .ref (y.2 11 a1), .ref (y.2 9 a2)]) ++ List.replicate (7 - (lg_sl ([.ref (y.2 0 0), .ref (y.2 11 a1), .ref (y.2 9 a2)])).length) Slot.unset).toArray = ls at hl ⊢
  have hl : lv_has ls 7 [(0, .ref (y.2 0 0)), (1, .ref (y.2 11 a1)), (2, .ref (y.2 9 a2))] := hl
  refine lv_aload_n hx hb dX1_price_0 rfl (lv_at hl 1 rfl) ?_
  refine lv_aload_n hx hb dX1_price_1 rfl (lv_at hl 0 rfl) ?_
  refine g0_1 hx hb hts hown hK hR l0 q248 dX1_price_2 ?_
  refine lv_aload_n hx hb dX1_price_5 rfl (lv_at hl 2 rfl) ?_
  refine g9_0 hx hb hts hown hK hR l2 q1122 dX1_price_6 ?_
  refine ce_qi (fw := fun u => u) (fy := fun _ => y) (cr_V (n := 2) (As := [.ref (y.2 42 0), .int (nI a2)]) (rest := []) ⟨hx, hb, hml, hown, hts⟩ hK hR (m_X15_best hW l1 h) q1339 q1340 q1341 q112 q1342 rfl rfl hd_X15_best ⟨Nat.le_of_ble_eq_true rfl, Nat.le_of_ble_eq_true rfl⟩ (rv hK hR l1 (ci := 9) rfl rfl) rfl rfl hl.1 rfl (lv_room (Nat.le_of_ble_eq_true rfl)) dX1_price_9 ⟨(Nat.le_of_ble_eq_true rfl), (Nat.le_of_ble_eq_true rfl)⟩) hR hS (fun r_9 w_9 H locs h hR _ hS => ?_)
  refine lv_istore_n (lv' := [(3, .int (r_9)), (0, .ref (y.2 0 0)), (1, .ref (y.2 11 a1)), (2, .ref (y.2 9 a2))]) hx hb dX1_price_12 rfl hl (by decide) rfl (fun ls hl => ?_)
  refine lv_aload_n hx hb dX1_price_13 rfl (lv_at hl 2 rfl) ?_
  refine g11_5 hx hb hts hown hK hR l1 q1263 dX1_price_14 ?_
  refine lv_aload_n hx hb dX1_price_17 rfl (lv_at hl 3 rfl) ?_
  refine g9_0 hx hb hts hown hK hR l2 q1122 dX1_price_18 ?_
  have o_21 := h.1
  have h := h.2
  refine a12 hx hb hK hR (hW.bid l1) o_21 dX1_price_21 ?_
  refine lv_topi (fun x_22 ex_22 => ?_)
  have h := h x_22 ex_22
  refine lv_istore (lv' := [(4, .int (x_22)), (3, .int (r_9)), (0, .ref (y.2 0 0)), (1, .ref (y.2 11 a1)), (2, .ref (y.2 9 a2))]) hx hb dX1_price_22 hl (by decide) rfl (fun ls hl => ?_)
  refine lv_iload_n hx hb dX1_price_24 rfl (lv_at hl 1 rfl) ?_
  refine lv_iconst (v := (-1 : Int32)) hx hb dX1_price_25 (by decide) ?_
  refine lv_icmp_eq (tgt := 57) hx hb dX1_price_26 (by decide) (fun c_26 => ?_) (fun c_26 => ?_)
  · have h := h.1 c_26
    refine lv_iload hx hb dX1_price_57 (lv_at hl 0 rfl) ?_
    refine W.widen (k := 2) (n := 8) (Nat.le_of_ble_eq_true rfl) (Nat.le_of_ble_eq_true rfl) ?_
    exact W.iret (v := x_22) hx hb hr (fun t ht hW9 => ⟨⟨x_22, w_9, rfl, h, rpt ht hR⟩, hS.F ht⟩) hS.2.2 dX1_price_59
  · have h := h.2 c_26
    refine lv_aload_n hx hb dX1_price_29 rfl (lv_at hl 4 rfl) ?_
    refine g9_5 hx hb hts hown hK hR l2 q1133 dX1_price_30 ?_
    refine lv_if_eq (tgt := 57) hx hb dX1_price_33 (by decide) (fun c_33 => ?_) (fun c_33 => ?_)
    · have h := h.1 c_33
      refine lv_iload hx hb dX1_price_57 (lv_at hl 0 rfl) ?_
      refine W.widen (k := 2) (n := 8) (Nat.le_of_ble_eq_true rfl) (Nat.le_of_ble_eq_true rfl) ?_
      exact W.iret (v := x_22) hx hb hr (fun t ht hW9 => ⟨⟨x_22, w_9, rfl, h, rpt ht hR⟩, hS.F ht⟩) hS.2.2 dX1_price_59
    · have h := h.2 c_33
      refine lv_aload_n hx hb dX1_price_36 rfl (lv_at hl 2 rfl) ?_
      refine g0_1 hx hb hts hown hK hR l0 q248 dX1_price_37 ?_
      refine lv_iload_n hx hb dX1_price_40 rfl (lv_at hl 1 rfl) ?_
      have o_41 := h.1
      have h := h.2
      refine jr_get (a := y.2 9 ((r_9).toNatClampNeg)) ⟨hx, hb, hml, hown, hts⟩ hK hR ⟨fun _ _ _ _ _ => rfl, fun _ _ _ _ _ => rfl⟩ hW.lsC ⟨hW.arC (Nat.lt_of_le_of_lt (Nat.zero_le _) (vp_lt o_41)), (Nat.le_trans hW.nC4 (by decide))⟩ o_41 (hW.elC (vp_lt o_41)) q685 ⟨Nat.le_of_ble_eq_true rfl, Nat.le_of_ble_eq_true rfl⟩ hl.1 (Nat.le_of_ble_eq_true rfl) dX1_price_41 ⟨(Nat.le_of_ble_eq_true rfl), (Nat.le_of_ble_eq_true rfl)⟩ ?_
      refine jr_castS (ci := 7) hx hb hown hK hts (hR.role (hW.com (vp_lt o_41))) rfl q371 dX1_price_44 ?_
      refine g9_5 hx hb hts hown hK hR (hW.com (vp_lt o_41)) q1133 dX1_price_47 ?_
      refine lv_aload_n hx hb dX1_price_50 rfl (lv_at hl 4 rfl) ?_
      refine g9_5 hx hb hts hown hK hR l2 q1133 dX1_price_51 ?_
      refine lv_icmp_eq (tgt := 60) hx hb dX1_price_54 (by decide) (fun c_54 => ?_) (fun c_54 => ?_)
      · have h := h.1 c_54
        refine lv_aload_n hx hb dX1_price_60 rfl (lv_at hl 2 rfl) ?_
        refine g0_1 hx hb hts hown hK hR l0 q248 dX1_price_61 ?_
        refine jr_iter ⟨hx, hb, hml, hown, hts⟩ hK hR hS ⟨fun _ _ _ _ _ => rfl, fun _ _ _ _ _ => rfl⟩ hW.lsC q325 ⟨Nat.le_of_ble_eq_true rfl, Nat.le_of_ble_eq_true rfl⟩ hl.1 (Nat.le_of_ble_eq_true rfl) dX1_price_64 ⟨(Nat.le_of_ble_eq_true rfl), (Nat.le_of_ble_eq_true rfl)⟩ (fun q_64 H locs hR hS => ?_)
        have hR : Rp κ w_9 y X [(q_64, itC y 42 0 0 (-1))] H := hR
        refine lv_astore (lv' := [(5, .ref (q_64)), (4, .int (x_22)), (3, .int (r_9)), (0, .ref (y.2 0 0)), (1, .ref (y.2 11 a1)), (2, .ref (y.2 9 a2))]) hx hb dX1_price_67 hl (by decide) rfl (fun ls hl => ?_)
        refine lp_X1_price_69 (C1 := 2) (S1 := 8) hx hb hr hml hown hts hlocks hK hW l1 l2 (Nat.le_of_ble_eq_true rfl) (Nat.le_of_ble_eq_true rfl) (fun w_69  H locs ls cells9 slots9 h hR hS hl hc9 hs9 => ?_) 5 w_9 0 (-1) _ _ _ _ _ (by omega) h hR hS (lv_sub hl [4, 5, 1, 0] rfl) (by omega) (by omega)
        refine W.widen (k := 2) (n := 8) hc9 hs9 ?_
        refine lv_aload_n hx hb dX1_price_144 rfl (lv_at hl 0 rfl) ?_
        refine g11_4 hx hb hts hown hK hR l1 q1261 dX1_price_145 ?_
        refine W.widen (k := 2) (n := 8) (Nat.le_of_ble_eq_true rfl) (Nat.le_of_ble_eq_true rfl) ?_
        exact W.iret (v := gv w_69 11 a1 4) hx hb hr (fun t ht hW9 => ⟨⟨gv w_69 11 a1 4, w_69, rfl, h, rpt ht hR⟩, hS.F ht⟩) hS.2.2 dX1_price_148
      · have h := h.2 c_54
        refine lv_iload hx hb dX1_price_57 (lv_at hl 0 rfl) ?_
        refine W.widen (k := 2) (n := 8) (Nat.le_of_ble_eq_true rfl) (Nat.le_of_ble_eq_true rfl) ?_
        exact W.iret (v := x_22) hx hb hr (fun t ht hW9 => ⟨⟨x_22, w_9, rfl, h, rpt ht hR⟩, hS.F ht⟩) hS.2.2 dX1_price_59
abbrev rm_X1_collect : Room := { frames := 4, cells := 2, slots := 7, locals := 110 }
def sp_X1_collect (κ : Kx) (y : Ly) (post : Wd → Ly → Prop) (w : Wd) (a1 : Nat) (a2 : Nat) : Prop := (y.1 14 a1 = 1 ∧ live y 9 (gv w 14 a1 0).toNatClampNeg) ∧ (((gv w 11 a1 1).toNatClampNeg < 3) ∧ (∀ x_18 : Int32, x_18 = nI ((gv w 11 a1 1).toNatClampNeg) → (vp_in (nI a2) 8) ∧ (((gv w 13 a1 (nI a2).toNatClampNeg ≤ 0) → (∀ x_52 : Int32, x_52 = gv w 9 (((gv w 14 a1 0).toNatClampNeg)) 6 → ((gv w 11 a1 1).toNatClampNeg < 3) ∧ (sp_X10_due κ y (fun r_59 w_59 => ∀ x_75 : Int32, x_75 = r_59 + ((r_59 * x_52) / (8 : Int32)) → ((gv w_59 11 a1 1).toNatClampNeg < 3) ∧ (sp_X10_shown κ y (fun r_105 w_105 => ((x_52 < (2 : Int32)) → (sp_D_got κ y (fun r_126 w_126 => ((gv w_126 11 a1 1).toNatClampNeg < 3) ∧ (sp_D_worth κ y (fun r_170 w_170 => ∀ w_174 : Wd, w_174 = sv w_170 9 (((gv w 14 a1 0).toNatClampNeg)) 9 ((gv w_126 9 (((gv w 14 a1 0).toNatClampNeg)) 9) + r_170) → sp_X1_year κ y (fun r_188 w_188 => ((gv w_188 11 a1 1).toNatClampNeg < 3) ∧ (sp_X1_dueByLaw κ y (fun r_201 w_201 => (vp_in (x_18) (y.1 146 a2)) ∧ (∀ w_214 : Wd, w_214 = wLev w_201 (3 * a2 + (x_18).toNatClampNeg) ((r_188)) ((x_75)) ((r_126)) ((r_201)) ((nI a1)) 0 → ∀ (y_214 : Ly) (q8 q9 : Nat), y_214 = yLev y a2 ((x_18).toNatClampNeg) q8 q9 → sp_X10_stir κ y_214 (fun w_221 => post w_221 y_214) w_214 a2 x_52)) w_188 a2 ((gv w_188 11 a1 1).toNatClampNeg))) w_174 ) w_126 ((gv w_126 11 a1 1).toNatClampNeg) r_126)) w_105 ((gv w_59 11 a1 1).toNatClampNeg) a2 r_105 (0 : Int32) (((11 + (((gv w 14 a1 0).toNatClampNeg))))) (1 : Int32))) ∧ ((¬ (x_52 < (2 : Int32))) → (sp_D_got κ y (fun r_126_a w_126_a => ((gv w_126_a 11 a1 1).toNatClampNeg < 3) ∧ (sp_D_worth κ y (fun r_170_a w_170_a => ∀ w_174_a : Wd, w_174_a = sv w_170_a 9 (((gv w 14 a1 0).toNatClampNeg)) 9 ((gv w_126_a 9 (((gv w 14 a1 0).toNatClampNeg)) 9) + r_170_a) → sp_X1_year κ y (fun r_188_a w_188_a => ((gv w_188_a 11 a1 1).toNatClampNeg < 3) ∧ (sp_X1_dueByLaw κ y (fun r_201_a w_201_a => (vp_in (x_18) (y.1 146 a2)) ∧ (∀ w_214_a : Wd, w_214_a = wLev w_201_a (3 * a2 + (x_18).toNatClampNeg) ((r_188_a)) ((x_75)) ((r_126_a)) ((r_201_a)) ((nI a1)) 0 → ∀ (y_214_a : Ly) (q8 q9 : Nat), y_214_a = yLev y a2 ((x_18).toNatClampNeg) q8 q9 → sp_X10_stir κ y_214_a (fun w_221_a => post w_221_a y_214_a) w_214_a a2 x_52)) w_188_a a2 ((gv w_188_a 11 a1 1).toNatClampNeg))) w_174_a ) w_126_a ((gv w_126_a 11 a1 1).toNatClampNeg) r_126_a)) w_105 ((gv w_59 11 a1 1).toNatClampNeg) a2 r_105 (1 : Int32) (((11 + (((gv w 14 a1 0).toNatClampNeg))))) (1 : Int32)))) w_59 a2 x_75 x_52)) w a2 ((gv w 11 a1 1).toNatClampNeg)))) ∧ ((¬ (gv w 13 a1 (nI a2).toNatClampNeg ≤ 0)) → (((gv w 11 a1 1).toNatClampNeg < 3) ∧ (sp_X10_due κ y (fun r_59_a w_59_a => ∀ x_75_a : Int32, x_75_a = r_59_a + ((r_59_a * (3 : Int32)) / (8 : Int32)) → ((gv w_59_a 11 a1 1).toNatClampNeg < 3) ∧ (sp_X10_shown κ y (fun r_105_a w_105_a => sp_D_got κ y (fun r_126_b w_126_b => (vp_in (nI a2) 8) ∧ (sp_X3_pay κ y (fun r_158 w_158 => ∀ w_174_b : Wd, w_174_b = sv w_158 9 (((gv w 14 a1 0).toNatClampNeg)) 9 ((gv w_126_b 9 (((gv w 14 a1 0).toNatClampNeg)) 9) + r_158) → sp_X1_year κ y (fun r_188_b w_188_b => ((gv w_188_b 11 a1 1).toNatClampNeg < 3) ∧ (sp_X1_dueByLaw κ y (fun r_201_b w_201_b => (vp_in (x_18) (y.1 146 a2)) ∧ (∀ w_214_b : Wd, w_214_b = wLev w_201_b (3 * a2 + (x_18).toNatClampNeg) ((r_188_b)) ((x_75_a)) ((r_126_b)) ((r_201_b)) ((nI a1)) 0 → ∀ (y_214_b : Ly) (q8 q9 : Nat), y_214_b = yLev y a2 ((x_18).toNatClampNeg) q8 q9 → sp_X10_stir κ y_214_b (fun w_221_b => post w_221_b y_214_b) w_214_b a2 (3 : Int32))) w_188_b a2 ((gv w_188_b 11 a1 1).toNatClampNeg))) w_174_b ) w_126_b (((11 + (((gv w 14 a1 0).toNatClampNeg))))) (gv w_126_b 13 a1 (nI a2).toNatClampNeg))) w_105_a ((gv w_59_a 11 a1 1).toNatClampNeg) a2 r_105_a (1 : Int32) 0 (1 : Int32)) w_59_a a2 x_75_a (3 : Int32))) w a2 ((gv w 11 a1 1).toNatClampNeg)))))))
theorem hd_X1_collect : yX1_collect.cls = RX1 ∧ yX1_collect.cls ≠ "java/lang/invoke/MethodHandle" ∧ yX1_collect.cls ≠ "java/lang/invoke/VarHandle" ∧ (parseMethodDescriptor yX1_collect.desc).map (fun d => d.parameters.length) = some 2 := by decide +kernel
set_option maxHeartbeats 4000000 in
theorem m_X1_collect {l : Launch} {κ : Kx} {y : Ly} {X : XR} {post : Wd → Ly → Prop} {w : Wd} {a1 : Nat} {a2 : Nat}  (hW : WFc κ y) (l0 : live y 0 0) (l1 : live y 11 a1) (l2 : live y 6 a2) (h : sp_X1_collect κ y post w a1 a2) : Met l yX1_collect (ws_ yX1_collect cX1_collect 11 (Option.none : Option Jvm.ClassFile.FieldType)) rm_X1_collect (va_Pc [.ref (y.2 0 0), .ref (y.2 11 a1), .ref (y.2 6 a2)] (RC κ w y X)) (va_Qv (fun (u : Wd × Ly) => post u.1 u.2) (fun (u : Wd × Ly) t => Rp κ u.1 u.2 X [] t.heap ∧ WFc κ u.2 ∧ LeS y u.2) (Af κ)) 2 7 (Af κ) := by
  unfold sp_X1_collect at h
  refine Met.ofW (cc := cX1_collect) (maxL := 11) (ret := (Option.none : Option Jvm.ClassFile.FieldType)) (by decide) rfl ?_
  intro p e s m args below meth c s₁ B hml hv
  obtain ⟨rfl, hR, hK⟩ := hv
  have hx := B.exec
  have hb := B.bytes
  have hr := B.returns
  have hts := atoms_spec (ws := ws_ yX1_collect cX1_collect 11 (Option.none : Option Jvm.ClassFile.FieldType)) B.pre
  have hts : ∀ w ∈ lw_all, w.before _ s = true := fun w h => hts w (List.mem_cons_of_mem _ h)
  have hown : s.vm.findClass RX1 = some m.cls := findClass_of_methodNamed B.named
  have hlocks := B.notSynchronized
  have hLe : LeS y y := LeS.rf
  have hS : va_S (Af κ) s.heap s.heap [] := va_S.rf
  have hl := lv_entry ([.ref (y.2 0 0), .ref (y.2 11 a1), .ref (y.2 6 a2)]) (n := 11) (Nat.le_of_ble_eq_true rfl)
  rw [lg_entry_eq]
  generalize (lg_sl ([.ref (y.2 0 0), .ref (y.2 11 a1), .ref (y.2 6 a2)]) ++ List.replicate (11 - (lg_sl ([.ref (y.2 0 0), .ref (y.2 11 a1), .ref (y.2 6 a2)])).length) Slot.unset).toArray = ls at hl ⊢
  have hl : lv_has ls 11 [(0, .ref (y.2 0 0)), (1, .ref (y.2 11 a1)), (2, .ref (y.2 6 a2))] := hl
  refine lv_aload_n hx hb dX1_collect_0 rfl (lv_at hl 1 rfl) ?_
  refine g11_8 hx hb hts hown hK hR l1 q1269 dX1_collect_1 ?_
  have o_4 := h.1
  have h := h.2
  refine jr_oget (z := y.2 9 ((gv w 14 a1 0).toNatClampNeg)) ⟨hx, hb, hml, hown, hts⟩ hK (ho_at hK hR a1) (if_pos o_4.1) q519 ⟨Nat.le_of_ble_eq_true rfl, Nat.le_of_ble_eq_true rfl⟩ hl.1 (Nat.le_of_ble_eq_true rfl) dX1_collect_4 ⟨(Nat.le_of_ble_eq_true rfl), (Nat.le_of_ble_eq_true rfl)⟩ ?_
  refine jr_castS (ci := 7) hx hb hown hK hts (hR.role o_4.2) rfl q371 dX1_collect_7 ?_
  refine lv_astore_n (lv' := [(3, .ref (y.2 9 ((gv w 14 a1 0).toNatClampNeg))), (0, .ref (y.2 0 0)), (1, .ref (y.2 11 a1)), (2, .ref (y.2 6 a2))]) hx hb dX1_collect_10 rfl hl (by decide) rfl (fun ls hl => ?_)
  refine lv_aload_n hx hb dX1_collect_11 rfl (lv_at hl 2 rfl) ?_
  refine g11_1 hx hb hts hown hK hR l1 q1255 dX1_collect_12 ?_
  have o_12 := h.1
  have h := h.2
  refine ce_s (cr_oD (rest := []) ⟨hx, hb, hml, hown, hts⟩ hK hR o_12 q595 ⟨Nat.le_of_ble_eq_true rfl, Nat.le_of_ble_eq_true rfl⟩ rfl hl.1 rfl (lv_room (Nat.le_of_ble_eq_true rfl)) dX1_collect_15 ⟨(Nat.le_of_ble_eq_true rfl), (Nat.le_of_ble_eq_true rfl)⟩) ?_
  refine lv_topi (fun x_18 ex_18 => ?_)
  have h := h x_18 ex_18
  refine lv_istore (lv' := [(4, .int (x_18)), (3, .ref (y.2 9 ((gv w 14 a1 0).toNatClampNeg))), (0, .ref (y.2 0 0)), (1, .ref (y.2 11 a1)), (2, .ref (y.2 6 a2))]) hx hb dX1_collect_18 hl (by decide) rfl (fun ls hl => ?_)
  refine lv_aload_n hx hb dX1_collect_20 rfl (lv_at hl 3 rfl) ?_
  refine g11_6 hx hb hts hown hK hR l1 q1265 dX1_collect_21 ?_
  refine lv_aload_n hx hb dX1_collect_24 rfl (lv_at hl 4 rfl) ?_
  refine g6_0 hx hb hts hown hK hR l2 q920 dX1_collect_25 ?_
  have o_28 := h.1
  have h := h.2
  refine a13 hx hb hK hR (hW.age l1) o_28 dX1_collect_28 ?_
  refine lv_if_le (tgt := 36) hx hb dX1_collect_29 (by decide) (fun c_29 => ?_) (fun c_29 => ?_)
  · have h := h.1 c_29
    refine lv_iconst (v := (0 : Int32)) hx hb dX1_collect_36 (by decide) ?_
    refine lv_istore (lv' := [(5, .int ((0 : Int32))), (4, .int (x_18)), (3, .ref (y.2 9 ((gv w 14 a1 0).toNatClampNeg))), (0, .ref (y.2 0 0)), (1, .ref (y.2 11 a1)), (2, .ref (y.2 6 a2))]) hx hb dX1_collect_37 hl (by decide) rfl (fun ls hl => ?_)
    refine lv_iload hx hb dX1_collect_39 (lv_at hl 0 rfl) ?_
    refine lv_if_eq (tgt := 48) hx hb dX1_collect_41 (by decide) (fun c_41 => ?_) (fun c_41 => absurd (by decide) c_41)
    refine lv_aload_n hx hb dX1_collect_48 rfl (lv_at hl 2 rfl) ?_
    refine g9_6 hx hb hts hown hK hR o_4.2 q1134 dX1_collect_49 ?_
    refine lv_topi (fun x_52 ex_52 => ?_)
    have h := h x_52 ex_52
    refine lv_istore (lv' := [(6, .int (x_52)), (5, .int ((0 : Int32))), (4, .int (x_18)), (3, .ref (y.2 9 ((gv w 14 a1 0).toNatClampNeg))), (0, .ref (y.2 0 0)), (1, .ref (y.2 11 a1)), (2, .ref (y.2 6 a2))]) hx hb dX1_collect_52 hl (by decide) rfl (fun ls hl => ?_)
    refine lv_aload_n hx hb dX1_collect_54 rfl (lv_at hl 6 rfl) ?_
    refine lv_aload_n hx hb dX1_collect_55 rfl (lv_at hl 5 rfl) ?_
    refine g11_1 hx hb hts hown hK hR l1 q1255 dX1_collect_56 ?_
    have o_56 := h.1
    have h := h.2
    refine ce_qi (fw := fun u => u) (fy := fun _ => y) (cr_V (n := 1) (As := [.ref (kA κ (20 + (gv w 11 a1 1).toNatClampNeg))]) (rest := []) ⟨hx, hb, hml, hown, hts⟩ hK hR (m_X10_due hW l2 o_56 h) q679 q680 q681 q92 q682 rfl rfl hd_X10_due ⟨Nat.le_of_ble_eq_true rfl, Nat.le_of_ble_eq_true rfl⟩ (rv hK hR l2 (ci := 6) rfl rfl) rfl rfl hl.1 rfl (lv_room (Nat.le_of_ble_eq_true rfl)) dX1_collect_59 ⟨(Nat.le_of_ble_eq_true rfl), (Nat.le_of_ble_eq_true rfl)⟩) hR hS (fun r_59 w_59 H locs h hR _ hS => ?_)
    refine lv_istore (lv' := [(7, .int (r_59)), (6, .int (x_52)), (5, .int ((0 : Int32))), (4, .int (x_18)), (3, .ref (y.2 9 ((gv w 14 a1 0).toNatClampNeg))), (0, .ref (y.2 0 0)), (1, .ref (y.2 11 a1)), (2, .ref (y.2 6 a2))]) hx hb dX1_collect_62 hl (by decide) rfl (fun ls hl => ?_)
    refine lv_iload hx hb dX1_collect_64 (lv_at hl 0 rfl) ?_
    refine lv_iload hx hb dX1_collect_66 (lv_at hl 0 rfl) ?_
    refine lv_iload hx hb dX1_collect_68 (lv_at hl 1 rfl) ?_
    refine lv_imul hx hb dX1_collect_70 ?_
    refine lv_bipush (v := (8 : Int32)) hx hb dX1_collect_71 (by decide) ?_
    refine lv_idiv hx hb dX1_collect_73 (by decide) ?_
    refine lv_iadd hx hb dX1_collect_74 ?_
    refine lv_topi (fun x_75 ex_75 => ?_)
    have h := h x_75 ex_75
    refine lv_istore (lv' := [(8, .int (x_75)), (7, .int (r_59)), (6, .int (x_52)), (5, .int ((0 : Int32))), (4, .int (x_18)), (3, .ref (y.2 9 ((gv w 14 a1 0).toNatClampNeg))), (0, .ref (y.2 0 0)), (1, .ref (y.2 11 a1)), (2, .ref (y.2 6 a2))]) hx hb dX1_collect_75 hl (by decide) rfl (fun ls hl => ?_)
    refine lv_iload hx hb dX1_collect_77 (lv_at hl 3 rfl) ?_
    refine lv_if_eq (tgt := 89) hx hb dX1_collect_79 (by decide) (fun c_79 => ?_) (fun c_79 => absurd (by decide) c_79)
    refine lv_aload_n hx hb dX1_collect_89 rfl (lv_at hl 5 rfl) ?_
    refine g9_1 hx hb hts hown hK hR o_4.2 q1124 dX1_collect_90 ?_
    refine lv_astore (lv' := [(9, .ref (y.2 1 ((11 + (((gv w 14 a1 0).toNatClampNeg)))))), (8, .int (x_75)), (7, .int (r_59)), (6, .int (x_52)), (5, .int ((0 : Int32))), (4, .int (x_18)), (3, .ref (y.2 9 ((gv w 14 a1 0).toNatClampNeg))), (0, .ref (y.2 0 0)), (1, .ref (y.2 11 a1)), (2, .ref (y.2 6 a2))]) hx hb dX1_collect_93 hl (by decide) rfl (fun ls hl => ?_)
    refine lv_aload_n hx hb dX1_collect_95 rfl (lv_at hl 8 rfl) ?_
    refine g11_1 hx hb hts hown hK hR l1 q1255 dX1_collect_96 ?_
    have o_96 := h.1
    have h := h.2
    refine lv_aload_n hx hb dX1_collect_99 rfl (lv_at hl 9 rfl) ?_
    refine lv_aload_n hx hb dX1_collect_100 rfl (lv_at hl 9 rfl) ?_
    refine lv_iload hx hb dX1_collect_101 (lv_at hl 1 rfl) ?_
    refine lv_iload hx hb dX1_collect_103 (lv_at hl 3 rfl) ?_
    refine ce_qi (fw := fun u => u) (fy := fun _ => y) (cr_V (n := 2) (As := [.int (x_75), .int (x_52)]) (rest := [.ref (y.2 6 a2), .ref (kA κ (20 + (gv w_59 11 a1 1).toNatClampNeg))]) ⟨hx, hb, hml, hown, hts⟩ hK hR (m_X10_shown hW l2 h) q633 q634 q635 q92 q636 rfl rfl hd_X10_shown ⟨Nat.le_of_ble_eq_true rfl, Nat.le_of_ble_eq_true rfl⟩ (rv hK hR l2 (ci := 6) rfl rfl) rfl rfl hl.1 rfl (lv_room (Nat.le_of_ble_eq_true rfl)) dX1_collect_105 ⟨(Nat.le_of_ble_eq_true rfl), (Nat.le_of_ble_eq_true rfl)⟩) hR hS (fun r_105 w_105 H locs h hR _ hS => ?_)
    refine lv_iload hx hb dX1_collect_108 (lv_at hl 3 rfl) ?_
    refine lv_iconst (v := (2 : Int32)) hx hb dX1_collect_110 (by decide) ?_
    refine lv_icmp_lt (tgt := 118) hx hb dX1_collect_111 (by decide) (fun c_111 => ?_) (fun c_111 => ?_)
    · have h := h.1 c_111
      refine lv_iconst (v := (0 : Int32)) hx hb dX1_collect_118 (by decide) ?_
      refine lv_aload hx hb dX1_collect_119 (lv_at hl 0 rfl) ?_
      refine lv_aload_n hx hb dX1_collect_121 rfl (lv_at hl 7 rfl) ?_
      refine g0_4 hx hb hts hown hK hR l0 q251 dX1_collect_122 ?_
      refine lv_iconst (v := (1 : Int32)) hx hb dX1_collect_125 (by decide) ?_
      refine ce_qi (fw := fun u => u) (fy := fun _ => y) (cr_got (As := [.ref (y.2 6 a2), .int (r_105), .int ((0 : Int32)), .ref (y.2 1 ((11 + (((gv w 14 a1 0).toNatClampNeg))))), .ref (y.2 1 0), .int ((1 : Int32))]) (rest := []) ⟨hx, hb, hml, hown, hts⟩ hK hR o_96 qi_ret (fun e9 => m_X18_got hW o_96 l2 (hW.cch o_4.2) hW.wor (h.1 e9)) ⟨rfl, rfl⟩ ⟨Nat.le_of_ble_eq_true rfl, Nat.le_of_ble_eq_true rfl⟩ (fun e9 => m_X7_got hW o_96 l2 (hW.cch o_4.2) hW.wor (h.2.1 e9)) ⟨rfl, rfl⟩ ⟨Nat.le_of_ble_eq_true rfl, Nat.le_of_ble_eq_true rfl⟩ (fun e9 => m_X7_got hW o_96 l2 (hW.cch o_4.2) hW.wor (h.2.2 e9)) ⟨rfl, rfl⟩ ⟨Nat.le_of_ble_eq_true rfl, Nat.le_of_ble_eq_true rfl⟩ q644 rfl rfl hl.1 rfl (lv_room (Nat.le_of_ble_eq_true rfl)) dX1_collect_126 ⟨(Nat.le_of_ble_eq_true rfl), (Nat.le_of_ble_eq_true rfl)⟩) hR hS (fun r_126 w_126 H locs h hR _ hS => ?_)
      refine lv_istore (lv' := [(10, .int (r_126)), (9, .ref (y.2 1 ((11 + (((gv w 14 a1 0).toNatClampNeg)))))), (8, .int (x_75)), (7, .int (r_59)), (6, .int (x_52)), (5, .int ((0 : Int32))), (4, .int (x_18)), (3, .ref (y.2 9 ((gv w 14 a1 0).toNatClampNeg))), (0, .ref (y.2 0 0)), (1, .ref (y.2 11 a1)), (2, .ref (y.2 6 a2))]) hx hb dX1_collect_129 hl (by decide) rfl (fun ls hl => ?_)
      refine lv_aload_n hx hb dX1_collect_131 rfl (lv_at hl 7 rfl) ?_
      refine lv_dup hx hb dX1_collect_132 rfl ?_
      refine g9_9 hx hb hts hown hK hR o_4.2 q1139 dX1_collect_133 ?_
      refine lv_iload hx hb dX1_collect_136 (lv_at hl 5 rfl) ?_
      refine lv_if_eq (tgt := 164) hx hb dX1_collect_138 (by decide) (fun c_138 => ?_) (fun c_138 => absurd (by decide) c_138)
      refine lv_aload_n hx hb dX1_collect_164 rfl (lv_at hl 9 rfl) ?_
      refine g11_1 hx hb hts hown hK hR l1 q1255 dX1_collect_165 ?_
      have o_165 := h.1
      have h := h.2
      refine lv_iload hx hb dX1_collect_168 (lv_at hl 0 rfl) ?_
      refine ce_qi (fw := fun u => u) (fy := fun _ => y) (cr_worth (As := [.int (r_126)]) (rest := [.int (gv w_126 9 (((gv w 14 a1 0).toNatClampNeg)) 9), .ref (y.2 9 ((gv w 14 a1 0).toNatClampNeg))]) ⟨hx, hb, hml, hown, hts⟩ hK hR o_165 qi_ret (fun e9 => m_X18_worth hW o_165 (h.1 e9)) ⟨rfl, rfl⟩ ⟨Nat.le_of_ble_eq_true rfl, Nat.le_of_ble_eq_true rfl⟩ (fun e9 => m_X7_worth hW o_165 (h.2.1 e9)) ⟨rfl, rfl⟩ ⟨Nat.le_of_ble_eq_true rfl, Nat.le_of_ble_eq_true rfl⟩ (fun e9 => m_X7_worth hW o_165 (h.2.2 e9)) ⟨rfl, rfl⟩ ⟨Nat.le_of_ble_eq_true rfl, Nat.le_of_ble_eq_true rfl⟩ q663 rfl rfl hl.1 rfl (lv_room (Nat.le_of_ble_eq_true rfl)) dX1_collect_170 ⟨(Nat.le_of_ble_eq_true rfl), (Nat.le_of_ble_eq_true rfl)⟩) hR hS (fun r_170 w_170 H locs h hR _ hS => ?_)
      refine lv_iadd hx hb dX1_collect_173 ?_
      refine p9_9 hx hb hts hown hK hR hS o_4.2 q1139 dX1_collect_174 (fun H locs w_174 ew_174 hR hS => ?_)
      have h := h w_174 ew_174
      refine lv_aload_n hx hb dX1_collect_177 rfl (lv_at hl 10 rfl) ?_
      refine g6_5 hx hb hts hown hK hR l2 q929 dX1_collect_178 ?_
      refine lv_iload hx hb dX1_collect_181 (lv_at hl 6 rfl) ?_
      refine xa_new (C := RX17) (T := TX17) (N := 6) (ci := 10) (fs := [.int 0, .int 0, .int 0, .int 0, .int 0, .int 0]) hx hb hts in_X17 tyX17 tyX17_ok hown q707 q1538 q115 hK.1 hS rfl (fun j hj => by rcases (show j = 0 ∨ j = 1 ∨ j = 2 ∨ j = 3 ∨ j = 4 ∨ j = 5 by omega) with rfl | rfl | rfl | rfl | rfl | rfl <;> rfl) (Nat.le_of_ble_eq_true rfl) (Nat.le_of_ble_eq_true rfl) dX1_collect_183 (fun q_183 H1 hq h1 hz ho hS => ?_)
      have hR := hR.newL hq h1 (by omega) ho
      clear hq h1 hz ho
      generalize H1 = H at hR hS ⊢
      have hR : Rp κ w_174 y X [(q_183, .inr (10, [.int 0, .int 0, .int 0, .int 0, .int 0, .int 0]))] H := hR
      refine lv_dup hx hb dX1_collect_186 rfl ?_
      refine lv_aload_n hx hb dX1_collect_187 rfl (lv_at hl 8 rfl) ?_
      refine ce_qi (fw := fun u => u) (fy := fun _ => y) (cr_V (n := 0) (As := []) (rest := [.ref (q_183), .ref (q_183), .int (x_18), .ref (y.2 46 a2)]) ⟨hx, hb, hml, hown, hts⟩ hK hR (m_X1_year hW l0 h) q532 q534 qs4 q74 q535 rfl rfl hd_X1_year ⟨Nat.le_of_ble_eq_true rfl, Nat.le_of_ble_eq_true rfl⟩ (rv hK hR l0 (ci := 0) rfl rfl) rfl rfl hl.1 rfl (lv_room (Nat.le_of_ble_eq_true rfl)) dX1_collect_188 ⟨(Nat.le_of_ble_eq_true rfl), (Nat.le_of_ble_eq_true rfl)⟩) hR hS (fun r_188 w_188 H locs h hR _ hS => ?_)
      refine lv_iload hx hb dX1_collect_191 (lv_at hl 2 rfl) ?_
      refine lv_iload hx hb dX1_collect_193 (lv_at hl 0 rfl) ?_
      refine lv_aload_n hx hb dX1_collect_195 rfl (lv_at hl 8 rfl) ?_
      refine lv_aload_n hx hb dX1_collect_196 rfl (lv_at hl 10 rfl) ?_
      refine lv_aload_n hx hb dX1_collect_197 rfl (lv_at hl 9 rfl) ?_
      refine g11_1 hx hb hts hown hK hR l1 q1255 dX1_collect_198 ?_
      have o_198 := h.1
      have h := h.2
      refine ce_qi (fw := fun u => u) (fy := fun _ => y) (cr_V (n := 2) (As := [.ref (y.2 6 a2), .ref (kA κ (20 + (gv w_188 11 a1 1).toNatClampNeg))]) (rest := [.int (r_126), .int (x_75), .int (r_188), .ref (q_183), .ref (q_183), .int (x_18), .ref (y.2 46 a2)]) ⟨hx, hb, hml, hown, hts⟩ hK hR (m_X1_dueByLaw hW l0 l2 o_198 h) q617 q619 qs10 q74 q620 rfl rfl hd_X1_dueByLaw ⟨Nat.le_of_ble_eq_true rfl, Nat.le_of_ble_eq_true rfl⟩ (rv hK hR l0 (ci := 0) rfl rfl) rfl rfl hl.1 rfl (lv_room (Nat.le_of_ble_eq_true rfl)) dX1_collect_201 ⟨(Nat.le_of_ble_eq_true rfl), (Nat.le_of_ble_eq_true rfl)⟩) hR hS (fun r_201 w_201 H locs h hR _ hS => ?_)
      refine lv_aload_n hx hb dX1_collect_204 rfl (lv_at hl 9 rfl) ?_
      refine g11_0 hx hb hts hown hK hR l1 q1253 dX1_collect_205 ?_
      refine va_callv (va_runI (As := [.int (r_188), .int (x_75), .int (r_126), .int (r_201), .int (nI a1)]) (rest := [.ref (q_183), .int (x_18), .ref (y.2 46 a2)]) ⟨hx, hb, hml, hown, hts⟩ (m_X17_init (X := xl X [(q_183, .inr (10, [.int 0, .int 0, .int 0, .int 0, .int 0, .int 0]))]) (Or.inr ⟨0, rfl⟩)) (cwI 5 hts (lw_meth q1541) rfl rfl rfl (hts _ q115) (hts _ q1539) (hts _ q1540) rfl (by decide +kernel) ⟨Nat.le_of_ble_eq_true rfl, Nat.le_of_ble_eq_true rfl⟩) ⟨RC.blind, RC.pre hR hK⟩ rfl rfl hl.1 rfl (lv_room (Nat.le_of_ble_eq_true rfl)) dX1_collect_208 ⟨(Nat.le_of_ble_eq_true rfl), (Nat.le_of_ble_eq_true rfl)⟩) hS (fun _ _ h => h) (fun _ h => h) (fun u9 t9 H locs ht9 _ hp9 hB9 hz9 _ hS => ?_)
      rw [ht9] at hB9
      have hR := hR.wroteL (t := 0) rfl hB9
      clear hB9 hz9 hp9
      have hR : Rp κ w_201 y X [(q_183, .inr (10, [.int (r_188), .int (x_75), .int (r_126), .int (r_201), .int (nI a1), .int 0]))] H := hR
      refine jr_of (rest := [.int (x_18), .ref (y.2 46 a2)]) ⟨hx, hb, hml, hown, hts⟩ hK hR hS q1355 ⟨Nat.le_of_ble_eq_true rfl, Nat.le_of_ble_eq_true rfl⟩ hl.1 (Nat.le_of_ble_eq_true rfl) dX1_collect_211 ⟨(Nat.le_of_ble_eq_true rfl), (Nat.le_of_ble_eq_true rfl)⟩ (fun q_211 H locs hR hS => ?_)
      have hR : Rp κ w_201 y X [(q_183, .inr (10, [.int (r_188), .int (x_75), .int (r_126), .int (r_201), .int (nI a1), .int 0])), (q_211, .inr (18, [.ref q_183]))] H := hR
      have o_214 := h.1
      have h := h.2
      have lv_214 := (hW.cch o_4.2)
      have lv_214_a := o_4.2
      have lv_214_b := l0
      have lv_214_c := l1
      have lv_214_d := l2
      have hd9 : (x_18).toNatClampNeg < 3 := by have h9 := vp_lt o_214; rw [show y.1 146 a2 = 3 from hW.vl3 l2] at h9; exact h9
      refine jr_set46 ⟨hx, hb, hml, hown, hts⟩ hK hR hS hW l2 o_214 rfl q1566 ⟨Nat.le_of_ble_eq_true rfl, Nat.le_of_ble_eq_true rfl⟩ hl.1 (Nat.le_of_ble_eq_true rfl) dX1_collect_214 ⟨(Nat.le_of_ble_eq_true rfl), (Nat.le_of_ble_eq_true rfl)⟩ (fun a_214 H locs w_214 y_214 ew_214 ey_214 hR hS => ?_)
      have h := h w_214 ew_214 y_214 _ _ ey_214
      have hL1_y_214 : LeS y y_214 := by rw [ey_214]; exact leS_lev
      have hW_y_214 : WFc κ y_214 := by rw [ey_214]; exact WFc.lev9 hW hd9
      have lw_214 := hL1_y_214.live (k := 1) rfl lv_214
      have lw_214_a := hL1_y_214.live (k := 9) rfl lv_214_a
      have lw_214_b := hL1_y_214.live (k := 0) rfl lv_214_b
      have lw_214_c := hL1_y_214.live (k := 11) rfl lv_214_c
      have lw_214_d := hL1_y_214.live (k := 6) rfl lv_214_d
      have hl : lv_has ls 11 [(10, .int (r_126)), (9, .ref (y_214.2 1 ((11 + (((gv w 14 a1 0).toNatClampNeg)))))), (8, .int (x_75)), (7, .int (r_59)), (6, .int (x_52)), (5, .int ((0 : Int32))), (4, .int (x_18)), (3, .ref (y_214.2 9 ((gv w 14 a1 0).toNatClampNeg))), (0, .ref (y_214.2 0 0)), (1, .ref (y_214.2 11 a1)), (2, .ref (y_214.2 6 a2))] := by
        rw [hL1_y_214.2 0 rfl, hL1_y_214.2 1 rfl, hL1_y_214.2 6 rfl, hL1_y_214.2 9 rfl, hL1_y_214.2 11 rfl]
        exact hl
      have hLe_y_214 : LeS _ y_214 := (hLe.trans hL1_y_214)
      refine lv_pop hx hb dX1_collect_217 rfl ?_
      refine lv_aload_n hx hb dX1_collect_218 rfl (lv_at hl 10 rfl) ?_
      refine lv_iload hx hb dX1_collect_219 (lv_at hl 4 rfl) ?_
      refine ce_qv (fw := fun u => u) (fy := fun _ => y_214) (cr_V (n := 1) (As := [.int (x_52)]) (rest := []) ⟨hx, hb, hml, hown, hts⟩ hK hR (m_X10_stir hW_y_214 lw_214_d h) q1442 q1443 q1444 q92 q1445 rfl rfl hd_X10_stir ⟨Nat.le_of_ble_eq_true rfl, Nat.le_of_ble_eq_true rfl⟩ (rv hK hR lw_214_d (ci := 6) rfl rfl) rfl rfl hl.1 rfl (lv_room (Nat.le_of_ble_eq_true rfl)) dX1_collect_221 ⟨(Nat.le_of_ble_eq_true rfl), (Nat.le_of_ble_eq_true rfl)⟩) hR hS (fun w_221 H locs h hR _ hS => ?_)
      refine W.widen (k := 2) (n := 7) (Nat.le_of_ble_eq_true rfl) (Nat.le_of_ble_eq_true rfl) ?_
      exact W.vret hx hb hr (fun t ht hW9 => ⟨⟨(w_221, y_214), rfl, h, ⟨rpt ht hR, hW_y_214, hLe_y_214⟩⟩, hS.F ht⟩) hS.2.2 dX1_collect_224
    · have h := h.2 c_111
      refine lv_iconst (v := (1 : Int32)) hx hb dX1_collect_114 (by decide) ?_
      refine lv_goto (tgt := 119) hx hb dX1_collect_115 (by decide) ?_
      refine lv_aload hx hb dX1_collect_119 (lv_at hl 0 rfl) ?_
      refine lv_aload_n hx hb dX1_collect_121 rfl (lv_at hl 7 rfl) ?_
      refine g0_4 hx hb hts hown hK hR l0 q251 dX1_collect_122 ?_
      refine lv_iconst (v := (1 : Int32)) hx hb dX1_collect_125 (by decide) ?_
      refine ce_qi (fw := fun u => u) (fy := fun _ => y) (cr_got (As := [.ref (y.2 6 a2), .int (r_105), .int ((1 : Int32)), .ref (y.2 1 ((11 + (((gv w 14 a1 0).toNatClampNeg))))), .ref (y.2 1 0), .int ((1 : Int32))]) (rest := []) ⟨hx, hb, hml, hown, hts⟩ hK hR o_96 qi_ret (fun e9 => m_X18_got hW o_96 l2 (hW.cch o_4.2) hW.wor (h.1 e9)) ⟨rfl, rfl⟩ ⟨Nat.le_of_ble_eq_true rfl, Nat.le_of_ble_eq_true rfl⟩ (fun e9 => m_X7_got hW o_96 l2 (hW.cch o_4.2) hW.wor (h.2.1 e9)) ⟨rfl, rfl⟩ ⟨Nat.le_of_ble_eq_true rfl, Nat.le_of_ble_eq_true rfl⟩ (fun e9 => m_X7_got hW o_96 l2 (hW.cch o_4.2) hW.wor (h.2.2 e9)) ⟨rfl, rfl⟩ ⟨Nat.le_of_ble_eq_true rfl, Nat.le_of_ble_eq_true rfl⟩ q644 rfl rfl hl.1 rfl (lv_room (Nat.le_of_ble_eq_true rfl)) dX1_collect_126 ⟨(Nat.le_of_ble_eq_true rfl), (Nat.le_of_ble_eq_true rfl)⟩) hR hS (fun r_126_a w_126_a H locs h hR _ hS => ?_)
      refine lv_istore (lv' := [(10, .int (r_126_a)), (9, .ref (y.2 1 ((11 + (((gv w 14 a1 0).toNatClampNeg)))))), (8, .int (x_75)), (7, .int (r_59)), (6, .int (x_52)), (5, .int ((0 : Int32))), (4, .int (x_18)), (3, .ref (y.2 9 ((gv w 14 a1 0).toNatClampNeg))), (0, .ref (y.2 0 0)), (1, .ref (y.2 11 a1)), (2, .ref (y.2 6 a2))]) hx hb dX1_collect_129 hl (by decide) rfl (fun ls hl => ?_)
      refine lv_aload_n hx hb dX1_collect_131 rfl (lv_at hl 7 rfl) ?_
      refine lv_dup hx hb dX1_collect_132 rfl ?_
      refine g9_9 hx hb hts hown hK hR o_4.2 q1139 dX1_collect_133 ?_
      refine lv_iload hx hb dX1_collect_136 (lv_at hl 5 rfl) ?_
      refine lv_if_eq (tgt := 164) hx hb dX1_collect_138 (by decide) (fun c_138_a => ?_) (fun c_138_a => absurd (by decide) c_138_a)
      refine lv_aload_n hx hb dX1_collect_164 rfl (lv_at hl 9 rfl) ?_
      refine g11_1 hx hb hts hown hK hR l1 q1255 dX1_collect_165 ?_
      have o_165_a := h.1
      have h := h.2
      refine lv_iload hx hb dX1_collect_168 (lv_at hl 0 rfl) ?_
      refine ce_qi (fw := fun u => u) (fy := fun _ => y) (cr_worth (As := [.int (r_126_a)]) (rest := [.int (gv w_126_a 9 (((gv w 14 a1 0).toNatClampNeg)) 9), .ref (y.2 9 ((gv w 14 a1 0).toNatClampNeg))]) ⟨hx, hb, hml, hown, hts⟩ hK hR o_165_a qi_ret (fun e9 => m_X18_worth hW o_165_a (h.1 e9)) ⟨rfl, rfl⟩ ⟨Nat.le_of_ble_eq_true rfl, Nat.le_of_ble_eq_true rfl⟩ (fun e9 => m_X7_worth hW o_165_a (h.2.1 e9)) ⟨rfl, rfl⟩ ⟨Nat.le_of_ble_eq_true rfl, Nat.le_of_ble_eq_true rfl⟩ (fun e9 => m_X7_worth hW o_165_a (h.2.2 e9)) ⟨rfl, rfl⟩ ⟨Nat.le_of_ble_eq_true rfl, Nat.le_of_ble_eq_true rfl⟩ q663 rfl rfl hl.1 rfl (lv_room (Nat.le_of_ble_eq_true rfl)) dX1_collect_170 ⟨(Nat.le_of_ble_eq_true rfl), (Nat.le_of_ble_eq_true rfl)⟩) hR hS (fun r_170_a w_170_a H locs h hR _ hS => ?_)
      refine lv_iadd hx hb dX1_collect_173 ?_
      refine p9_9 hx hb hts hown hK hR hS o_4.2 q1139 dX1_collect_174 (fun H locs w_174_a ew_174_a hR hS => ?_)
      have h := h w_174_a ew_174_a
      refine lv_aload_n hx hb dX1_collect_177 rfl (lv_at hl 10 rfl) ?_
      refine g6_5 hx hb hts hown hK hR l2 q929 dX1_collect_178 ?_
      refine lv_iload hx hb dX1_collect_181 (lv_at hl 6 rfl) ?_
      refine xa_new (C := RX17) (T := TX17) (N := 6) (ci := 10) (fs := [.int 0, .int 0, .int 0, .int 0, .int 0, .int 0]) hx hb hts in_X17 tyX17 tyX17_ok hown q707 q1538 q115 hK.1 hS rfl (fun j hj => by rcases (show j = 0 ∨ j = 1 ∨ j = 2 ∨ j = 3 ∨ j = 4 ∨ j = 5 by omega) with rfl | rfl | rfl | rfl | rfl | rfl <;> rfl) (Nat.le_of_ble_eq_true rfl) (Nat.le_of_ble_eq_true rfl) dX1_collect_183 (fun q_183_a H1 hq h1 hz ho hS => ?_)
      have hR := hR.newL hq h1 (by omega) ho
      clear hq h1 hz ho
      generalize H1 = H at hR hS ⊢
      have hR : Rp κ w_174_a y X [(q_183_a, .inr (10, [.int 0, .int 0, .int 0, .int 0, .int 0, .int 0]))] H := hR
      refine lv_dup hx hb dX1_collect_186 rfl ?_
      refine lv_aload_n hx hb dX1_collect_187 rfl (lv_at hl 8 rfl) ?_
      refine ce_qi (fw := fun u => u) (fy := fun _ => y) (cr_V (n := 0) (As := []) (rest := [.ref (q_183_a), .ref (q_183_a), .int (x_18), .ref (y.2 46 a2)]) ⟨hx, hb, hml, hown, hts⟩ hK hR (m_X1_year hW l0 h) q532 q534 qs4 q74 q535 rfl rfl hd_X1_year ⟨Nat.le_of_ble_eq_true rfl, Nat.le_of_ble_eq_true rfl⟩ (rv hK hR l0 (ci := 0) rfl rfl) rfl rfl hl.1 rfl (lv_room (Nat.le_of_ble_eq_true rfl)) dX1_collect_188 ⟨(Nat.le_of_ble_eq_true rfl), (Nat.le_of_ble_eq_true rfl)⟩) hR hS (fun r_188_a w_188_a H locs h hR _ hS => ?_)
      refine lv_iload hx hb dX1_collect_191 (lv_at hl 2 rfl) ?_
      refine lv_iload hx hb dX1_collect_193 (lv_at hl 0 rfl) ?_
      refine lv_aload_n hx hb dX1_collect_195 rfl (lv_at hl 8 rfl) ?_
      refine lv_aload_n hx hb dX1_collect_196 rfl (lv_at hl 10 rfl) ?_
      refine lv_aload_n hx hb dX1_collect_197 rfl (lv_at hl 9 rfl) ?_
      refine g11_1 hx hb hts hown hK hR l1 q1255 dX1_collect_198 ?_
      have o_198_a := h.1
      have h := h.2
      refine ce_qi (fw := fun u => u) (fy := fun _ => y) (cr_V (n := 2) (As := [.ref (y.2 6 a2), .ref (kA κ (20 + (gv w_188_a 11 a1 1).toNatClampNeg))]) (rest := [.int (r_126_a), .int (x_75), .int (r_188_a), .ref (q_183_a), .ref (q_183_a), .int (x_18), .ref (y.2 46 a2)]) ⟨hx, hb, hml, hown, hts⟩ hK hR (m_X1_dueByLaw hW l0 l2 o_198_a h) q617 q619 qs10 q74 q620 rfl rfl hd_X1_dueByLaw ⟨Nat.le_of_ble_eq_true rfl, Nat.le_of_ble_eq_true rfl⟩ (rv hK hR l0 (ci := 0) rfl rfl) rfl rfl hl.1 rfl (lv_room (Nat.le_of_ble_eq_true rfl)) dX1_collect_201 ⟨(Nat.le_of_ble_eq_true rfl), (Nat.le_of_ble_eq_true rfl)⟩) hR hS (fun r_201_a w_201_a H locs h hR _ hS => ?_)
      refine lv_aload_n hx hb dX1_collect_204 rfl (lv_at hl 9 rfl) ?_
      refine g11_0 hx hb hts hown hK hR l1 q1253 dX1_collect_205 ?_
      refine va_callv (va_runI (As := [.int (r_188_a), .int (x_75), .int (r_126_a), .int (r_201_a), .int (nI a1)]) (rest := [.ref (q_183_a), .int (x_18), .ref (y.2 46 a2)]) ⟨hx, hb, hml, hown, hts⟩ (m_X17_init (X := xl X [(q_183_a, .inr (10, [.int 0, .int 0, .int 0, .int 0, .int 0, .int 0]))]) (Or.inr ⟨0, rfl⟩)) (cwI 5 hts (lw_meth q1541) rfl rfl rfl (hts _ q115) (hts _ q1539) (hts _ q1540) rfl (by decide +kernel) ⟨Nat.le_of_ble_eq_true rfl, Nat.le_of_ble_eq_true rfl⟩) ⟨RC.blind, RC.pre hR hK⟩ rfl rfl hl.1 rfl (lv_room (Nat.le_of_ble_eq_true rfl)) dX1_collect_208 ⟨(Nat.le_of_ble_eq_true rfl), (Nat.le_of_ble_eq_true rfl)⟩) hS (fun _ _ h => h) (fun _ h => h) (fun u9 t9 H locs ht9 _ hp9 hB9 hz9 _ hS => ?_)
      rw [ht9] at hB9
      have hR := hR.wroteL (t := 0) rfl hB9
      clear hB9 hz9 hp9
      have hR : Rp κ w_201_a y X [(q_183_a, .inr (10, [.int (r_188_a), .int (x_75), .int (r_126_a), .int (r_201_a), .int (nI a1), .int 0]))] H := hR
      refine jr_of (rest := [.int (x_18), .ref (y.2 46 a2)]) ⟨hx, hb, hml, hown, hts⟩ hK hR hS q1355 ⟨Nat.le_of_ble_eq_true rfl, Nat.le_of_ble_eq_true rfl⟩ hl.1 (Nat.le_of_ble_eq_true rfl) dX1_collect_211 ⟨(Nat.le_of_ble_eq_true rfl), (Nat.le_of_ble_eq_true rfl)⟩ (fun q_211_a H locs hR hS => ?_)
      have hR : Rp κ w_201_a y X [(q_183_a, .inr (10, [.int (r_188_a), .int (x_75), .int (r_126_a), .int (r_201_a), .int (nI a1), .int 0])), (q_211_a, .inr (18, [.ref q_183_a]))] H := hR
      have o_214_a := h.1
      have h := h.2
      have lv_214_e := (hW.cch o_4.2)
      have lv_214_f := o_4.2
      have lv_214_g := l0
      have lv_214_h := l1
      have lv_214_i := l2
      have hd9 : (x_18).toNatClampNeg < 3 := by have h9 := vp_lt o_214_a; rw [show y.1 146 a2 = 3 from hW.vl3 l2] at h9; exact h9
      refine jr_set46 ⟨hx, hb, hml, hown, hts⟩ hK hR hS hW l2 o_214_a rfl q1566 ⟨Nat.le_of_ble_eq_true rfl, Nat.le_of_ble_eq_true rfl⟩ hl.1 (Nat.le_of_ble_eq_true rfl) dX1_collect_214 ⟨(Nat.le_of_ble_eq_true rfl), (Nat.le_of_ble_eq_true rfl)⟩ (fun a_214_a H locs w_214_a y_214_a ew_214_a ey_214_a hR hS => ?_)
      have h := h w_214_a ew_214_a y_214_a _ _ ey_214_a
      have hL1_y_214_a : LeS y y_214_a := by rw [ey_214_a]; exact leS_lev
      have hW_y_214_a : WFc κ y_214_a := by rw [ey_214_a]; exact WFc.lev9 hW hd9
      have lw_214_e := hL1_y_214_a.live (k := 1) rfl lv_214_e
      have lw_214_f := hL1_y_214_a.live (k := 9) rfl lv_214_f
      have lw_214_g := hL1_y_214_a.live (k := 0) rfl lv_214_g
      have lw_214_h := hL1_y_214_a.live (k := 11) rfl lv_214_h
      have lw_214_i := hL1_y_214_a.live (k := 6) rfl lv_214_i
      have hl : lv_has ls 11 [(10, .int (r_126_a)), (9, .ref (y_214_a.2 1 ((11 + (((gv w 14 a1 0).toNatClampNeg)))))), (8, .int (x_75)), (7, .int (r_59)), (6, .int (x_52)), (5, .int ((0 : Int32))), (4, .int (x_18)), (3, .ref (y_214_a.2 9 ((gv w 14 a1 0).toNatClampNeg))), (0, .ref (y_214_a.2 0 0)), (1, .ref (y_214_a.2 11 a1)), (2, .ref (y_214_a.2 6 a2))] := by
        rw [hL1_y_214_a.2 0 rfl, hL1_y_214_a.2 1 rfl, hL1_y_214_a.2 6 rfl, hL1_y_214_a.2 9 rfl, hL1_y_214_a.2 11 rfl]
        exact hl
      have hLe_y_214_a : LeS _ y_214_a := (hLe.trans hL1_y_214_a)
      refine lv_pop hx hb dX1_collect_217 rfl ?_
      refine lv_aload_n hx hb dX1_collect_218 rfl (lv_at hl 10 rfl) ?_
      refine lv_iload hx hb dX1_collect_219 (lv_at hl 4 rfl) ?_
      refine ce_qv (fw := fun u => u) (fy := fun _ => y_214_a) (cr_V (n := 1) (As := [.int (x_52)]) (rest := []) ⟨hx, hb, hml, hown, hts⟩ hK hR (m_X10_stir hW_y_214_a lw_214_i h) q1442 q1443 q1444 q92 q1445 rfl rfl hd_X10_stir ⟨Nat.le_of_ble_eq_true rfl, Nat.le_of_ble_eq_true rfl⟩ (rv hK hR lw_214_i (ci := 6) rfl rfl) rfl rfl hl.1 rfl (lv_room (Nat.le_of_ble_eq_true rfl)) dX1_collect_221 ⟨(Nat.le_of_ble_eq_true rfl), (Nat.le_of_ble_eq_true rfl)⟩) hR hS (fun w_221_a H locs h hR _ hS => ?_)
      refine W.widen (k := 2) (n := 7) (Nat.le_of_ble_eq_true rfl) (Nat.le_of_ble_eq_true rfl) ?_
      exact W.vret hx hb hr (fun t ht hW9 => ⟨⟨(w_221_a, y_214_a), rfl, h, ⟨rpt ht hR, hW_y_214_a, hLe_y_214_a⟩⟩, hS.F ht⟩) hS.2.2 dX1_collect_224
  · have h := h.2 c_29
    refine lv_iconst (v := (1 : Int32)) hx hb dX1_collect_32 (by decide) ?_
    refine lv_goto (tgt := 37) hx hb dX1_collect_33 (by decide) ?_
    refine lv_istore (lv' := [(5, .int ((1 : Int32))), (4, .int (x_18)), (3, .ref (y.2 9 ((gv w 14 a1 0).toNatClampNeg))), (0, .ref (y.2 0 0)), (1, .ref (y.2 11 a1)), (2, .ref (y.2 6 a2))]) hx hb dX1_collect_37 hl (by decide) rfl (fun ls hl => ?_)
    refine lv_iload hx hb dX1_collect_39 (lv_at hl 0 rfl) ?_
    refine lv_if_eq (tgt := 48) hx hb dX1_collect_41 (by decide) (fun c_41_a => absurd c_41_a (by decide)) (fun c_41_a => ?_)
    refine lv_iconst (v := (3 : Int32)) hx hb dX1_collect_44 (by decide) ?_
    refine lv_goto (tgt := 52) hx hb dX1_collect_45 (by decide) ?_
    refine lv_istore (lv' := [(6, .int ((3 : Int32))), (5, .int ((1 : Int32))), (4, .int (x_18)), (3, .ref (y.2 9 ((gv w 14 a1 0).toNatClampNeg))), (0, .ref (y.2 0 0)), (1, .ref (y.2 11 a1)), (2, .ref (y.2 6 a2))]) hx hb dX1_collect_52 hl (by decide) rfl (fun ls hl => ?_)
    refine lv_aload_n hx hb dX1_collect_54 rfl (lv_at hl 6 rfl) ?_
    refine lv_aload_n hx hb dX1_collect_55 rfl (lv_at hl 5 rfl) ?_
    refine g11_1 hx hb hts hown hK hR l1 q1255 dX1_collect_56 ?_
    have o_56_a := h.1
    have h := h.2
    refine ce_qi (fw := fun u => u) (fy := fun _ => y) (cr_V (n := 1) (As := [.ref (kA κ (20 + (gv w 11 a1 1).toNatClampNeg))]) (rest := []) ⟨hx, hb, hml, hown, hts⟩ hK hR (m_X10_due hW l2 o_56_a h) q679 q680 q681 q92 q682 rfl rfl hd_X10_due ⟨Nat.le_of_ble_eq_true rfl, Nat.le_of_ble_eq_true rfl⟩ (rv hK hR l2 (ci := 6) rfl rfl) rfl rfl hl.1 rfl (lv_room (Nat.le_of_ble_eq_true rfl)) dX1_collect_59 ⟨(Nat.le_of_ble_eq_true rfl), (Nat.le_of_ble_eq_true rfl)⟩) hR hS (fun r_59_a w_59_a H locs h hR _ hS => ?_)
    refine lv_istore (lv' := [(7, .int (r_59_a)), (6, .int ((3 : Int32))), (5, .int ((1 : Int32))), (4, .int (x_18)), (3, .ref (y.2 9 ((gv w 14 a1 0).toNatClampNeg))), (0, .ref (y.2 0 0)), (1, .ref (y.2 11 a1)), (2, .ref (y.2 6 a2))]) hx hb dX1_collect_62 hl (by decide) rfl (fun ls hl => ?_)
    refine lv_iload hx hb dX1_collect_64 (lv_at hl 0 rfl) ?_
    refine lv_iload hx hb dX1_collect_66 (lv_at hl 0 rfl) ?_
    refine lv_iload hx hb dX1_collect_68 (lv_at hl 1 rfl) ?_
    refine lv_imul hx hb dX1_collect_70 ?_
    refine lv_bipush (v := (8 : Int32)) hx hb dX1_collect_71 (by decide) ?_
    refine lv_idiv hx hb dX1_collect_73 (by decide) ?_
    refine lv_iadd hx hb dX1_collect_74 ?_
    refine lv_topi (fun x_75_a ex_75_a => ?_)
    have h := h x_75_a ex_75_a
    refine lv_istore (lv' := [(8, .int (x_75_a)), (7, .int (r_59_a)), (6, .int ((3 : Int32))), (5, .int ((1 : Int32))), (4, .int (x_18)), (3, .ref (y.2 9 ((gv w 14 a1 0).toNatClampNeg))), (0, .ref (y.2 0 0)), (1, .ref (y.2 11 a1)), (2, .ref (y.2 6 a2))]) hx hb dX1_collect_75 hl (by decide) rfl (fun ls hl => ?_)
    refine lv_iload hx hb dX1_collect_77 (lv_at hl 3 rfl) ?_
    refine lv_if_eq (tgt := 89) hx hb dX1_collect_79 (by decide) (fun c_79_a => absurd c_79_a (by decide)) (fun c_79_a => ?_)
    refine lv_aload_n hx hb dX1_collect_82 rfl (lv_at hl 6 rfl) ?_
    refine g0_4 hx hb hts hown hK hR l0 q251 dX1_collect_83 ?_
    refine lv_goto (tgt := 93) hx hb dX1_collect_86 (by decide) ?_
    refine lv_astore (lv' := [(9, .ref (y.2 1 0)), (8, .int (x_75_a)), (7, .int (r_59_a)), (6, .int ((3 : Int32))), (5, .int ((1 : Int32))), (4, .int (x_18)), (3, .ref (y.2 9 ((gv w 14 a1 0).toNatClampNeg))), (0, .ref (y.2 0 0)), (1, .ref (y.2 11 a1)), (2, .ref (y.2 6 a2))]) hx hb dX1_collect_93 hl (by decide) rfl (fun ls hl => ?_)
    refine lv_aload_n hx hb dX1_collect_95 rfl (lv_at hl 8 rfl) ?_
    refine g11_1 hx hb hts hown hK hR l1 q1255 dX1_collect_96 ?_
    have o_96_a := h.1
    have h := h.2
    refine lv_aload_n hx hb dX1_collect_99 rfl (lv_at hl 9 rfl) ?_
    refine lv_aload_n hx hb dX1_collect_100 rfl (lv_at hl 9 rfl) ?_
    refine lv_iload hx hb dX1_collect_101 (lv_at hl 1 rfl) ?_
    refine lv_iload hx hb dX1_collect_103 (lv_at hl 3 rfl) ?_
    refine ce_qi (fw := fun u => u) (fy := fun _ => y) (cr_V (n := 2) (As := [.int (x_75_a), .int ((3 : Int32))]) (rest := [.ref (y.2 6 a2), .ref (kA κ (20 + (gv w_59_a 11 a1 1).toNatClampNeg))]) ⟨hx, hb, hml, hown, hts⟩ hK hR (m_X10_shown hW l2 h) q633 q634 q635 q92 q636 rfl rfl hd_X10_shown ⟨Nat.le_of_ble_eq_true rfl, Nat.le_of_ble_eq_true rfl⟩ (rv hK hR l2 (ci := 6) rfl rfl) rfl rfl hl.1 rfl (lv_room (Nat.le_of_ble_eq_true rfl)) dX1_collect_105 ⟨(Nat.le_of_ble_eq_true rfl), (Nat.le_of_ble_eq_true rfl)⟩) hR hS (fun r_105_a w_105_a H locs h hR _ hS => ?_)
    refine lv_iload hx hb dX1_collect_108 (lv_at hl 3 rfl) ?_
    refine lv_iconst (v := (2 : Int32)) hx hb dX1_collect_110 (by decide) ?_
    refine lv_icmp_lt (tgt := 118) hx hb dX1_collect_111 (by decide) (fun c_111_a => absurd c_111_a (by decide)) (fun c_111_a => ?_)
    refine lv_iconst (v := (1 : Int32)) hx hb dX1_collect_114 (by decide) ?_
    refine lv_goto (tgt := 119) hx hb dX1_collect_115 (by decide) ?_
    refine lv_aload hx hb dX1_collect_119 (lv_at hl 0 rfl) ?_
    refine lv_aload_n hx hb dX1_collect_121 rfl (lv_at hl 7 rfl) ?_
    refine g0_4 hx hb hts hown hK hR l0 q251 dX1_collect_122 ?_
    refine lv_iconst (v := (1 : Int32)) hx hb dX1_collect_125 (by decide) ?_
    refine ce_qi (fw := fun u => u) (fy := fun _ => y) (cr_got (As := [.ref (y.2 6 a2), .int (r_105_a), .int ((1 : Int32)), .ref (y.2 1 0), .ref (y.2 1 0), .int ((1 : Int32))]) (rest := []) ⟨hx, hb, hml, hown, hts⟩ hK hR o_96_a qi_ret (fun e9 => m_X18_got hW o_96_a l2 hW.wor hW.wor (h.1 e9)) ⟨rfl, rfl⟩ ⟨Nat.le_of_ble_eq_true rfl, Nat.le_of_ble_eq_true rfl⟩ (fun e9 => m_X7_got hW o_96_a l2 hW.wor hW.wor (h.2.1 e9)) ⟨rfl, rfl⟩ ⟨Nat.le_of_ble_eq_true rfl, Nat.le_of_ble_eq_true rfl⟩ (fun e9 => m_X7_got hW o_96_a l2 hW.wor hW.wor (h.2.2 e9)) ⟨rfl, rfl⟩ ⟨Nat.le_of_ble_eq_true rfl, Nat.le_of_ble_eq_true rfl⟩ q644 rfl rfl hl.1 rfl (lv_room (Nat.le_of_ble_eq_true rfl)) dX1_collect_126 ⟨(Nat.le_of_ble_eq_true rfl), (Nat.le_of_ble_eq_true rfl)⟩) hR hS (fun r_126_b w_126_b H locs h hR _ hS => ?_)
    refine lv_istore (lv' := [(10, .int (r_126_b)), (9, .ref (y.2 1 0)), (8, .int (x_75_a)), (7, .int (r_59_a)), (6, .int ((3 : Int32))), (5, .int ((1 : Int32))), (4, .int (x_18)), (3, .ref (y.2 9 ((gv w 14 a1 0).toNatClampNeg))), (0, .ref (y.2 0 0)), (1, .ref (y.2 11 a1)), (2, .ref (y.2 6 a2))]) hx hb dX1_collect_129 hl (by decide) rfl (fun ls hl => ?_)
    refine lv_aload_n hx hb dX1_collect_131 rfl (lv_at hl 7 rfl) ?_
    refine lv_dup hx hb dX1_collect_132 rfl ?_
    refine g9_9 hx hb hts hown hK hR o_4.2 q1139 dX1_collect_133 ?_
    refine lv_iload hx hb dX1_collect_136 (lv_at hl 5 rfl) ?_
    refine lv_if_eq (tgt := 164) hx hb dX1_collect_138 (by decide) (fun c_138_b => absurd c_138_b (by decide)) (fun c_138_b => ?_)
    refine lv_aload_n hx hb dX1_collect_141 rfl (lv_at hl 8 rfl) ?_
    refine g0_4 hx hb hts hown hK hR l0 q251 dX1_collect_142 ?_
    refine lv_aload_n hx hb dX1_collect_145 rfl (lv_at hl 7 rfl) ?_
    refine g9_1 hx hb hts hown hK hR o_4.2 q1124 dX1_collect_146 ?_
    refine lv_aload_n hx hb dX1_collect_149 rfl (lv_at hl 9 rfl) ?_
    refine g11_6 hx hb hts hown hK hR l1 q1265 dX1_collect_150 ?_
    refine lv_aload_n hx hb dX1_collect_153 rfl (lv_at hl 10 rfl) ?_
    refine g6_0 hx hb hts hown hK hR l2 q920 dX1_collect_154 ?_
    have o_157 := h.1
    have h := h.2
    refine a13 hx hb hK hR (hW.age l1) o_157 dX1_collect_157 ?_
    refine ce_qi (fw := fun u => u) (fy := fun _ => y) (cr_O (C := RX3) (owner := "Publicanry$Chest") (Z := yX2_pay) (n := 2) (As := [.ref (y.2 1 ((11 + (((gv w 14 a1 0).toNatClampNeg))))), .int (gv w_126_b 13 a1 (nI a2).toNatClampNeg)]) (rest := [.int (gv w_126_b 9 (((gv w 14 a1 0).toNatClampNeg)) 9), .ref (y.2 9 ((gv w 14 a1 0).toNatClampNeg))]) ⟨hx, hb, hml, hown, hts⟩ hK hR (m_X3_pay hW hW.wor (hW.cch o_4.2) h) q306 q309 q307 q310 q311 q79 q312 q320 rfl rfl (by decide +kernel) ⟨Nat.le_of_ble_eq_true rfl, Nat.le_of_ble_eq_true rfl⟩ (rv_ch0 hK hR hW.wor) rfl rfl hl.1 rfl (lv_room (Nat.le_of_ble_eq_true rfl)) dX1_collect_158 ⟨(Nat.le_of_ble_eq_true rfl), (Nat.le_of_ble_eq_true rfl)⟩) hR hS (fun r_158 w_158 H locs h hR _ hS => ?_)
    refine lv_goto (tgt := 173) hx hb dX1_collect_161 (by decide) ?_
    refine lv_iadd hx hb dX1_collect_173 ?_
    refine p9_9 hx hb hts hown hK hR hS o_4.2 q1139 dX1_collect_174 (fun H locs w_174_b ew_174_b hR hS => ?_)
    have h := h w_174_b ew_174_b
    refine lv_aload_n hx hb dX1_collect_177 rfl (lv_at hl 10 rfl) ?_
    refine g6_5 hx hb hts hown hK hR l2 q929 dX1_collect_178 ?_
    refine lv_iload hx hb dX1_collect_181 (lv_at hl 6 rfl) ?_
    refine xa_new (C := RX17) (T := TX17) (N := 6) (ci := 10) (fs := [.int 0, .int 0, .int 0, .int 0, .int 0, .int 0]) hx hb hts in_X17 tyX17 tyX17_ok hown q707 q1538 q115 hK.1 hS rfl (fun j hj => by rcases (show j = 0 ∨ j = 1 ∨ j = 2 ∨ j = 3 ∨ j = 4 ∨ j = 5 by omega) with rfl | rfl | rfl | rfl | rfl | rfl <;> rfl) (Nat.le_of_ble_eq_true rfl) (Nat.le_of_ble_eq_true rfl) dX1_collect_183 (fun q_183_b H1 hq h1 hz ho hS => ?_)
    have hR := hR.newL hq h1 (by omega) ho
    clear hq h1 hz ho
    generalize H1 = H at hR hS ⊢
    have hR : Rp κ w_174_b y X [(q_183_b, .inr (10, [.int 0, .int 0, .int 0, .int 0, .int 0, .int 0]))] H := hR
    refine lv_dup hx hb dX1_collect_186 rfl ?_
    refine lv_aload_n hx hb dX1_collect_187 rfl (lv_at hl 8 rfl) ?_
    refine ce_qi (fw := fun u => u) (fy := fun _ => y) (cr_V (n := 0) (As := []) (rest := [.ref (q_183_b), .ref (q_183_b), .int (x_18), .ref (y.2 46 a2)]) ⟨hx, hb, hml, hown, hts⟩ hK hR (m_X1_year hW l0 h) q532 q534 qs4 q74 q535 rfl rfl hd_X1_year ⟨Nat.le_of_ble_eq_true rfl, Nat.le_of_ble_eq_true rfl⟩ (rv hK hR l0 (ci := 0) rfl rfl) rfl rfl hl.1 rfl (lv_room (Nat.le_of_ble_eq_true rfl)) dX1_collect_188 ⟨(Nat.le_of_ble_eq_true rfl), (Nat.le_of_ble_eq_true rfl)⟩) hR hS (fun r_188_b w_188_b H locs h hR _ hS => ?_)
    refine lv_iload hx hb dX1_collect_191 (lv_at hl 2 rfl) ?_
    refine lv_iload hx hb dX1_collect_193 (lv_at hl 0 rfl) ?_
    refine lv_aload_n hx hb dX1_collect_195 rfl (lv_at hl 8 rfl) ?_
    refine lv_aload_n hx hb dX1_collect_196 rfl (lv_at hl 10 rfl) ?_
    refine lv_aload_n hx hb dX1_collect_197 rfl (lv_at hl 9 rfl) ?_
    refine g11_1 hx hb hts hown hK hR l1 q1255 dX1_collect_198 ?_
    have o_198_b := h.1
    have h := h.2
    refine ce_qi (fw := fun u => u) (fy := fun _ => y) (cr_V (n := 2) (As := [.ref (y.2 6 a2), .ref (kA κ (20 + (gv w_188_b 11 a1 1).toNatClampNeg))]) (rest := [.int (r_126_b), .int (x_75_a), .int (r_188_b), .ref (q_183_b), .ref (q_183_b), .int (x_18), .ref (y.2 46 a2)]) ⟨hx, hb, hml, hown, hts⟩ hK hR (m_X1_dueByLaw hW l0 l2 o_198_b h) q617 q619 qs10 q74 q620 rfl rfl hd_X1_dueByLaw ⟨Nat.le_of_ble_eq_true rfl, Nat.le_of_ble_eq_true rfl⟩ (rv hK hR l0 (ci := 0) rfl rfl) rfl rfl hl.1 rfl (lv_room (Nat.le_of_ble_eq_true rfl)) dX1_collect_201 ⟨(Nat.le_of_ble_eq_true rfl), (Nat.le_of_ble_eq_true rfl)⟩) hR hS (fun r_201_b w_201_b H locs h hR _ hS => ?_)
    refine lv_aload_n hx hb dX1_collect_204 rfl (lv_at hl 9 rfl) ?_
    refine g11_0 hx hb hts hown hK hR l1 q1253 dX1_collect_205 ?_
    refine va_callv (va_runI (As := [.int (r_188_b), .int (x_75_a), .int (r_126_b), .int (r_201_b), .int (nI a1)]) (rest := [.ref (q_183_b), .int (x_18), .ref (y.2 46 a2)]) ⟨hx, hb, hml, hown, hts⟩ (m_X17_init (X := xl X [(q_183_b, .inr (10, [.int 0, .int 0, .int 0, .int 0, .int 0, .int 0]))]) (Or.inr ⟨0, rfl⟩)) (cwI 5 hts (lw_meth q1541) rfl rfl rfl (hts _ q115) (hts _ q1539) (hts _ q1540) rfl (by decide +kernel) ⟨Nat.le_of_ble_eq_true rfl, Nat.le_of_ble_eq_true rfl⟩) ⟨RC.blind, RC.pre hR hK⟩ rfl rfl hl.1 rfl (lv_room (Nat.le_of_ble_eq_true rfl)) dX1_collect_208 ⟨(Nat.le_of_ble_eq_true rfl), (Nat.le_of_ble_eq_true rfl)⟩) hS (fun _ _ h => h) (fun _ h => h) (fun u9 t9 H locs ht9 _ hp9 hB9 hz9 _ hS => ?_)
    rw [ht9] at hB9
    have hR := hR.wroteL (t := 0) rfl hB9
    clear hB9 hz9 hp9
    have hR : Rp κ w_201_b y X [(q_183_b, .inr (10, [.int (r_188_b), .int (x_75_a), .int (r_126_b), .int (r_201_b), .int (nI a1), .int 0]))] H := hR
    refine jr_of (rest := [.int (x_18), .ref (y.2 46 a2)]) ⟨hx, hb, hml, hown, hts⟩ hK hR hS q1355 ⟨Nat.le_of_ble_eq_true rfl, Nat.le_of_ble_eq_true rfl⟩ hl.1 (Nat.le_of_ble_eq_true rfl) dX1_collect_211 ⟨(Nat.le_of_ble_eq_true rfl), (Nat.le_of_ble_eq_true rfl)⟩ (fun q_211_b H locs hR hS => ?_)
    have hR : Rp κ w_201_b y X [(q_183_b, .inr (10, [.int (r_188_b), .int (x_75_a), .int (r_126_b), .int (r_201_b), .int (nI a1), .int 0])), (q_211_b, .inr (18, [.ref q_183_b]))] H := hR
    have o_214_b := h.1
    have h := h.2
    have lv_214_j := hW.wor
    have lv_214_k := o_4.2
    have lv_214_l := l0
    have lv_214_m := l1
    have lv_214_n := l2
    have hd9 : (x_18).toNatClampNeg < 3 := by have h9 := vp_lt o_214_b; rw [show y.1 146 a2 = 3 from hW.vl3 l2] at h9; exact h9
    refine jr_set46 ⟨hx, hb, hml, hown, hts⟩ hK hR hS hW l2 o_214_b rfl q1566 ⟨Nat.le_of_ble_eq_true rfl, Nat.le_of_ble_eq_true rfl⟩ hl.1 (Nat.le_of_ble_eq_true rfl) dX1_collect_214 ⟨(Nat.le_of_ble_eq_true rfl), (Nat.le_of_ble_eq_true rfl)⟩ (fun a_214_b H locs w_214_b y_214_b ew_214_b ey_214_b hR hS => ?_)
    have h := h w_214_b ew_214_b y_214_b _ _ ey_214_b
    have hL1_y_214_b : LeS y y_214_b := by rw [ey_214_b]; exact leS_lev
    have hW_y_214_b : WFc κ y_214_b := by rw [ey_214_b]; exact WFc.lev9 hW hd9
    have lw_214_j := hL1_y_214_b.live (k := 1) rfl lv_214_j
    have lw_214_k := hL1_y_214_b.live (k := 9) rfl lv_214_k
    have lw_214_l := hL1_y_214_b.live (k := 0) rfl lv_214_l
    have lw_214_m := hL1_y_214_b.live (k := 11) rfl lv_214_m
    have lw_214_n := hL1_y_214_b.live (k := 6) rfl lv_214_n
    have hl : lv_has ls 11 [(10, .int (r_126_b)), (9, .ref (y_214_b.2 1 0)), (8, .int (x_75_a)), (7, .int (r_59_a)), (6, .int ((3 : Int32))), (5, .int ((1 : Int32))), (4, .int (x_18)), (3, .ref (y_214_b.2 9 ((gv w 14 a1 0).toNatClampNeg))), (0, .ref (y_214_b.2 0 0)), (1, .ref (y_214_b.2 11 a1)), (2, .ref (y_214_b.2 6 a2))] := by
      rw [hL1_y_214_b.2 0 rfl, hL1_y_214_b.2 1 rfl, hL1_y_214_b.2 6 rfl, hL1_y_214_b.2 9 rfl, hL1_y_214_b.2 11 rfl]
      exact hl
    have hLe_y_214_b : LeS _ y_214_b := (hLe.trans hL1_y_214_b)
    refine lv_pop hx hb dX1_collect_217 rfl ?_
    refine lv_aload_n hx hb dX1_collect_218 rfl (lv_at hl 10 rfl) ?_
    refine lv_iload hx hb dX1_collect_219 (lv_at hl 4 rfl) ?_
    refine ce_qv (fw := fun u => u) (fy := fun _ => y_214_b) (cr_V (n := 1) (As := [.int ((3 : Int32))]) (rest := []) ⟨hx, hb, hml, hown, hts⟩ hK hR (m_X10_stir hW_y_214_b lw_214_n h) q1442 q1443 q1444 q92 q1445 rfl rfl hd_X10_stir ⟨Nat.le_of_ble_eq_true rfl, Nat.le_of_ble_eq_true rfl⟩ (rv hK hR lw_214_n (ci := 6) rfl rfl) rfl rfl hl.1 rfl (lv_room (Nat.le_of_ble_eq_true rfl)) dX1_collect_221 ⟨(Nat.le_of_ble_eq_true rfl), (Nat.le_of_ble_eq_true rfl)⟩) hR hS (fun w_221_b H locs h hR _ hS => ?_)
    refine W.widen (k := 2) (n := 7) (Nat.le_of_ble_eq_true rfl) (Nat.le_of_ble_eq_true rfl) ?_
    exact W.vret hx hb hr (fun t ht hW9 => ⟨⟨(w_221_b, y_214_b), rfl, h, ⟨rpt ht hR, hW_y_214_b, hLe_y_214_b⟩⟩, hS.F ht⟩) hS.2.2 dX1_collect_224
