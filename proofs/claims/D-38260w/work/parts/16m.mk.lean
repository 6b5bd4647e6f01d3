/-! CONSTRUCTORS that make further objects (printed by wip gen/mkp.py) -/
set_option maxRecDepth 100000
theorem Rp.toUp {κ : Kx} {w : Wd} {y : Ly} {X : XR} {L : va_W} {H : Heap} {a : Nat} {e0 : va_E} (h : Rp κ w y X L H) (ha : X a e0) : Rp κ w y (upX X a e0) L H :=
  h.back (X := upX X a e0) (fun q e hz => by rcases hz with ⟨rfl, rfl⟩ | ⟨-, hz⟩ <;> assumption) (fun _ _ => False) (fun _ _ h _ => ⟨h, rfl, rfl⟩) (fun _ _ _ h => h.elim) (fun _ _ _ _ _ _ h => h.elim) (fun t q ht => ⟨⟨t, ht⟩, fun _ _ _ h => h.elim⟩) h.LD
/-- a callee has written temporaries of mine -/
theorem Rp.wroteA {κ : Kx} {w w' : Wd} {y y' : Ly} {X X2 X' : XR} {L L' : va_W} {H H1 : Heap} (h : Rp κ w y X L H) (h1 : Rp κ w' y' X' [] H1) (hX2 : ∀ q e, X2 q e → ∃ e', X q e') (hX : ∀ q e, X2 q e → (∀ (t : Nat) (z : Nat × va_E), L[t]? = some z → z.1 ≠ q) → X' q e)
    (hL : ∀ (t : Nat) (q : Nat × va_E), L'[t]? = some q → X' q.1 q.2 ∧ ∃ e, L[t]? = some (q.1, e)) : Rp κ w' y' X2 L' H1 := by
  obtain ⟨a12, a3, a4, a5, a6, a7, a8⟩ := h
  obtain ⟨b12, b3, b4, b5, b6, b7, b8⟩ := h1
  refine ⟨b12, b3, b4, fun q e hx => b5 q e (hX q e hx (fun t z hz e9 => by obtain ⟨e', h9⟩ := hX2 q e hx; exact (a8 t z hz).1 e' (by rw [e9]; exact h9))), fun t q ht => (b5 q.1 q.2 (hL t q ht).1).1, ⟨fun i j x z hi hj e => ?_, fun t q ht => ?_⟩, fun t q ht => ?_⟩
  · obtain ⟨-, e1, h1⟩ := hL i x hi
    obtain ⟨-, e2, h2⟩ := hL j z hj
    exact a7.1 i j _ _ h1 h2 e
  · obtain ⟨-, e1, h1⟩ := hL t q ht
    exact a7.2 t (q.1, e1) h1
  · obtain ⟨k1, e1, h1⟩ := hL t q ht
    exact ⟨fun e hx => by obtain ⟨e', h9⟩ := hX2 q.1 e hx; exact (a8 t _ h1).1 e' h9, (b5 q.1 q.2 k1).2.2⟩
theorem ob_em {κ : Kx} {w : Wd} {y : Ly} {X : XR} {L : va_W} {H : Heap} {s : State} (hK : KK κ s) (hR : Rp κ w y X L H) : Ob κ H (kA κ 0) := ⟨18, _, _, rfl, List.mem_of_getElem? (i := 18) rfl, hK.2.2.1.kept (hR.1.2 _ hK.2.2.2.2.2.1.1)⟩
theorem hd_X12_init : yX12_init.cls = RX12 ∧ yX12_init.cls ≠ "java/lang/invoke/MethodHandle" ∧ yX12_init.cls ≠ "java/lang/invoke/VarHandle" ∧ (parseMethodDescriptor yX12_init.desc).map (fun d => d.parameters.length) = some 3 := by decide +kernel
abbrev rm_X12_init : Room := { frames := 4, cells := 2, slots := 4, locals := 92 }
set_option maxHeartbeats 4000000 in
theorem m_X12_init {l : Launch} {κ : Kx} {w : Wd} {y : Ly} {X : XR} {q : Nat} {p1 : Int32} {p2 : Int32} {p3 : Int32} (hX : X q (.inr (7, [.int 0, .null, .null, .int 0, .int 0, .int 0, .int 0, .int 0, .int 0, .int 0, .int 0, .int 0]))) : Met l yX12_init (ws_ yX12_init cX12_init 4 (Option.none : Option Jvm.ClassFile.FieldType)) rm_X12_init (va_Pc [.ref q, .int p1, .int p2, .int p3] (RC κ w y X)) (va_Qv (fun _ : Nat × Nat => True) (fun u t => Rp κ w y (upX X q (.inr (7, [.int p1, .ref u.1, .ref u.2, .int p2, .int 0, .int p3, .int 0, .int 0, .int 0, .int 0, .int 0, .int 0]))) [(u.1, .inr (1, [.int 0])), (u.2, eL 0 (kA κ 1) 0)] t.heap) (Af κ)) 2 4 (Af κ) := by
  refine Met.ofW (cc := cX12_init) (maxL := 4) (ret := (Option.none : Option Jvm.ClassFile.FieldType)) (by decide) rfl ?_
  intro p e s m args below meth c s₁ B hml hv
  obtain ⟨rfl, hR, hK⟩ := hv
  have hx := B.exec
  have hb := B.bytes
  have hr := B.returns
  have hts := atoms_spec (ws := ws_ yX12_init cX12_init 4 (Option.none : Option Jvm.ClassFile.FieldType)) B.pre
  have hts : ∀ w ∈ lw_all, w.before _ s = true := fun w h => hts w (List.mem_cons_of_mem _ h)
  have hown : s.vm.findClass RX12 = some m.cls := findClass_of_methodNamed B.named
  have hlocks := B.notSynchronized
  have hS : va_S (Af κ) s.heap s.heap [] := va_S.rf
  have hl := lv_entry ([.ref q, .int p1, .int p2, .int p3]) (n := 4) (Nat.le_of_ble_eq_true rfl)
  rw [lg_entry_eq]
  generalize (lg_sl ([.ref q, .int p1, .int p2, .int p3]) ++ List.replicate (4 - (lg_sl ([.ref q, .int p1, .int p2, .int p3])).length) Slot.unset).toArray = ls at hl ⊢
  have hl : lv_has ls 4 [(0, .ref q), (1, .int p1), (2, .int p2), (3, .int p3)] := hl
  have hin : meth.name = "<init>" := (name_of_methodNamed B.named B.method).1
  have hR := hR.toUp hX
  refine lv_aload_n hx hb dX12_init_0 rfl (lv_at hl 0 rfl) ?_
  refine W.objInit hx hb hown (hts _ q1115) (hts _ q127) (hts _ q128) rfl (by rw [hml]; exact hl.1) rfl dX12_init_1 (Nat.le_of_ble_eq_true rfl) (Nat.le_of_ble_eq_true rfl) ?_
  refine W.eq (g2 := F0 m 4 ls []) rfl ?_
  refine lv_aload_n hx hb dX12_init_4 rfl (lv_at hl 0 rfl) ?_
  refine xa_new (C := RX2) (T := TX2) (N := 1) (ci := 1) (fs := [.int 0]) hx hb hts in_X2 tyX2 tyX2_ok hown q1116 q174 q78 hK.1 hS rfl (fun j hj => by rcases (show j = 0 by omega) with rfl <;> rfl) (Nat.le_of_ble_eq_true rfl) (Nat.le_of_ble_eq_true rfl) dX12_init_5 (fun a1 H1 hq h1 hz ho hS => ?_)
  have hR := hR.newL hq h1 (by omega) ho
  clear hq h1 hz ho
  generalize H1 = H at hR hS ⊢
  have hR : Rp κ w y (upX X q (.inr (7, [.int 0, .null, .null, .int 0, .int 0, .int 0, .int 0, .int 0, .int 0, .int 0, .int 0, .int 0]))) [(a1, .inr (1, [.int 0]))] H := hR
  refine lv_dup hx hb dX12_init_8 rfl ?_
  refine va_callv (va_runIN (As := []) (rest := [.ref a1, .ref q]) ⟨hx, hb, hml, hown, hts⟩ (m_X2_init (X := xl (upX X q (.inr (7, [.int 0, .null, .null, .int 0, .int 0, .int 0, .int 0, .int 0, .int 0, .int 0, .int 0, .int 0]))) [(a1, .inr (1, [.int 0]))]) (Or.inr ⟨0, rfl⟩)) ⟨va_cnB 0 hts (lw_meth q167) rfl rfl rfl (hK.2.1.1 _ (List.mem_of_getElem? (i := 8) rfl)) (hts _ q78) (by decide +kernel) ⟨Nat.le_of_ble_eq_true rfl, Nat.le_of_ble_eq_true rfl⟩, rfl, hts _ q166⟩ ⟨RC.blind, RC.pre hR hK⟩ rfl rfl hl.1 rfl (lv_room (Nat.le_of_ble_eq_true rfl)) dX12_init_9 ⟨Nat.le_of_ble_eq_true rfl, Nat.le_of_ble_eq_true rfl⟩) hS (fun _ _ h => h) (fun _ h => h) (fun u2 t9 H locs ht9 _ hp9 hB9 hz9 _ hS => ?_)
  rw [ht9] at hB9
  have hR := hR.up hB9
  clear hp9 hz9 hB9
  have hR : Rp κ w y (upX X q (.inr (7, [.int 0, .null, .null, .int 0, .int 0, .int 0, .int 0, .int 0, .int 0, .int 0, .int 0, .int 0]))) [(a1, .inr (1, [.int 0]))] H := hR
  refine xa_putF (T := TX12) (N := 12) hx hb hts in_X12 tyX12 tyX12_ok nmX12 hown hK.1 hS (hR.2.2.2.1 _ _ (upX_self _ _ _)).2.1 (hR.X (upX_self _ _ _)) rfl 1 (by decide) q1123 rfl rfl hin rfl rfl rfl (Nat.le_of_ble_eq_true rfl) dX12_init_12 (fun H1 locs h1 hz ho hS => ?_)
  have hR := hR.putXL2 h1 hz ho
  clear h1 hz ho
  generalize H1 = H at hR hS ⊢
  have hR : Rp κ w y (upX X q (.inr (7, [.int 0, .ref a1, .null, .int 0, .int 0, .int 0, .int 0, .int 0, .int 0, .int 0, .int 0, .int 0]))) [(a1, .inr (1, [.int 0]))] H := hR
  refine lv_aload_n hx hb dX12_init_15 rfl (lv_at hl 0 rfl) ?_
  refine xa_new (C := RJ2) (T := TJ2) (N := 3) (ci := 16) (fs := [.int 0, .null, .int 0]) hx hb hts in_J2 tyJ2 tyJ2_ok hown q1118 q130 q77 hK.1 hS rfl (fun j hj => by rcases (show j = 0 ∨ j = 1 ∨ j = 2 by omega) with rfl | rfl | rfl <;> rfl) (Nat.le_of_ble_eq_true rfl) (Nat.le_of_ble_eq_true rfl) dX12_init_16 (fun a3 H1 hq h1 hz ho hS => ?_)
  have hR := hR.newL hq h1 (by omega) ho
  clear hq h1 hz ho
  generalize H1 = H at hR hS ⊢
  have hR : Rp κ w y (upX X q (.inr (7, [.int 0, .ref a1, .null, .int 0, .int 0, .int 0, .int 0, .int 0, .int 0, .int 0, .int 0, .int 0]))) [(a1, .inr (1, [.int 0])), (a3, .inr (16, [.int 0, .null, .int 0]))] H := hR
  refine lv_dup hx hb dX12_init_19 rfl ?_
  refine va_callv (va_runI (As := []) (rest := [.ref a3, .ref q]) ⟨hx, hb, hml, hown, hts⟩ (m_J2_init (X := xl (upX X q (.inr (7, [.int 0, .ref a1, .null, .int 0, .int 0, .int 0, .int 0, .int 0, .int 0, .int 0, .int 0, .int 0]))) [(a1, .inr (1, [.int 0])), (a3, .inr (16, [.int 0, .null, .int 0]))]) (Or.inr ⟨1, rfl⟩)) (cwI 0 hts (lw_meth q133) rfl rfl rfl (hts _ q77) (hts _ q1119) (hts _ q132) rfl (by decide +kernel) ⟨Nat.le_of_ble_eq_true rfl, Nat.le_of_ble_eq_true rfl⟩) ⟨RC.blind, RC.pre hR hK⟩ rfl rfl hl.1 rfl (lv_room (Nat.le_of_ble_eq_true rfl)) dX12_init_20 ⟨Nat.le_of_ble_eq_true rfl, Nat.le_of_ble_eq_true rfl⟩) hS (fun _ _ h => h) (fun _ h => h) (fun u4 t9 H locs ht9 _ hp9 hB9 hz9 _ hS => ?_)
  rw [ht9] at hB9
  have hR := hR.wroteL (t := 1) rfl hB9
  clear hp9 hz9 hB9
  have hR : Rp κ w y (upX X q (.inr (7, [.int 0, .ref a1, .null, .int 0, .int 0, .int 0, .int 0, .int 0, .int 0, .int 0, .int 0, .int 0]))) [(a1, .inr (1, [.int 0])), (a3, eL 0 (kA κ 1) 0)] H := hR
  refine xa_putF (T := TX12) (N := 12) hx hb hts in_X12 tyX12 tyX12_ok nmX12 hown hK.1 hS (hR.2.2.2.1 _ _ (upX_self _ _ _)).2.1 (hR.X (upX_self _ _ _)) rfl 2 (by decide) q1125 rfl rfl hin rfl rfl rfl (Nat.le_of_ble_eq_true rfl) dX12_init_23 (fun H1 locs h1 hz ho hS => ?_)
  have hR := hR.putXL2 h1 hz ho
  clear h1 hz ho
  generalize H1 = H at hR hS ⊢
  have hR : Rp κ w y (upX X q (.inr (7, [.int 0, .ref a1, .ref a3, .int 0, .int 0, .int 0, .int 0, .int 0, .int 0, .int 0, .int 0, .int 0]))) [(a1, .inr (1, [.int 0])), (a3, eL 0 (kA κ 1) 0)] H := hR
  refine lv_aload_n hx hb dX12_init_26 rfl (lv_at hl 0 rfl) ?_
  refine lv_iload_n hx hb dX12_init_27 rfl (lv_at hl 1 rfl) ?_
  refine xa_putF (T := TX12) (N := 12) hx hb hts in_X12 tyX12 tyX12_ok nmX12 hown hK.1 hS (hR.2.2.2.1 _ _ (upX_self _ _ _)).2.1 (hR.X (upX_self _ _ _)) rfl 0 (by decide) q1120 rfl rfl hin rfl rfl rfl (Nat.le_of_ble_eq_true rfl) dX12_init_28 (fun H1 locs h1 hz ho hS => ?_)
  have hR := hR.putXL2 h1 hz ho
  clear h1 hz ho
  generalize H1 = H at hR hS ⊢
  have hR : Rp κ w y (upX X q (.inr (7, [.int p1, .ref a1, .ref a3, .int 0, .int 0, .int 0, .int 0, .int 0, .int 0, .int 0, .int 0, .int 0]))) [(a1, .inr (1, [.int 0])), (a3, eL 0 (kA κ 1) 0)] H := hR
  refine lv_aload_n hx hb dX12_init_31 rfl (lv_at hl 0 rfl) ?_
  refine lv_iload_n hx hb dX12_init_32 rfl (lv_at hl 2 rfl) ?_
  refine xa_put (T := TX12) (N := 12) hx hb hts in_X12 tyX12 tyX12_ok nmX12 hown hK.1 hS (hR.2.2.2.1 _ _ (upX_self _ _ _)).2.1 (hR.X (upX_self _ _ _)) rfl 3 (by decide) q1127 rfl rfl rfl rfl (Nat.le_of_ble_eq_true rfl) dX12_init_33 (fun H1 locs h1 hz ho hS => ?_)
  have hR := hR.putXL2 h1 hz ho
  clear h1 hz ho
  generalize H1 = H at hR hS ⊢
  have hR : Rp κ w y (upX X q (.inr (7, [.int p1, .ref a1, .ref a3, .int p2, .int 0, .int 0, .int 0, .int 0, .int 0, .int 0, .int 0, .int 0]))) [(a1, .inr (1, [.int 0])), (a3, eL 0 (kA κ 1) 0)] H := hR
  refine lv_aload_n hx hb dX12_init_36 rfl (lv_at hl 0 rfl) ?_
  refine lv_iload_n hx hb dX12_init_37 rfl (lv_at hl 3 rfl) ?_
  refine xa_put (T := TX12) (N := 12) hx hb hts in_X12 tyX12 tyX12_ok nmX12 hown hK.1 hS (hR.2.2.2.1 _ _ (upX_self _ _ _)).2.1 (hR.X (upX_self _ _ _)) rfl 5 (by decide) q1132 rfl rfl rfl rfl (Nat.le_of_ble_eq_true rfl) dX12_init_38 (fun H1 locs h1 hz ho hS => ?_)
  have hR := hR.putXL2 h1 hz ho
  clear h1 hz ho
  generalize H1 = H at hR hS ⊢
  have hR : Rp κ w y (upX X q (.inr (7, [.int p1, .ref a1, .ref a3, .int p2, .int 0, .int p3, .int 0, .int 0, .int 0, .int 0, .int 0, .int 0]))) [(a1, .inr (1, [.int 0])), (a3, eL 0 (kA κ 1) 0)] H := hR
  exact W.vret hx hb hr (fun t ht hW9 => ⟨⟨(a1, a3), rfl, trivial, rpt ht hR⟩, hS.F ht⟩) hS.2.2 dX12_init_41
theorem hd_X15_init : yX15_init.cls = RX15 ∧ yX15_init.cls ≠ "java/lang/invoke/MethodHandle" ∧ yX15_init.cls ≠ "java/lang/invoke/VarHandle" ∧ (parseMethodDescriptor yX15_init.desc).map (fun d => d.parameters.length) = some 5 := by decide +kernel
abbrev rm_X15_init : Room := { frames := 2, cells := 2, slots := 12, locals := 60 }
set_option maxHeartbeats 4000000 in
theorem m_X15_init {l : Launch} {κ : Kx} {w : Wd} {y : Ly} {X : XR} {q : Nat} {p1 : Int32} {d2 : Nat} {p3 : Int32} {p4 : Int32} {p5 : Int32} (hX : X q (.inr (9, [.int 0, .null, .int 0, .int 0, .int 0, .null, .null, .null, .null, .int 0, .int 0, .int 0, .int 0, .int 0, .int 0]))) : Met l yX15_init (ws_ yX15_init cX15_init 6 (Option.none : Option Jvm.ClassFile.FieldType)) rm_X15_init (va_Pc [.ref q, .int p1, .ref (kA κ (20 + d2)), .int p3, .int p4, .int p5] (RC κ w y X)) (va_Qv (fun _ : Nat × Nat => True) (fun u t => Rp κ w y (upX X q (.inr (9, [.int p1, .ref (kA κ (20 + d2)), .int p3, .int p4, .int p5, .ref u.1, .ref u.2, .ref (kA κ 10), .ref (kA κ 0), .int 0, .int 0, .int 0, .int 0, .int 0, .int (-1)]))) [(u.1, .inl (kT κ 0, (4, .inl (fun _ => 0)))), (u.2, .inl (kT κ 0, (8, .inl (fun _ => 0))))] t.heap) (Af κ)) 2 12 (Af κ) := by
  refine Met.ofW (cc := cX15_init) (maxL := 6) (ret := (Option.none : Option Jvm.ClassFile.FieldType)) (by decide) rfl ?_
  intro p e s m args below meth c s₁ B hml hv
  obtain ⟨rfl, hR, hK⟩ := hv
  have hx := B.exec
  have hb := B.bytes
  have hr := B.returns
  have hts := atoms_spec (ws := ws_ yX15_init cX15_init 6 (Option.none : Option Jvm.ClassFile.FieldType)) B.pre
  have hts : ∀ w ∈ lw_all, w.before _ s = true := fun w h => hts w (List.mem_cons_of_mem _ h)
  have hown : s.vm.findClass RX15 = some m.cls := findClass_of_methodNamed B.named
  have hlocks := B.notSynchronized
  have hS : va_S (Af κ) s.heap s.heap [] := va_S.rf
  have hl := lv_entry ([.ref q, .int p1, .ref (kA κ (20 + d2)), .int p3, .int p4, .int p5]) (n := 6) (Nat.le_of_ble_eq_true rfl)
  rw [lg_entry_eq]
  generalize (lg_sl ([.ref q, .int p1, .ref (kA κ (20 + d2)), .int p3, .int p4, .int p5]) ++ List.replicate (6 - (lg_sl ([.ref q, .int p1, .ref (kA κ (20 + d2)), .int p3, .int p4, .int p5])).length) Slot.unset).toArray = ls at hl ⊢
  have hl : lv_has ls 6 [(0, .ref q), (1, .int p1), (2, .ref (kA κ (20 + d2))), (3, .int p3), (4, .int p4), (5, .int p5)] := hl
  have hin : meth.name = "<init>" := (name_of_methodNamed B.named B.method).1
  have hR := hR.toUp hX
  refine lv_aload_n hx hb dX15_init_0 rfl (lv_at hl 0 rfl) ?_
  refine W.objInit hx hb hown (hts _ q1250) (hts _ q127) (hts _ q128) rfl (by rw [hml]; exact hl.1) rfl dX15_init_1 (Nat.le_of_ble_eq_true rfl) (Nat.le_of_ble_eq_true rfl) ?_
  refine W.eq (g2 := F0 m 4 ls []) rfl ?_
  refine lv_aload_n hx hb dX15_init_4 rfl (lv_at hl 0 rfl) ?_
  refine lv_iconst (v := 4) hx hb dX15_init_5 (by decide) ?_
  refine xa_newa (ty := .int) (N' := 4) (a0 := (4, .inl (fun _ => 0))) hx hb hts q995 rfl hK.1 0 rfl (by intro C h9; cases h9) hS rfl (by decide) (by decide) (by decide) (Nat.le_of_ble_eq_true rfl) (Nat.le_of_ble_eq_true rfl) dX15_init_6 (fun a1 H1 hq h1 hz ho hS => ?_)
  have hR := hR.newL hq h1 (by omega) ho
  clear hq h1 hz ho
  generalize H1 = H at hR hS ⊢
  have hR : Rp κ w y (upX X q (.inr (9, [.int 0, .null, .int 0, .int 0, .int 0, .null, .null, .null, .null, .int 0, .int 0, .int 0, .int 0, .int 0, .int 0]))) [(a1, .inl (kT κ 0, (4, .inl (fun _ => 0))))] H := hR
  refine xa_putF (T := TX15) (N := 15) hx hb hts in_X15 tyX15 tyX15_ok nmX15 hown hK.1 hS (hR.2.2.2.1 _ _ (upX_self _ _ _)).2.1 (hR.X (upX_self _ _ _)) rfl 5 (by decide) q1262 rfl rfl hin rfl rfl rfl (Nat.le_of_ble_eq_true rfl) dX15_init_8 (fun H1 locs h1 hz ho hS => ?_)
  have hR := hR.putXL2 h1 hz ho
  clear h1 hz ho
  generalize H1 = H at hR hS ⊢
  have hR : Rp κ w y (upX X q (.inr (9, [.int 0, .null, .int 0, .int 0, .int 0, .ref a1, .null, .null, .null, .int 0, .int 0, .int 0, .int 0, .int 0, .int 0]))) [(a1, .inl (kT κ 0, (4, .inl (fun _ => 0))))] H := hR
  refine lv_aload_n hx hb dX15_init_11 rfl (lv_at hl 0 rfl) ?_
  refine lv_bipush (v := 8) hx hb dX15_init_12 (by decide) ?_
  refine xa_newa (ty := .int) (N' := 8) (a0 := (8, .inl (fun _ => 0))) hx hb hts q995 rfl hK.1 0 rfl (by intro C h9; cases h9) hS rfl (by decide) (by decide) (by decide) (Nat.le_of_ble_eq_true rfl) (Nat.le_of_ble_eq_true rfl) dX15_init_14 (fun a2 H1 hq h1 hz ho hS => ?_)
  have hR := hR.newL hq h1 (by omega) ho
  clear hq h1 hz ho
  generalize H1 = H at hR hS ⊢
  have hR : Rp κ w y (upX X q (.inr (9, [.int 0, .null, .int 0, .int 0, .int 0, .ref a1, .null, .null, .null, .int 0, .int 0, .int 0, .int 0, .int 0, .int 0]))) [(a1, .inl (kT κ 0, (4, .inl (fun _ => 0)))), (a2, .inl (kT κ 0, (8, .inl (fun _ => 0))))] H := hR
  refine xa_putF (T := TX15) (N := 15) hx hb hts in_X15 tyX15 tyX15_ok nmX15 hown hK.1 hS (hR.2.2.2.1 _ _ (upX_self _ _ _)).2.1 (hR.X (upX_self _ _ _)) rfl 6 (by decide) q1264 rfl rfl hin rfl rfl rfl (Nat.le_of_ble_eq_true rfl) dX15_init_16 (fun H1 locs h1 hz ho hS => ?_)
  have hR := hR.putXL2 h1 hz ho
  clear h1 hz ho
  generalize H1 = H at hR hS ⊢
  have hR : Rp κ w y (upX X q (.inr (9, [.int 0, .null, .int 0, .int 0, .int 0, .ref a1, .ref a2, .null, .null, .int 0, .int 0, .int 0, .int 0, .int 0, .int 0]))) [(a1, .inl (kT κ 0, (4, .inl (fun _ => 0)))), (a2, .inl (kT κ 0, (8, .inl (fun _ => 0))))] H := hR
  refine lv_aload_n hx hb dX15_init_19 rfl (lv_at hl 0 rfl) ?_
  refine jr_gets (C := "Publicanry$Stand") (n := "OFFERED") (d := "LPublicanry$Stand;") (j := 10) hx hb hown hK hR hS (List.mem_of_getElem? (i := 2) rfl) q502 hts dX15_init_20 ?_
  refine xa_put (T := TX15) (N := 15) hx hb hts in_X15 tyX15 tyX15_ok nmX15 hown hK.1 hS (hR.2.2.2.1 _ _ (upX_self _ _ _)).2.1 (hR.X (upX_self _ _ _)) rfl 7 (by decide) q1266 rfl rfl rfl rfl (Nat.le_of_ble_eq_true rfl) dX15_init_23 (fun H1 locs h1 hz ho hS => ?_)
  have hR := hR.putXL2 h1 hz ho
  clear h1 hz ho
  generalize H1 = H at hR hS ⊢
  have hR : Rp κ w y (upX X q (.inr (9, [.int 0, .null, .int 0, .int 0, .int 0, .ref a1, .ref a2, .ref (kA κ 10), .null, .int 0, .int 0, .int 0, .int 0, .int 0, .int 0]))) [(a1, .inl (kT κ 0, (4, .inl (fun _ => 0)))), (a2, .inl (kT κ 0, (8, .inl (fun _ => 0))))] H := hR
  refine lv_aload_n hx hb dX15_init_26 rfl (lv_at hl 0 rfl) ?_
  refine jr_empty (rest := [.ref q]) ⟨hx, hb, hml, hown, hts⟩ hK hR q1251 ⟨Nat.le_of_ble_eq_true rfl, Nat.le_of_ble_eq_true rfl⟩ hl.1 (Nat.le_of_ble_eq_true rfl) dX15_init_27 ⟨Nat.le_of_ble_eq_true rfl, Nat.le_of_ble_eq_true rfl⟩ ?_
  refine xa_put (T := TX15) (N := 15) hx hb hts in_X15 tyX15 tyX15_ok nmX15 hown hK.1 hS (hR.2.2.2.1 _ _ (upX_self _ _ _)).2.1 (hR.X (upX_self _ _ _)) rfl 8 (by decide) q1268 rfl rfl rfl rfl (Nat.le_of_ble_eq_true rfl) dX15_init_30 (fun H1 locs h1 hz ho hS => ?_)
  have hR := hR.putXL2 h1 hz ho
  clear h1 hz ho
  generalize H1 = H at hR hS ⊢
  have hR : Rp κ w y (upX X q (.inr (9, [.int 0, .null, .int 0, .int 0, .int 0, .ref a1, .ref a2, .ref (kA κ 10), .ref (kA κ 0), .int 0, .int 0, .int 0, .int 0, .int 0, .int 0]))) [(a1, .inl (kT κ 0, (4, .inl (fun _ => 0)))), (a2, .inl (kT κ 0, (8, .inl (fun _ => 0))))] H := hR
  refine lv_aload_n hx hb dX15_init_33 rfl (lv_at hl 0 rfl) ?_
  refine lv_iconst (v := (-1)) hx hb dX15_init_34 (by decide) ?_
  refine xa_put (T := TX15) (N := 15) hx hb hts in_X15 tyX15 tyX15_ok nmX15 hown hK.1 hS (hR.2.2.2.1 _ _ (upX_self _ _ _)).2.1 (hR.X (upX_self _ _ _)) rfl 14 (by decide) q1277 rfl rfl rfl rfl (Nat.le_of_ble_eq_true rfl) dX15_init_35 (fun H1 locs h1 hz ho hS => ?_)
  have hR := hR.putXL2 h1 hz ho
  clear h1 hz ho
  generalize H1 = H at hR hS ⊢
  have hR : Rp κ w y (upX X q (.inr (9, [.int 0, .null, .int 0, .int 0, .int 0, .ref a1, .ref a2, .ref (kA κ 10), .ref (kA κ 0), .int 0, .int 0, .int 0, .int 0, .int 0, .int (-1)]))) [(a1, .inl (kT κ 0, (4, .inl (fun _ => 0)))), (a2, .inl (kT κ 0, (8, .inl (fun _ => 0))))] H := hR
  refine lv_aload_n hx hb dX15_init_38 rfl (lv_at hl 0 rfl) ?_
  refine lv_iload_n hx hb dX15_init_39 rfl (lv_at hl 1 rfl) ?_
  refine xa_putF (T := TX15) (N := 15) hx hb hts in_X15 tyX15 tyX15_ok nmX15 hown hK.1 hS (hR.2.2.2.1 _ _ (upX_self _ _ _)).2.1 (hR.X (upX_self _ _ _)) rfl 0 (by decide) q1252 rfl rfl hin rfl rfl rfl (Nat.le_of_ble_eq_true rfl) dX15_init_40 (fun H1 locs h1 hz ho hS => ?_)
  have hR := hR.putXL2 h1 hz ho
  clear h1 hz ho
  generalize H1 = H at hR hS ⊢
  have hR : Rp κ w y (upX X q (.inr (9, [.int p1, .null, .int 0, .int 0, .int 0, .ref a1, .ref a2, .ref (kA κ 10), .ref (kA κ 0), .int 0, .int 0, .int 0, .int 0, .int 0, .int (-1)]))) [(a1, .inl (kT κ 0, (4, .inl (fun _ => 0)))), (a2, .inl (kT κ 0, (8, .inl (fun _ => 0))))] H := hR
  refine lv_aload_n hx hb dX15_init_43 rfl (lv_at hl 0 rfl) ?_
  refine lv_aload_n hx hb dX15_init_44 rfl (lv_at hl 2 rfl) ?_
  refine xa_putF (T := TX15) (N := 15) hx hb hts in_X15 tyX15 tyX15_ok nmX15 hown hK.1 hS (hR.2.2.2.1 _ _ (upX_self _ _ _)).2.1 (hR.X (upX_self _ _ _)) rfl 1 (by decide) q1254 rfl rfl hin rfl rfl rfl (Nat.le_of_ble_eq_true rfl) dX15_init_45 (fun H1 locs h1 hz ho hS => ?_)
  have hR := hR.putXL2 h1 hz ho
  clear h1 hz ho
  generalize H1 = H at hR hS ⊢
  have hR : Rp κ w y (upX X q (.inr (9, [.int p1, .ref (kA κ (20 + d2)), .int 0, .int 0, .int 0, .ref a1, .ref a2, .ref (kA κ 10), .ref (kA κ 0), .int 0, .int 0, .int 0, .int 0, .int 0, .int (-1)]))) [(a1, .inl (kT κ 0, (4, .inl (fun _ => 0)))), (a2, .inl (kT κ 0, (8, .inl (fun _ => 0))))] H := hR
  refine lv_aload_n hx hb dX15_init_48 rfl (lv_at hl 0 rfl) ?_
  refine lv_iload_n hx hb dX15_init_49 rfl (lv_at hl 3 rfl) ?_
  refine xa_putF (T := TX15) (N := 15) hx hb hts in_X15 tyX15 tyX15_ok nmX15 hown hK.1 hS (hR.2.2.2.1 _ _ (upX_self _ _ _)).2.1 (hR.X (upX_self _ _ _)) rfl 2 (by decide) q1256 rfl rfl hin rfl rfl rfl (Nat.le_of_ble_eq_true rfl) dX15_init_50 (fun H1 locs h1 hz ho hS => ?_)
  have hR := hR.putXL2 h1 hz ho
  clear h1 hz ho
  generalize H1 = H at hR hS ⊢
  have hR : Rp κ w y (upX X q (.inr (9, [.int p1, .ref (kA κ (20 + d2)), .int p3, .int 0, .int 0, .ref a1, .ref a2, .ref (kA κ 10), .ref (kA κ 0), .int 0, .int 0, .int 0, .int 0, .int 0, .int (-1)]))) [(a1, .inl (kT κ 0, (4, .inl (fun _ => 0)))), (a2, .inl (kT κ 0, (8, .inl (fun _ => 0))))] H := hR
  refine lv_aload_n hx hb dX15_init_53 rfl (lv_at hl 0 rfl) ?_
  refine lv_iload hx hb dX15_init_54 (lv_at hl 4 rfl) ?_
  refine xa_putF (T := TX15) (N := 15) hx hb hts in_X15 tyX15 tyX15_ok nmX15 hown hK.1 hS (hR.2.2.2.1 _ _ (upX_self _ _ _)).2.1 (hR.X (upX_self _ _ _)) rfl 3 (by decide) q1258 rfl rfl hin rfl rfl rfl (Nat.le_of_ble_eq_true rfl) dX15_init_56 (fun H1 locs h1 hz ho hS => ?_)
  have hR := hR.putXL2 h1 hz ho
  clear h1 hz ho
  generalize H1 = H at hR hS ⊢
  have hR : Rp κ w y (upX X q (.inr (9, [.int p1, .ref (kA κ (20 + d2)), .int p3, .int p4, .int 0, .ref a1, .ref a2, .ref (kA κ 10), .ref (kA κ 0), .int 0, .int 0, .int 0, .int 0, .int 0, .int (-1)]))) [(a1, .inl (kT κ 0, (4, .inl (fun _ => 0)))), (a2, .inl (kT κ 0, (8, .inl (fun _ => 0))))] H := hR
  refine lv_aload_n hx hb dX15_init_59 rfl (lv_at hl 0 rfl) ?_
  refine lv_iload hx hb dX15_init_60 (lv_at hl 5 rfl) ?_
  refine xa_putF (T := TX15) (N := 15) hx hb hts in_X15 tyX15 tyX15_ok nmX15 hown hK.1 hS (hR.2.2.2.1 _ _ (upX_self _ _ _)).2.1 (hR.X (upX_self _ _ _)) rfl 4 (by decide) q1260 rfl rfl hin rfl rfl rfl (Nat.le_of_ble_eq_true rfl) dX15_init_62 (fun H1 locs h1 hz ho hS => ?_)
  have hR := hR.putXL2 h1 hz ho
  clear h1 hz ho
  generalize H1 = H at hR hS ⊢
  have hR : Rp κ w y (upX X q (.inr (9, [.int p1, .ref (kA κ (20 + d2)), .int p3, .int p4, .int p5, .ref a1, .ref a2, .ref (kA κ 10), .ref (kA κ 0), .int 0, .int 0, .int 0, .int 0, .int 0, .int (-1)]))) [(a1, .inl (kT κ 0, (4, .inl (fun _ => 0)))), (a2, .inl (kT κ 0, (8, .inl (fun _ => 0))))] H := hR
  exact W.vret hx hb hr (fun t ht hW9 => ⟨⟨(a1, a2), rfl, trivial, rpt ht hR⟩, hS.F ht⟩) hS.2.2 dX15_init_65
theorem hd_X10_init : yX10_init.cls = RX10 ∧ yX10_init.cls ≠ "java/lang/invoke/MethodHandle" ∧ yX10_init.cls ≠ "java/lang/invoke/VarHandle" ∧ (parseMethodDescriptor yX10_init.desc).map (fun d => d.parameters.length) = some 5 := by decide +kernel
abbrev rm_X10_init : Room := { frames := 6, cells := 5, slots := 20, locals := 171 }
set_option maxHeartbeats 4000000 in
theorem m_X10_init {l : Launch} {κ : Kx} {w : Wd} {y : Ly} {X : XR} {q : Nat} {p1 : Int32} {p2 : Int32} {p3 : Int32} {p4 : Int32} {p5 : Int32} (hX : X q (.inr (6, [.int 0, .int 0, .null, .null, .null, .null, .int 0, .int 0, .int 0, .int 0, .int 0, .int 0, .int 0, .int 0, .int 0, .int 0, .int 0, .int 0]))) : Met l yX10_init (ws_ yX10_init cX10_init 7 (Option.none : Option Jvm.ClassFile.FieldType)) rm_X10_init (va_Pc [.ref q, .int p1, .int p2, .int p3, .int p4, .int p5] (RC κ w y X)) (va_Qv (fun _ : Nat × Nat × Nat × Nat × Nat => True) (fun u t => Rp κ w y (upX X q (.inr (6, [.int p1, .int p5, .ref u.1, .ref u.2.1, .ref u.2.2.1, .ref u.2.2.2.1, .int p2, .int p3, .int p4, .int (4 * p2), .int 0, .int 0, .int p3, .int 0, .int 0, .int 0, .int 0, .int 0]))) [(u.1, .inr (1, [.int 0])), (u.2.1, .inl (kT κ 0, (3, .inl (fun _ => 0)))), (u.2.2.1, .inl (kT κ 2, (3, .inl (fun _ => 0)))), (u.2.2.2.1, eL (((0 + 1) + 1) + 1) u.2.2.2.2 (nI 3)), (u.2.2.2.2, eA κ (va_up (va_up (va_up (fun _ => none) 0 (some (kA κ 0))) 1 (some (kA κ 0))) 2 (some (kA κ 0))))] t.heap) (Af κ)) 5 20 (Af κ) := by
  refine Met.ofW (cc := cX10_init) (maxL := 7) (ret := (Option.none : Option Jvm.ClassFile.FieldType)) (by decide) rfl ?_
  intro p e s m args below meth c s₁ B hml hv
  obtain ⟨rfl, hR, hK⟩ := hv
  have hx := B.exec
  have hb := B.bytes
  have hr := B.returns
  have hts := atoms_spec (ws := ws_ yX10_init cX10_init 7 (Option.none : Option Jvm.ClassFile.FieldType)) B.pre
  have hts : ∀ w ∈ lw_all, w.before _ s = true := fun w h => hts w (List.mem_cons_of_mem _ h)
  have hown : s.vm.findClass RX10 = some m.cls := findClass_of_methodNamed B.named
  have hlocks := B.notSynchronized
  have hS : va_S (Af κ) s.heap s.heap [] := va_S.rf
  have hl := lv_entry ([.ref q, .int p1, .int p2, .int p3, .int p4, .int p5]) (n := 7) (Nat.le_of_ble_eq_true rfl)
  rw [lg_entry_eq]
  generalize (lg_sl ([.ref q, .int p1, .int p2, .int p3, .int p4, .int p5]) ++ List.replicate (7 - (lg_sl ([.ref q, .int p1, .int p2, .int p3, .int p4, .int p5])).length) Slot.unset).toArray = ls at hl ⊢
  have hl : lv_has ls 7 [(0, .ref q), (1, .int p1), (2, .int p2), (3, .int p3), (4, .int p4), (5, .int p5)] := hl
  have hin : meth.name = "<init>" := (name_of_methodNamed B.named B.method).1
  have hR := hR.toUp hX
  refine lv_aload_n hx hb dX10_init_0 rfl (lv_at hl 0 rfl) ?_
  refine W.objInit hx hb hown (hts _ q835) (hts _ q127) (hts _ q128) rfl (by rw [hml]; exact hl.1) rfl dX10_init_1 (Nat.le_of_ble_eq_true rfl) (Nat.le_of_ble_eq_true rfl) ?_
  refine W.eq (g2 := F0 m 4 ls []) rfl ?_
  refine lv_aload_n hx hb dX10_init_4 rfl (lv_at hl 0 rfl) ?_
  refine xa_new (C := RX2) (T := TX2) (N := 1) (ci := 1) (fs := [.int 0]) hx hb hts in_X2 tyX2 tyX2_ok hown q836 q174 q78 hK.1 hS rfl (fun j hj => by rcases (show j = 0 by omega) with rfl <;> rfl) (Nat.le_of_ble_eq_true rfl) (Nat.le_of_ble_eq_true rfl) dX10_init_5 (fun a1 H1 hq h1 hz ho hS => ?_)
  have hR := hR.newL hq h1 (by omega) ho
  clear hq h1 hz ho
  generalize H1 = H at hR hS ⊢
  have hR : Rp κ w y (upX X q (.inr (6, [.int 0, .int 0, .null, .null, .null, .null, .int 0, .int 0, .int 0, .int 0, .int 0, .int 0, .int 0, .int 0, .int 0, .int 0, .int 0, .int 0]))) [(a1, .inr (1, [.int 0]))] H := hR
  refine lv_dup hx hb dX10_init_8 rfl ?_
  refine va_callv (va_runIN (As := []) (rest := [.ref a1, .ref q]) ⟨hx, hb, hml, hown, hts⟩ (m_X2_init (X := xl (upX X q (.inr (6, [.int 0, .int 0, .null, .null, .null, .null, .int 0, .int 0, .int 0, .int 0, .int 0, .int 0, .int 0, .int 0, .int 0, .int 0, .int 0, .int 0]))) [(a1, .inr (1, [.int 0]))]) (Or.inr ⟨0, rfl⟩)) ⟨va_cnB 0 hts (lw_meth q167) rfl rfl rfl (hK.2.1.1 _ (List.mem_of_getElem? (i := 6) rfl)) (hts _ q78) (by decide +kernel) ⟨Nat.le_of_ble_eq_true rfl, Nat.le_of_ble_eq_true rfl⟩, rfl, hts _ q166⟩ ⟨RC.blind, RC.pre hR hK⟩ rfl rfl hl.1 rfl (lv_room (Nat.le_of_ble_eq_true rfl)) dX10_init_9 ⟨Nat.le_of_ble_eq_true rfl, Nat.le_of_ble_eq_true rfl⟩) hS (fun _ _ h => h) (fun _ h => h) (fun u2 t9 H locs ht9 _ hp9 hB9 hz9 _ hS => ?_)
  rw [ht9] at hB9
  have hR := hR.up hB9
  clear hp9 hz9 hB9
  have hR : Rp κ w y (upX X q (.inr (6, [.int 0, .int 0, .null, .null, .null, .null, .int 0, .int 0, .int 0, .int 0, .int 0, .int 0, .int 0, .int 0, .int 0, .int 0, .int 0, .int 0]))) [(a1, .inr (1, [.int 0]))] H := hR
  refine xa_putF (T := TX10) (N := 18) hx hb hts in_X10 tyX10 tyX10_ok nmX10 hown hK.1 hS (hR.2.2.2.1 _ _ (upX_self _ _ _)).2.1 (hR.X (upX_self _ _ _)) rfl 2 (by decide) q923 rfl rfl hin rfl rfl rfl (Nat.le_of_ble_eq_true rfl) dX10_init_12 (fun H1 locs h1 hz ho hS => ?_)
  have hR := hR.putXL2 h1 hz ho
  clear h1 hz ho
  generalize H1 = H at hR hS ⊢
  have hR : Rp κ w y (upX X q (.inr (6, [.int 0, .int 0, .ref a1, .null, .null, .null, .int 0, .int 0, .int 0, .int 0, .int 0, .int 0, .int 0, .int 0, .int 0, .int 0, .int 0, .int 0]))) [(a1, .inr (1, [.int 0]))] H := hR
  refine lv_aload_n hx hb dX10_init_15 rfl (lv_at hl 0 rfl) ?_
  refine lv_iconst (v := 3) hx hb dX10_init_16 (by decide) ?_
  refine xa_newa (ty := .int) (N' := 3) (a0 := (3, .inl (fun _ => 0))) hx hb hts q995 rfl hK.1 0 rfl (by intro C h9; cases h9) hS rfl (by decide) (by decide) (by decide) (Nat.le_of_ble_eq_true rfl) (Nat.le_of_ble_eq_true rfl) dX10_init_17 (fun a3 H1 hq h1 hz ho hS => ?_)
  have hR := hR.newL hq h1 (by omega) ho
  clear hq h1 hz ho
  generalize H1 = H at hR hS ⊢
  have hR : Rp κ w y (upX X q (.inr (6, [.int 0, .int 0, .ref a1, .null, .null, .null, .int 0, .int 0, .int 0, .int 0, .int 0, .int 0, .int 0, .int 0, .int 0, .int 0, .int 0, .int 0]))) [(a1, .inr (1, [.int 0])), (a3, .inl (kT κ 0, (3, .inl (fun _ => 0))))] H := hR
  refine xa_putF (T := TX10) (N := 18) hx hb hts in_X10 tyX10 tyX10_ok nmX10 hown hK.1 hS (hR.2.2.2.1 _ _ (upX_self _ _ _)).2.1 (hR.X (upX_self _ _ _)) rfl 3 (by decide) q926 rfl rfl hin rfl rfl rfl (Nat.le_of_ble_eq_true rfl) dX10_init_19 (fun H1 locs h1 hz ho hS => ?_)
  have hR := hR.putXL2 h1 hz ho
  clear h1 hz ho
  generalize H1 = H at hR hS ⊢
  have hR : Rp κ w y (upX X q (.inr (6, [.int 0, .int 0, .ref a1, .ref a3, .null, .null, .int 0, .int 0, .int 0, .int 0, .int 0, .int 0, .int 0, .int 0, .int 0, .int 0, .int 0, .int 0]))) [(a1, .inr (1, [.int 0])), (a3, .inl (kT κ 0, (3, .inl (fun _ => 0))))] H := hR
  refine lv_aload_n hx hb dX10_init_22 rfl (lv_at hl 0 rfl) ?_
  refine lv_iconst (v := 3) hx hb dX10_init_23 (by decide) ?_
  refine xa_newa (ty := .boolean) (N' := 3) (a0 := (3, .inl (fun _ => 0))) hx hb hts q996 rfl hK.1 2 rfl (by intro C h9; cases h9) hS rfl (by decide) (by decide) (by decide) (Nat.le_of_ble_eq_true rfl) (Nat.le_of_ble_eq_true rfl) dX10_init_24 (fun a4 H1 hq h1 hz ho hS => ?_)
  have hR := hR.newL hq h1 (by omega) ho
  clear hq h1 hz ho
  generalize H1 = H at hR hS ⊢
  have hR : Rp κ w y (upX X q (.inr (6, [.int 0, .int 0, .ref a1, .ref a3, .null, .null, .int 0, .int 0, .int 0, .int 0, .int 0, .int 0, .int 0, .int 0, .int 0, .int 0, .int 0, .int 0]))) [(a1, .inr (1, [.int 0])), (a3, .inl (kT κ 0, (3, .inl (fun _ => 0)))), (a4, .inl (kT κ 2, (3, .inl (fun _ => 0))))] H := hR
  refine xa_putF (T := TX10) (N := 18) hx hb hts in_X10 tyX10 tyX10_ok nmX10 hown hK.1 hS (hR.2.2.2.1 _ _ (upX_self _ _ _)).2.1 (hR.X (upX_self _ _ _)) rfl 4 (by decide) q927 rfl rfl hin rfl rfl rfl (Nat.le_of_ble_eq_true rfl) dX10_init_26 (fun H1 locs h1 hz ho hS => ?_)
  have hR := hR.putXL2 h1 hz ho
  clear h1 hz ho
  generalize H1 = H at hR hS ⊢
  have hR : Rp κ w y (upX X q (.inr (6, [.int 0, .int 0, .ref a1, .ref a3, .ref a4, .null, .int 0, .int 0, .int 0, .int 0, .int 0, .int 0, .int 0, .int 0, .int 0, .int 0, .int 0, .int 0]))) [(a1, .inr (1, [.int 0])), (a3, .inl (kT κ 0, (3, .inl (fun _ => 0)))), (a4, .inl (kT κ 2, (3, .inl (fun _ => 0))))] H := hR
  refine lv_aload_n hx hb dX10_init_29 rfl (lv_at hl 0 rfl) ?_
  refine xa_new (C := RJ2) (T := TJ2) (N := 3) (ci := 16) (fs := [.int 0, .null, .int 0]) hx hb hts in_J2 tyJ2 tyJ2_ok hown q838 q130 q77 hK.1 hS rfl (fun j hj => by rcases (show j = 0 ∨ j = 1 ∨ j = 2 by omega) with rfl | rfl | rfl <;> rfl) (Nat.le_of_ble_eq_true rfl) (Nat.le_of_ble_eq_true rfl) dX10_init_30 (fun a5 H1 hq h1 hz ho hS => ?_)
  have hR := hR.newL hq h1 (by omega) ho
  clear hq h1 hz ho
  generalize H1 = H at hR hS ⊢
  have hR : Rp κ w y (upX X q (.inr (6, [.int 0, .int 0, .ref a1, .ref a3, .ref a4, .null, .int 0, .int 0, .int 0, .int 0, .int 0, .int 0, .int 0, .int 0, .int 0, .int 0, .int 0, .int 0]))) [(a1, .inr (1, [.int 0])), (a3, .inl (kT κ 0, (3, .inl (fun _ => 0)))), (a4, .inl (kT κ 2, (3, .inl (fun _ => 0)))), (a5, .inr (16, [.int 0, .null, .int 0]))] H := hR
  refine lv_dup hx hb dX10_init_33 rfl ?_
  refine va_callv (va_runI (As := []) (rest := [.ref a5, .ref q]) ⟨hx, hb, hml, hown, hts⟩ (m_J2_init (X := xl (upX X q (.inr (6, [.int 0, .int 0, .ref a1, .ref a3, .ref a4, .null, .int 0, .int 0, .int 0, .int 0, .int 0, .int 0, .int 0, .int 0, .int 0, .int 0, .int 0, .int 0]))) [(a1, .inr (1, [.int 0])), (a3, .inl (kT κ 0, (3, .inl (fun _ => 0)))), (a4, .inl (kT κ 2, (3, .inl (fun _ => 0)))), (a5, .inr (16, [.int 0, .null, .int 0]))]) (Or.inr ⟨3, rfl⟩)) (cwI 0 hts (lw_meth q133) rfl rfl rfl (hts _ q77) (hts _ q839) (hts _ q132) rfl (by decide +kernel) ⟨Nat.le_of_ble_eq_true rfl, Nat.le_of_ble_eq_true rfl⟩) ⟨RC.blind, RC.pre hR hK⟩ rfl rfl hl.1 rfl (lv_room (Nat.le_of_ble_eq_true rfl)) dX10_init_34 ⟨Nat.le_of_ble_eq_true rfl, Nat.le_of_ble_eq_true rfl⟩) hS (fun _ _ h => h) (fun _ h => h) (fun u6 t9 H locs ht9 _ hp9 hB9 hz9 _ hS => ?_)
  rw [ht9] at hB9
  have hR := hR.wroteL (t := 3) rfl hB9
  clear hp9 hz9 hB9
  have hR : Rp κ w y (upX X q (.inr (6, [.int 0, .int 0, .ref a1, .ref a3, .ref a4, .null, .int 0, .int 0, .int 0, .int 0, .int 0, .int 0, .int 0, .int 0, .int 0, .int 0, .int 0, .int 0]))) [(a1, .inr (1, [.int 0])), (a3, .inl (kT κ 0, (3, .inl (fun _ => 0)))), (a4, .inl (kT κ 2, (3, .inl (fun _ => 0)))), (a5, eL 0 (kA κ 1) 0)] H := hR
  refine xa_putF (T := TX10) (N := 18) hx hb hts in_X10 tyX10 tyX10_ok nmX10 hown hK.1 hS (hR.2.2.2.1 _ _ (upX_self _ _ _)).2.1 (hR.X (upX_self _ _ _)) rfl 5 (by decide) q928 rfl rfl hin rfl rfl rfl (Nat.le_of_ble_eq_true rfl) dX10_init_37 (fun H1 locs h1 hz ho hS => ?_)
  have hR := hR.putXL2 h1 hz ho
  clear h1 hz ho
  generalize H1 = H at hR hS ⊢
  have hR : Rp κ w y (upX X q (.inr (6, [.int 0, .int 0, .ref a1, .ref a3, .ref a4, .ref a5, .int 0, .int 0, .int 0, .int 0, .int 0, .int 0, .int 0, .int 0, .int 0, .int 0, .int 0, .int 0]))) [(a1, .inr (1, [.int 0])), (a3, .inl (kT κ 0, (3, .inl (fun _ => 0)))), (a4, .inl (kT κ 2, (3, .inl (fun _ => 0)))), (a5, eL 0 (kA κ 1) 0)] H := hR
  refine lv_aload_n hx hb dX10_init_40 rfl (lv_at hl 0 rfl) ?_
  refine lv_iload_n hx hb dX10_init_41 rfl (lv_at hl 1 rfl) ?_
  refine xa_putF (T := TX10) (N := 18) hx hb hts in_X10 tyX10 tyX10_ok nmX10 hown hK.1 hS (hR.2.2.2.1 _ _ (upX_self _ _ _)).2.1 (hR.X (upX_self _ _ _)) rfl 0 (by decide) q919 rfl rfl hin rfl rfl rfl (Nat.le_of_ble_eq_true rfl) dX10_init_42 (fun H1 locs h1 hz ho hS => ?_)
  have hR := hR.putXL2 h1 hz ho
  clear h1 hz ho
  generalize H1 = H at hR hS ⊢
  have hR : Rp κ w y (upX X q (.inr (6, [.int p1, .int 0, .ref a1, .ref a3, .ref a4, .ref a5, .int 0, .int 0, .int 0, .int 0, .int 0, .int 0, .int 0, .int 0, .int 0, .int 0, .int 0, .int 0]))) [(a1, .inr (1, [.int 0])), (a3, .inl (kT κ 0, (3, .inl (fun _ => 0)))), (a4, .inl (kT κ 2, (3, .inl (fun _ => 0)))), (a5, eL 0 (kA κ 1) 0)] H := hR
  refine lv_aload_n hx hb dX10_init_45 rfl (lv_at hl 0 rfl) ?_
  refine lv_iload_n hx hb dX10_init_46 rfl (lv_at hl 2 rfl) ?_
  refine xa_put (T := TX10) (N := 18) hx hb hts in_X10 tyX10 tyX10_ok nmX10 hown hK.1 hS (hR.2.2.2.1 _ _ (upX_self _ _ _)).2.1 (hR.X (upX_self _ _ _)) rfl 6 (by decide) q930 rfl rfl rfl rfl (Nat.le_of_ble_eq_true rfl) dX10_init_47 (fun H1 locs h1 hz ho hS => ?_)
  have hR := hR.putXL2 h1 hz ho
  clear h1 hz ho
  generalize H1 = H at hR hS ⊢
  have hR : Rp κ w y (upX X q (.inr (6, [.int p1, .int 0, .ref a1, .ref a3, .ref a4, .ref a5, .int p2, .int 0, .int 0, .int 0, .int 0, .int 0, .int 0, .int 0, .int 0, .int 0, .int 0, .int 0]))) [(a1, .inr (1, [.int 0])), (a3, .inl (kT κ 0, (3, .inl (fun _ => 0)))), (a4, .inl (kT κ 2, (3, .inl (fun _ => 0)))), (a5, eL 0 (kA κ 1) 0)] H := hR
  refine lv_aload_n hx hb dX10_init_50 rfl (lv_at hl 0 rfl) ?_
  refine lv_iload_n hx hb dX10_init_51 rfl (lv_at hl 3 rfl) ?_
  refine xa_put (T := TX10) (N := 18) hx hb hts in_X10 tyX10 tyX10_ok nmX10 hown hK.1 hS (hR.2.2.2.1 _ _ (upX_self _ _ _)).2.1 (hR.X (upX_self _ _ _)) rfl 7 (by decide) q933 rfl rfl rfl rfl (Nat.le_of_ble_eq_true rfl) dX10_init_52 (fun H1 locs h1 hz ho hS => ?_)
  have hR := hR.putXL2 h1 hz ho
  clear h1 hz ho
  generalize H1 = H at hR hS ⊢
  have hR : Rp κ w y (upX X q (.inr (6, [.int p1, .int 0, .ref a1, .ref a3, .ref a4, .ref a5, .int p2, .int p3, .int 0, .int 0, .int 0, .int 0, .int 0, .int 0, .int 0, .int 0, .int 0, .int 0]))) [(a1, .inr (1, [.int 0])), (a3, .inl (kT κ 0, (3, .inl (fun _ => 0)))), (a4, .inl (kT κ 2, (3, .inl (fun _ => 0)))), (a5, eL 0 (kA κ 1) 0)] H := hR
  refine lv_aload_n hx hb dX10_init_55 rfl (lv_at hl 0 rfl) ?_
  refine lv_iload hx hb dX10_init_56 (lv_at hl 4 rfl) ?_
  refine xa_put (T := TX10) (N := 18) hx hb hts in_X10 tyX10 tyX10_ok nmX10 hown hK.1 hS (hR.2.2.2.1 _ _ (upX_self _ _ _)).2.1 (hR.X (upX_self _ _ _)) rfl 8 (by decide) q935 rfl rfl rfl rfl (Nat.le_of_ble_eq_true rfl) dX10_init_58 (fun H1 locs h1 hz ho hS => ?_)
  have hR := hR.putXL2 h1 hz ho
  clear h1 hz ho
  generalize H1 = H at hR hS ⊢
  have hR : Rp κ w y (upX X q (.inr (6, [.int p1, .int 0, .ref a1, .ref a3, .ref a4, .ref a5, .int p2, .int p3, .int p4, .int 0, .int 0, .int 0, .int 0, .int 0, .int 0, .int 0, .int 0, .int 0]))) [(a1, .inr (1, [.int 0])), (a3, .inl (kT κ 0, (3, .inl (fun _ => 0)))), (a4, .inl (kT κ 2, (3, .inl (fun _ => 0)))), (a5, eL 0 (kA κ 1) 0)] H := hR
  refine lv_aload_n hx hb dX10_init_61 rfl (lv_at hl 0 rfl) ?_
  refine lv_iload hx hb dX10_init_62 (lv_at hl 5 rfl) ?_
  refine xa_putF (T := TX10) (N := 18) hx hb hts in_X10 tyX10 tyX10_ok nmX10 hown hK.1 hS (hR.2.2.2.1 _ _ (upX_self _ _ _)).2.1 (hR.X (upX_self _ _ _)) rfl 1 (by decide) q921 rfl rfl hin rfl rfl rfl (Nat.le_of_ble_eq_true rfl) dX10_init_64 (fun H1 locs h1 hz ho hS => ?_)
  have hR := hR.putXL2 h1 hz ho
  clear h1 hz ho
  generalize H1 = H at hR hS ⊢
  have hR : Rp κ w y (upX X q (.inr (6, [.int p1, .int p5, .ref a1, .ref a3, .ref a4, .ref a5, .int p2, .int p3, .int p4, .int 0, .int 0, .int 0, .int 0, .int 0, .int 0, .int 0, .int 0, .int 0]))) [(a1, .inr (1, [.int 0])), (a3, .inl (kT κ 0, (3, .inl (fun _ => 0)))), (a4, .inl (kT κ 2, (3, .inl (fun _ => 0)))), (a5, eL 0 (kA κ 1) 0)] H := hR
  refine lv_aload_n hx hb dX10_init_67 rfl (lv_at hl 0 rfl) ?_
  refine lv_iconst (v := 4) hx hb dX10_init_68 (by decide) ?_
  refine lv_iload_n hx hb dX10_init_69 rfl (lv_at hl 2 rfl) ?_
  refine lv_imul hx hb dX10_init_70 ?_
  refine xa_put (T := TX10) (N := 18) hx hb hts in_X10 tyX10 tyX10_ok nmX10 hown hK.1 hS (hR.2.2.2.1 _ _ (upX_self _ _ _)).2.1 (hR.X (upX_self _ _ _)) rfl 9 (by decide) q938 rfl rfl rfl rfl (Nat.le_of_ble_eq_true rfl) dX10_init_71 (fun H1 locs h1 hz ho hS => ?_)
  have hR := hR.putXL2 h1 hz ho
  clear h1 hz ho
  generalize H1 = H at hR hS ⊢
  have hR : Rp κ w y (upX X q (.inr (6, [.int p1, .int p5, .ref a1, .ref a3, .ref a4, .ref a5, .int p2, .int p3, .int p4, .int (4 * p2), .int 0, .int 0, .int 0, .int 0, .int 0, .int 0, .int 0, .int 0]))) [(a1, .inr (1, [.int 0])), (a3, .inl (kT κ 0, (3, .inl (fun _ => 0)))), (a4, .inl (kT κ 2, (3, .inl (fun _ => 0)))), (a5, eL 0 (kA κ 1) 0)] H := hR
  refine lv_aload_n hx hb dX10_init_74 rfl (lv_at hl 0 rfl) ?_
  refine lv_iload_n hx hb dX10_init_75 rfl (lv_at hl 3 rfl) ?_
  refine xa_put (T := TX10) (N := 18) hx hb hts in_X10 tyX10 tyX10_ok nmX10 hown hK.1 hS (hR.2.2.2.1 _ _ (upX_self _ _ _)).2.1 (hR.X (upX_self _ _ _)) rfl 12 (by decide) q945 rfl rfl rfl rfl (Nat.le_of_ble_eq_true rfl) dX10_init_76 (fun H1 locs h1 hz ho hS => ?_)
  have hR := hR.putXL2 h1 hz ho
  clear h1 hz ho
  generalize H1 = H at hR hS ⊢
  have hR : Rp κ w y (upX X q (.inr (6, [.int p1, .int p5, .ref a1, .ref a3, .ref a4, .ref a5, .int p2, .int p3, .int p4, .int (4 * p2), .int 0, .int 0, .int p3, .int 0, .int 0, .int 0, .int 0, .int 0]))) [(a1, .inr (1, [.int 0])), (a3, .inl (kT κ 0, (3, .inl (fun _ => 0)))), (a4, .inl (kT κ 2, (3, .inl (fun _ => 0)))), (a5, eL 0 (kA κ 1) 0)] H := hR
  refine lv_iconst (v := 0) hx hb dX10_init_79 (by decide) ?_
  refine lv_istore (lv' := [(6, .int 0), (0, .ref q), (1, .int p1), (2, .int p2), (3, .int p3), (4, .int p4), (5, .int p5)]) hx hb dX10_init_80 hl (by decide) rfl (fun ls hl => ?_)
  refine lv_iload hx hb dX10_init_82 (lv_at hl 0 rfl) ?_
  refine lv_iconst (v := 3) hx hb dX10_init_84 (by decide) ?_
  refine lv_icmp_ge (tgt := 105) hx hb dX10_init_85 (by decide) (fun c => absurd c (by decide)) (fun _ => ?_)
  refine W.eq (g2 := F0 m 88 ls []) rfl ?_
  refine lv_aload_n hx hb dX10_init_88 rfl (lv_at hl 1 rfl) ?_
  refine xa_get (T := TX10) (N := 18) (v := .ref a5) hx hb hts in_X10 hown hK.1 (hR.X (upX_self _ _ _)) rfl 5 (by decide) q928 rfl rfl dX10_init_89 ?_
  refine jr_empty (rest := [.ref a5]) ⟨hx, hb, hml, hown, hts⟩ hK hR q840 ⟨Nat.le_of_ble_eq_true rfl, Nat.le_of_ble_eq_true rfl⟩ hl.1 (Nat.le_of_ble_eq_true rfl) dX10_init_92 ⟨Nat.le_of_ble_eq_true rfl, Nat.le_of_ble_eq_true rfl⟩ ?_
  refine va_calli (cr_V (n := 1) (As := [.ref (kA κ 0)]) (rest := []) ⟨hx, hb, hml, hown, hts⟩ hK hR (m_J2_addE (X := xl (upX X q (.inr (6, [.int p1, .int p5, .ref a1, .ref a3, .ref a4, .ref a5, .int p2, .int p3, .int p4, .int (4 * p2), .int 0, .int 0, .int p3, .int 0, .int 0, .int 0, .int 0, .int 0]))) [(a1, .inr (1, [.int 0])), (a3, .inl (kT κ 0, (3, .inl (fun _ => 0)))), (a4, .inl (kT κ 2, (3, .inl (fun _ => 0)))), (a5, eL 0 (kA κ 1) 0)]) (Or.inr ⟨3, rfl⟩) (fun _ _ _ _ hR9 => ob_em hK hR9)) q845 q846 q847 q77 q848 rfl rfl hd_J2_add ⟨Nat.le_of_ble_eq_true rfl, Nat.le_of_ble_eq_true rfl⟩ (rv_at hK (hR.L 3 _ rfl) rfl) rfl rfl hl.1 rfl (lv_room (Nat.le_of_ble_eq_true rfl)) dX10_init_95 ⟨Nat.le_of_ble_eq_true rfl, Nat.le_of_ble_eq_true rfl⟩) hS (fun _ _ h => h) (fun _ h => h) (fun v8 u7 t9 H locs ht9 _ hp9 hB9 hz9 _ hS => ?_)
  rw [ht9] at hB9
  have hR := hR.wroteLs (t := 3) rfl hB9
  clear hp9 hz9 hB9
  have hR : Rp κ w y (upX X q (.inr (6, [.int p1, .int p5, .ref a1, .ref a3, .ref a4, .ref a5, .int p2, .int p3, .int p4, .int (4 * p2), .int 0, .int 0, .int p3, .int 0, .int 0, .int 0, .int 0, .int 0]))) [(a1, .inr (1, [.int 0])), (a3, .inl (kT κ 0, (3, .inl (fun _ => 0)))), (a4, .inl (kT κ 2, (3, .inl (fun _ => 0)))), (a5, eL (0 + 1) u7 1), (u7, eA κ (va_up (fun _ => none) 0 (some (kA κ 0))))] H := hR
  refine lv_pop hx hb dX10_init_98 rfl ?_
  refine lv_iinc (v := 1) (lv' := [(6, .int 1), (0, .ref q), (1, .int p1), (2, .int p2), (3, .int p3), (4, .int p4), (5, .int p5)]) hx hb dX10_init_99 hl (k := 0) rfl (by decide) (by decide) rfl (fun ls hl => ?_)
  refine lv_goto (tgt := 82) hx hb dX10_init_102 (by decide) ?_
  refine W.eq (g2 := F0 m 82 ls []) rfl ?_
  refine lv_iload hx hb dX10_init_82 (lv_at hl 0 rfl) ?_
  refine lv_iconst (v := 3) hx hb dX10_init_84 (by decide) ?_
  refine lv_icmp_ge (tgt := 105) hx hb dX10_init_85 (by decide) (fun c => absurd c (by decide)) (fun _ => ?_)
  refine W.eq (g2 := F0 m 88 ls []) rfl ?_
  refine lv_aload_n hx hb dX10_init_88 rfl (lv_at hl 1 rfl) ?_
  refine xa_get (T := TX10) (N := 18) (v := .ref a5) hx hb hts in_X10 hown hK.1 (hR.X (upX_self _ _ _)) rfl 5 (by decide) q928 rfl rfl dX10_init_89 ?_
  refine jr_empty (rest := [.ref a5]) ⟨hx, hb, hml, hown, hts⟩ hK hR q840 ⟨Nat.le_of_ble_eq_true rfl, Nat.le_of_ble_eq_true rfl⟩ hl.1 (Nat.le_of_ble_eq_true rfl) dX10_init_92 ⟨Nat.le_of_ble_eq_true rfl, Nat.le_of_ble_eq_true rfl⟩ ?_
  refine va_calli (cr_V (n := 1) (As := [.ref (kA κ 0)]) (rest := []) ⟨hx, hb, hml, hown, hts⟩ hK hR (m_J2_addN (X := xl (upX X q (.inr (6, [.int p1, .int p5, .ref a1, .ref a3, .ref a4, .ref a5, .int p2, .int p3, .int p4, .int (4 * p2), .int 0, .int 0, .int p3, .int 0, .int 0, .int 0, .int 0, .int 0]))) [(a1, .inr (1, [.int 0])), (a3, .inl (kT κ 0, (3, .inl (fun _ => 0)))), (a4, .inl (kT κ 2, (3, .inl (fun _ => 0)))), (a5, eL (0 + 1) u7 1), (u7, eA κ (va_up (fun _ => none) 0 (some (kA κ 0))))]) (n := 1) (fun e9 => by have := hR.LD.1 4 3 _ _ rfl rfl e9; omega) (by decide) (Or.inr ⟨3, rfl⟩) (Or.inr ⟨4, rfl⟩) (fun _ _ _ _ hR9 => ob_em hK hR9)) q845 q846 q847 q77 q848 rfl rfl hd_J2_add ⟨Nat.le_of_ble_eq_true rfl, Nat.le_of_ble_eq_true rfl⟩ (rv_at hK (hR.L 3 _ rfl) rfl) rfl rfl hl.1 rfl (lv_room (Nat.le_of_ble_eq_true rfl)) dX10_init_95 ⟨Nat.le_of_ble_eq_true rfl, Nat.le_of_ble_eq_true rfl⟩) hS (fun _ _ h => h) (fun _ h => h) (fun v10 u9 t9 H locs ht9 _ hp9 hB9 hz9 _ hS => ?_)
  rw [ht9] at hB9
  have hne9 : u7 ≠ a5 := fun e9 => by have := hR.LD.1 4 3 _ _ rfl rfl e9; omega
  have hR := hR.wroteA (L' := [(a1, .inr (1, [.int 0])), (a3, .inl (kT κ 0, (3, .inl (fun _ => 0)))), (a4, .inl (kT κ 2, (3, .inl (fun _ => 0)))), (a5, eL ((0 + 1) + 1) u7 (nI 2)), (u7, eA κ (va_up (va_up (fun _ => none) 0 (some (kA κ 0))) 1 (some (kA κ 0))))]) hB9 (fun q e h => ⟨e, h⟩) (fun z g hz hs => Or.inr ⟨(hs 3 _ rfl).symm, Or.inr ⟨(hs 4 _ rfl).symm, Or.inl hz⟩⟩) (fun t9 z hz => by
    have hlt := (List.getElem?_eq_some_iff.mp hz).1
    simp only [List.length_cons, List.length_nil] at hlt
    rcases (show t9 = 0 ∨ t9 = 1 ∨ t9 = 2 ∨ t9 = 3 ∨ t9 = 4 by omega) with rfl | rfl | rfl | rfl | rfl
    · cases hz; exact ⟨Or.inr ⟨fun e9 => by have := hR.LD.1 0 3 _ _ rfl rfl e9; omega, Or.inr ⟨fun e9 => by have := hR.LD.1 0 4 _ _ rfl rfl e9; omega, Or.inr ⟨0, rfl⟩⟩⟩, _, rfl⟩
    · cases hz; exact ⟨Or.inr ⟨fun e9 => by have := hR.LD.1 1 3 _ _ rfl rfl e9; omega, Or.inr ⟨fun e9 => by have := hR.LD.1 1 4 _ _ rfl rfl e9; omega, Or.inr ⟨1, rfl⟩⟩⟩, _, rfl⟩
    · cases hz; exact ⟨Or.inr ⟨fun e9 => by have := hR.LD.1 2 3 _ _ rfl rfl e9; omega, Or.inr ⟨fun e9 => by have := hR.LD.1 2 4 _ _ rfl rfl e9; omega, Or.inr ⟨2, rfl⟩⟩⟩, _, rfl⟩
    · cases hz; exact ⟨Or.inl ⟨rfl, rfl⟩, _, rfl⟩
    · cases hz; exact ⟨Or.inr ⟨hne9, Or.inl ⟨rfl, rfl⟩⟩, _, rfl⟩)
  clear hp9 hz9 hB9
  have hR : Rp κ w y (upX X q (.inr (6, [.int p1, .int p5, .ref a1, .ref a3, .ref a4, .ref a5, .int p2, .int p3, .int p4, .int (4 * p2), .int 0, .int 0, .int p3, .int 0, .int 0, .int 0, .int 0, .int 0]))) [(a1, .inr (1, [.int 0])), (a3, .inl (kT κ 0, (3, .inl (fun _ => 0)))), (a4, .inl (kT κ 2, (3, .inl (fun _ => 0)))), (a5, eL ((0 + 1) + 1) u7 (nI 2)), (u7, eA κ (va_up (va_up (fun _ => none) 0 (some (kA κ 0))) 1 (some (kA κ 0))))] H := hR
  refine lv_pop hx hb dX10_init_98 rfl ?_
  refine lv_iinc (v := 2) (lv' := [(6, .int 2), (0, .ref q), (1, .int p1), (2, .int p2), (3, .int p3), (4, .int p4), (5, .int p5)]) hx hb dX10_init_99 hl (k := 0) rfl (by decide) (by decide) rfl (fun ls hl => ?_)
  refine lv_goto (tgt := 82) hx hb dX10_init_102 (by decide) ?_
  refine W.eq (g2 := F0 m 82 ls []) rfl ?_
  refine lv_iload hx hb dX10_init_82 (lv_at hl 0 rfl) ?_
  refine lv_iconst (v := 3) hx hb dX10_init_84 (by decide) ?_
  refine lv_icmp_ge (tgt := 105) hx hb dX10_init_85 (by decide) (fun c => absurd c (by decide)) (fun _ => ?_)
  refine W.eq (g2 := F0 m 88 ls []) rfl ?_
  refine lv_aload_n hx hb dX10_init_88 rfl (lv_at hl 1 rfl) ?_
  refine xa_get (T := TX10) (N := 18) (v := .ref a5) hx hb hts in_X10 hown hK.1 (hR.X (upX_self _ _ _)) rfl 5 (by decide) q928 rfl rfl dX10_init_89 ?_
  refine jr_empty (rest := [.ref a5]) ⟨hx, hb, hml, hown, hts⟩ hK hR q840 ⟨Nat.le_of_ble_eq_true rfl, Nat.le_of_ble_eq_true rfl⟩ hl.1 (Nat.le_of_ble_eq_true rfl) dX10_init_92 ⟨Nat.le_of_ble_eq_true rfl, Nat.le_of_ble_eq_true rfl⟩ ?_
  refine va_calli (cr_V (n := 1) (As := [.ref (kA κ 0)]) (rest := []) ⟨hx, hb, hml, hown, hts⟩ hK hR (m_J2_addN (X := xl (upX X q (.inr (6, [.int p1, .int p5, .ref a1, .ref a3, .ref a4, .ref a5, .int p2, .int p3, .int p4, .int (4 * p2), .int 0, .int 0, .int p3, .int 0, .int 0, .int 0, .int 0, .int 0]))) [(a1, .inr (1, [.int 0])), (a3, .inl (kT κ 0, (3, .inl (fun _ => 0)))), (a4, .inl (kT κ 2, (3, .inl (fun _ => 0)))), (a5, eL ((0 + 1) + 1) u7 (nI 2)), (u7, eA κ (va_up (va_up (fun _ => none) 0 (some (kA κ 0))) 1 (some (kA κ 0))))]) (n := 2) (fun e9 => by have := hR.LD.1 4 3 _ _ rfl rfl e9; omega) (by decide) (Or.inr ⟨3, rfl⟩) (Or.inr ⟨4, rfl⟩) (fun _ _ _ _ hR9 => ob_em hK hR9)) q845 q846 q847 q77 q848 rfl rfl hd_J2_add ⟨Nat.le_of_ble_eq_true rfl, Nat.le_of_ble_eq_true rfl⟩ (rv_at hK (hR.L 3 _ rfl) rfl) rfl rfl hl.1 rfl (lv_room (Nat.le_of_ble_eq_true rfl)) dX10_init_95 ⟨Nat.le_of_ble_eq_true rfl, Nat.le_of_ble_eq_true rfl⟩) hS (fun _ _ h => h) (fun _ h => h) (fun v12 u11 t9 H locs ht9 _ hp9 hB9 hz9 _ hS => ?_)
  rw [ht9] at hB9
  have hne9 : u7 ≠ a5 := fun e9 => by have := hR.LD.1 4 3 _ _ rfl rfl e9; omega
  have hR := hR.wroteA (L' := [(a1, .inr (1, [.int 0])), (a3, .inl (kT κ 0, (3, .inl (fun _ => 0)))), (a4, .inl (kT κ 2, (3, .inl (fun _ => 0)))), (a5, eL (((0 + 1) + 1) + 1) u7 (nI 3)), (u7, eA κ (va_up (va_up (va_up (fun _ => none) 0 (some (kA κ 0))) 1 (some (kA κ 0))) 2 (some (kA κ 0))))]) hB9 (fun q e h => ⟨e, h⟩) (fun z g hz hs => Or.inr ⟨(hs 3 _ rfl).symm, Or.inr ⟨(hs 4 _ rfl).symm, Or.inl hz⟩⟩) (fun t9 z hz => by
    have hlt := (List.getElem?_eq_some_iff.mp hz).1
    simp only [List.length_cons, List.length_nil] at hlt
    rcases (show t9 = 0 ∨ t9 = 1 ∨ t9 = 2 ∨ t9 = 3 ∨ t9 = 4 by omega) with rfl | rfl | rfl | rfl | rfl
    · cases hz; exact ⟨Or.inr ⟨fun e9 => by have := hR.LD.1 0 3 _ _ rfl rfl e9; omega, Or.inr ⟨fun e9 => by have := hR.LD.1 0 4 _ _ rfl rfl e9; omega, Or.inr ⟨0, rfl⟩⟩⟩, _, rfl⟩
    · cases hz; exact ⟨Or.inr ⟨fun e9 => by have := hR.LD.1 1 3 _ _ rfl rfl e9; omega, Or.inr ⟨fun e9 => by have := hR.LD.1 1 4 _ _ rfl rfl e9; omega, Or.inr ⟨1, rfl⟩⟩⟩, _, rfl⟩
    · cases hz; exact ⟨Or.inr ⟨fun e9 => by have := hR.LD.1 2 3 _ _ rfl rfl e9; omega, Or.inr ⟨fun e9 => by have := hR.LD.1 2 4 _ _ rfl rfl e9; omega, Or.inr ⟨2, rfl⟩⟩⟩, _, rfl⟩
    · cases hz; exact ⟨Or.inl ⟨rfl, rfl⟩, _, rfl⟩
    · cases hz; exact ⟨Or.inr ⟨hne9, Or.inl ⟨rfl, rfl⟩⟩, _, rfl⟩)
  clear hp9 hz9 hB9
  have hR : Rp κ w y (upX X q (.inr (6, [.int p1, .int p5, .ref a1, .ref a3, .ref a4, .ref a5, .int p2, .int p3, .int p4, .int (4 * p2), .int 0, .int 0, .int p3, .int 0, .int 0, .int 0, .int 0, .int 0]))) [(a1, .inr (1, [.int 0])), (a3, .inl (kT κ 0, (3, .inl (fun _ => 0)))), (a4, .inl (kT κ 2, (3, .inl (fun _ => 0)))), (a5, eL (((0 + 1) + 1) + 1) u7 (nI 3)), (u7, eA κ (va_up (va_up (va_up (fun _ => none) 0 (some (kA κ 0))) 1 (some (kA κ 0))) 2 (some (kA κ 0))))] H := hR
  refine lv_pop hx hb dX10_init_98 rfl ?_
  refine lv_iinc (v := 3) (lv' := [(6, .int 3), (0, .ref q), (1, .int p1), (2, .int p2), (3, .int p3), (4, .int p4), (5, .int p5)]) hx hb dX10_init_99 hl (k := 0) rfl (by decide) (by decide) rfl (fun ls hl => ?_)
  refine lv_goto (tgt := 82) hx hb dX10_init_102 (by decide) ?_
  refine W.eq (g2 := F0 m 82 ls []) rfl ?_
  refine lv_iload hx hb dX10_init_82 (lv_at hl 0 rfl) ?_
  refine lv_iconst (v := 3) hx hb dX10_init_84 (by decide) ?_
  refine lv_icmp_ge (tgt := 105) hx hb dX10_init_85 (by decide) (fun _ => ?_) (fun c => absurd (by decide) c)
  refine W.eq (g2 := F0 m 105 ls []) rfl ?_
  exact W.vret hx hb hr (fun t ht hW9 => ⟨⟨(a1, a3, a4, a5, u7), rfl, trivial, rpt ht hR⟩, hS.F ht⟩) hS.2.2 dX10_init_105
theorem hd_X4_init : yX4_init.cls = RX4 ∧ yX4_init.cls ≠ "java/lang/invoke/MethodHandle" ∧ yX4_init.cls ≠ "java/lang/invoke/VarHandle" ∧ (parseMethodDescriptor yX4_init.desc).map (fun d => d.parameters.length) = some 0 := by decide +kernel
abbrev rm_X4_init : Room := { frames := 2, cells := 1, slots := 1, locals := 44 }
set_option maxHeartbeats 4000000 in
theorem m_X4_init {l : Launch} {κ : Kx} {w : Wd} {y : Ly} {X : XR} {q : Nat} (hX : X q (.inr (3, [.null, .int 0]))) : Met l yX4_init (ws_ yX4_init cX4_init 1 (Option.none : Option Jvm.ClassFile.FieldType)) rm_X4_init (va_Pc [.ref q] (RC κ w y X)) (va_Qv (fun _ : Nat => True) (fun u t => Rp κ w y (upX X q (.inr (3, [.ref u, .int 0]))) [(u, .inr (1, [.int 0]))] t.heap) (Af κ)) 1 1 (Af κ) := by
  refine Met.ofW (cc := cX4_init) (maxL := 1) (ret := (Option.none : Option Jvm.ClassFile.FieldType)) (by decide) rfl ?_
  intro p e s m args below meth c s₁ B hml hv
  obtain ⟨rfl, hR, hK⟩ := hv
  have hx := B.exec
  have hb := B.bytes
  have hr := B.returns
  have hts := atoms_spec (ws := ws_ yX4_init cX4_init 1 (Option.none : Option Jvm.ClassFile.FieldType)) B.pre
  have hts : ∀ w ∈ lw_all, w.before _ s = true := fun w h => hts w (List.mem_cons_of_mem _ h)
  have hown : s.vm.findClass RX4 = some m.cls := findClass_of_methodNamed B.named
  have hlocks := B.notSynchronized
  have hS : va_S (Af κ) s.heap s.heap [] := va_S.rf
  have hl := lv_entry ([.ref q]) (n := 1) (Nat.le_of_ble_eq_true rfl)
  rw [lg_entry_eq]
  generalize (lg_sl ([.ref q]) ++ List.replicate (1 - (lg_sl ([.ref q])).length) Slot.unset).toArray = ls at hl ⊢
  have hl : lv_has ls 1 [(0, .ref q)] := hl
  have hin : meth.name = "<init>" := (name_of_methodNamed B.named B.method).1
  have hR := hR.toUp hX
  refine lv_aload_n hx hb dX4_init_0 rfl (lv_at hl 0 rfl) ?_
  refine W.objInit hx hb hown (hts _ q183) (hts _ q127) (hts _ q128) rfl (by rw [hml]; exact hl.1) rfl dX4_init_1 (Nat.le_of_ble_eq_true rfl) (Nat.le_of_ble_eq_true rfl) ?_
  refine W.eq (g2 := F0 m 4 ls []) rfl ?_
  refine lv_aload_n hx hb dX4_init_4 rfl (lv_at hl 0 rfl) ?_
  refine xa_new (C := RX2) (T := TX2) (N := 1) (ci := 1) (fs := [.int 0]) hx hb hts in_X2 tyX2 tyX2_ok hown q184 q174 q78 hK.1 hS rfl (fun j hj => by rcases (show j = 0 by omega) with rfl <;> rfl) (Nat.le_of_ble_eq_true rfl) (Nat.le_of_ble_eq_true rfl) dX4_init_5 (fun a1 H1 hq h1 hz ho hS => ?_)
  have hR := hR.newL hq h1 (by omega) ho
  clear hq h1 hz ho
  generalize H1 = H at hR hS ⊢
  have hR : Rp κ w y (upX X q (.inr (3, [.null, .int 0]))) [(a1, .inr (1, [.int 0]))] H := hR
  refine lv_dup hx hb dX4_init_8 rfl ?_
  refine va_callv (va_runIN (As := []) (rest := [.ref a1, .ref q]) ⟨hx, hb, hml, hown, hts⟩ (m_X2_init (X := xl (upX X q (.inr (3, [.null, .int 0]))) [(a1, .inr (1, [.int 0]))]) (Or.inr ⟨0, rfl⟩)) ⟨va_cnB 0 hts (lw_meth q167) rfl rfl rfl (hK.2.1.1 _ (List.mem_of_getElem? (i := 12) rfl)) (hts _ q78) (by decide +kernel) ⟨Nat.le_of_ble_eq_true rfl, Nat.le_of_ble_eq_true rfl⟩, rfl, hts _ q166⟩ ⟨RC.blind, RC.pre hR hK⟩ rfl rfl hl.1 rfl (lv_room (Nat.le_of_ble_eq_true rfl)) dX4_init_9 ⟨Nat.le_of_ble_eq_true rfl, Nat.le_of_ble_eq_true rfl⟩) hS (fun _ _ h => h) (fun _ h => h) (fun u2 t9 H locs ht9 _ hp9 hB9 hz9 _ hS => ?_)
  rw [ht9] at hB9
  have hR := hR.up hB9
  clear hp9 hz9 hB9
  have hR : Rp κ w y (upX X q (.inr (3, [.null, .int 0]))) [(a1, .inr (1, [.int 0]))] H := hR
  refine xa_putF (T := TX4) (N := 2) hx hb hts in_X4 tyX4 tyX4_ok nmX4 hown hK.1 hS (hR.2.2.2.1 _ _ (upX_self _ _ _)).2.1 (hR.X (upX_self _ _ _)) rfl 0 (by decide) q186 rfl rfl hin rfl rfl rfl (Nat.le_of_ble_eq_true rfl) dX4_init_12 (fun H1 locs h1 hz ho hS => ?_)
  have hR := hR.putXL2 h1 hz ho
  clear h1 hz ho
  generalize H1 = H at hR hS ⊢
  have hR : Rp κ w y (upX X q (.inr (3, [.ref a1, .int 0]))) [(a1, .inr (1, [.int 0]))] H := hR
  exact W.vret hx hb hr (fun t ht hW9 => ⟨⟨a1, rfl, trivial, rpt ht hR⟩, hS.F ht⟩) hS.2.2 dX4_init_15
theorem hd_X11_init : yX11_init.cls = RX11 ∧ yX11_init.cls ≠ "java/lang/invoke/MethodHandle" ∧ yX11_init.cls ≠ "java/lang/invoke/VarHandle" ∧ (parseMethodDescriptor yX11_init.desc).map (fun d => d.parameters.length) = some 0 := by decide +kernel
abbrev rm_X11_init : Room := { frames := 1, cells := 3, slots := 9, locals := 24 }
set_option maxHeartbeats 4000000 in
theorem m_X11_init {l : Launch} {κ : Kx} {w : Wd} {y : Ly} {X : XR} {q : Nat} (hX : X q (.inr (12, [.int 0, .int 0, .int 0, .int 0, .int 0, .int 0, .int 0, .int 0, .int 0, .int 0, .int 0, .int 0, .int 0, .int 0, .null, .null, .null]))) : Met l yX11_init (ws_ yX11_init cX11_init 1 (Option.none : Option Jvm.ClassFile.FieldType)) rm_X11_init (va_Pc [.ref q] (RC κ w y X)) (va_Qv (fun _ : Nat × Nat × Nat => True) (fun u t => Rp κ w y (upX X q (.inr (12, [.int 0, .int 0, .int 0, .int 0, .int 0, .int 0, .int 0, .int 0, .int 0, .int 0, .int 0, .int 0, .int 0, .int 0, .ref u.1, .ref u.2.1, .ref u.2.2]))) [(u.1, .inl (kT κ 0, (3, .inl (fun _ => 0)))), (u.2.1, .inl (kT κ 2, (3, .inl (fun _ => 0)))), (u.2.2, .inl (kT κ 6, (3, .inr (.inr (.inr (.inr (fun _ => none)))))))] t.heap) (Af κ)) 3 9 (Af κ) := by
  refine Met.ofW (cc := cX11_init) (maxL := 1) (ret := (Option.none : Option Jvm.ClassFile.FieldType)) (by decide) rfl ?_
  intro p e s m args below meth c s₁ B hml hv
  obtain ⟨rfl, hR, hK⟩ := hv
  have hx := B.exec
  have hb := B.bytes
  have hr := B.returns
  have hts := atoms_spec (ws := ws_ yX11_init cX11_init 1 (Option.none : Option Jvm.ClassFile.FieldType)) B.pre
  have hts : ∀ w ∈ lw_all, w.before _ s = true := fun w h => hts w (List.mem_cons_of_mem _ h)
  have hown : s.vm.findClass RX11 = some m.cls := findClass_of_methodNamed B.named
  have hlocks := B.notSynchronized
  have hS : va_S (Af κ) s.heap s.heap [] := va_S.rf
  have hl := lv_entry ([.ref q]) (n := 1) (Nat.le_of_ble_eq_true rfl)
  rw [lg_entry_eq]
  generalize (lg_sl ([.ref q]) ++ List.replicate (1 - (lg_sl ([.ref q])).length) Slot.unset).toArray = ls at hl ⊢
  have hl : lv_has ls 1 [(0, .ref q)] := hl
  have hin : meth.name = "<init>" := (name_of_methodNamed B.named B.method).1
  have hR := hR.toUp hX
  refine lv_aload_n hx hb dX11_init_0 rfl (lv_at hl 0 rfl) ?_
  refine W.objInit hx hb hown (hts _ q2037) (hts _ q127) (hts _ q128) rfl (by rw [hml]; exact hl.1) rfl dX11_init_1 (Nat.le_of_ble_eq_true rfl) (Nat.le_of_ble_eq_true rfl) ?_
  refine W.eq (g2 := F0 m 4 ls []) rfl ?_
  refine lv_aload_n hx hb dX11_init_4 rfl (lv_at hl 0 rfl) ?_
  refine lv_iconst (v := 3) hx hb dX11_init_5 (by decide) ?_
  refine xa_newa (ty := .int) (N' := 3) (a0 := (3, .inl (fun _ => 0))) hx hb hts q995 rfl hK.1 0 rfl (by intro C h9; cases h9) hS rfl (by decide) (by decide) (by decide) (Nat.le_of_ble_eq_true rfl) (Nat.le_of_ble_eq_true rfl) dX11_init_6 (fun a1 H1 hq h1 hz ho hS => ?_)
  have hR := hR.newL hq h1 (by omega) ho
  clear hq h1 hz ho
  generalize H1 = H at hR hS ⊢
  have hR : Rp κ w y (upX X q (.inr (12, [.int 0, .int 0, .int 0, .int 0, .int 0, .int 0, .int 0, .int 0, .int 0, .int 0, .int 0, .int 0, .int 0, .int 0, .null, .null, .null]))) [(a1, .inl (kT κ 0, (3, .inl (fun _ => 0))))] H := hR
  refine xa_putF (T := TX11) (N := 17) hx hb hts in_X11 tyX11 tyX11_ok nmX11 hown hK.1 hS (hR.2.2.2.1 _ _ (upX_self _ _ _)).2.1 (hR.X (upX_self _ _ _)) rfl 14 (by decide) q2055 rfl rfl hin rfl rfl rfl (Nat.le_of_ble_eq_true rfl) dX11_init_8 (fun H1 locs h1 hz ho hS => ?_)
  have hR := hR.putXL2 h1 hz ho
  clear h1 hz ho
  generalize H1 = H at hR hS ⊢
  have hR : Rp κ w y (upX X q (.inr (12, [.int 0, .int 0, .int 0, .int 0, .int 0, .int 0, .int 0, .int 0, .int 0, .int 0, .int 0, .int 0, .int 0, .int 0, .ref a1, .null, .null]))) [(a1, .inl (kT κ 0, (3, .inl (fun _ => 0))))] H := hR
  refine lv_aload_n hx hb dX11_init_11 rfl (lv_at hl 0 rfl) ?_
  refine lv_iconst (v := 3) hx hb dX11_init_12 (by decide) ?_
  refine xa_newa (ty := .boolean) (N' := 3) (a0 := (3, .inl (fun _ => 0))) hx hb hts q996 rfl hK.1 2 rfl (by intro C h9; cases h9) hS rfl (by decide) (by decide) (by decide) (Nat.le_of_ble_eq_true rfl) (Nat.le_of_ble_eq_true rfl) dX11_init_13 (fun a2 H1 hq h1 hz ho hS => ?_)
  have hR := hR.newL hq h1 (by omega) ho
  clear hq h1 hz ho
  generalize H1 = H at hR hS ⊢
  have hR : Rp κ w y (upX X q (.inr (12, [.int 0, .int 0, .int 0, .int 0, .int 0, .int 0, .int 0, .int 0, .int 0, .int 0, .int 0, .int 0, .int 0, .int 0, .ref a1, .null, .null]))) [(a1, .inl (kT κ 0, (3, .inl (fun _ => 0)))), (a2, .inl (kT κ 2, (3, .inl (fun _ => 0))))] H := hR
  refine xa_putF (T := TX11) (N := 17) hx hb hts in_X11 tyX11 tyX11_ok nmX11 hown hK.1 hS (hR.2.2.2.1 _ _ (upX_self _ _ _)).2.1 (hR.X (upX_self _ _ _)) rfl 15 (by decide) q2057 rfl rfl hin rfl rfl rfl (Nat.le_of_ble_eq_true rfl) dX11_init_15 (fun H1 locs h1 hz ho hS => ?_)
  have hR := hR.putXL2 h1 hz ho
  clear h1 hz ho
  generalize H1 = H at hR hS ⊢
  have hR : Rp κ w y (upX X q (.inr (12, [.int 0, .int 0, .int 0, .int 0, .int 0, .int 0, .int 0, .int 0, .int 0, .int 0, .int 0, .int 0, .int 0, .int 0, .ref a1, .ref a2, .null]))) [(a1, .inl (kT κ 0, (3, .inl (fun _ => 0)))), (a2, .inl (kT κ 2, (3, .inl (fun _ => 0))))] H := hR
  refine lv_aload_n hx hb dX11_init_18 rfl (lv_at hl 0 rfl) ?_
  refine lv_iconst (v := 3) hx hb dX11_init_19 (by decide) ?_
  refine xa_anewA (t := .int) (N' := 3) hx hb hts hown q2038 hK.2.1.2.2.2.2.2.1.2.2.2.1 hK.1 6 rfl hS (by decide) (by decide) (by decide) (Nat.le_of_ble_eq_true rfl) (Nat.le_of_ble_eq_true rfl) dX11_init_20 (fun a3 H1 hq h1 hz ho hS => ?_)
  have hR := hR.newL hq h1 (by omega) ho
  clear hq h1 hz ho
  generalize H1 = H at hR hS ⊢
  have hR : Rp κ w y (upX X q (.inr (12, [.int 0, .int 0, .int 0, .int 0, .int 0, .int 0, .int 0, .int 0, .int 0, .int 0, .int 0, .int 0, .int 0, .int 0, .ref a1, .ref a2, .null]))) [(a1, .inl (kT κ 0, (3, .inl (fun _ => 0)))), (a2, .inl (kT κ 2, (3, .inl (fun _ => 0)))), (a3, .inl (kT κ 6, (3, .inr (.inr (.inr (.inr (fun _ => none)))))))] H := hR
  refine xa_putF (T := TX11) (N := 17) hx hb hts in_X11 tyX11 tyX11_ok nmX11 hown hK.1 hS (hR.2.2.2.1 _ _ (upX_self _ _ _)).2.1 (hR.X (upX_self _ _ _)) rfl 16 (by decide) q2059 rfl rfl hin rfl rfl rfl (Nat.le_of_ble_eq_true rfl) dX11_init_23 (fun H1 locs h1 hz ho hS => ?_)
  have hR := hR.putXL2 h1 hz ho
  clear h1 hz ho
  generalize H1 = H at hR hS ⊢
  have hR : Rp κ w y (upX X q (.inr (12, [.int 0, .int 0, .int 0, .int 0, .int 0, .int 0, .int 0, .int 0, .int 0, .int 0, .int 0, .int 0, .int 0, .int 0, .ref a1, .ref a2, .ref a3]))) [(a1, .inl (kT κ 0, (3, .inl (fun _ => 0)))), (a2, .inl (kT κ 2, (3, .inl (fun _ => 0)))), (a3, .inl (kT κ 6, (3, .inr (.inr (.inr (.inr (fun _ => none)))))))] H := hR
  exact W.vret hx hb hr (fun t ht hW9 => ⟨⟨(a1, a2, a3), rfl, trivial, rpt ht hR⟩, hS.F ht⟩) hS.2.2 dX11_init_26
theorem hd_X13_init : yX13_init.cls = RX13 ∧ yX13_init.cls ≠ "java/lang/invoke/MethodHandle" ∧ yX13_init.cls ≠ "java/lang/invoke/VarHandle" ∧ (parseMethodDescriptor yX13_init.desc).map (fun d => d.parameters.length) = some 0 := by decide +kernel
abbrev rm_X13_init : Room := { frames := 4, cells := 2, slots := 6, locals := 92 }
set_option maxHeartbeats 4000000 in
theorem m_X13_init {l : Launch} {κ : Kx} {w : Wd} {y : Ly} {X : XR} {q : Nat} (hX : X q (.inr (13, [.int 0, .int 0, .int 0, .int 0, .int 0, .int 0, .int 0, .int 0, .int 0, .null, .null]))) : Met l yX13_init (ws_ yX13_init cX13_init 1 (Option.none : Option Jvm.ClassFile.FieldType)) rm_X13_init (va_Pc [.ref q] (RC κ w y X)) (va_Qv (fun _ : Nat × Nat => True) (fun u t => Rp κ w y (upX X q (.inr (13, [.int 0, .int 0, .int 0, .int 0, .int 0, .int 0, .int 0, .int 0, .int 0, .ref u.1, .ref u.2]))) [(u.1, eL 0 (kA κ 1) 0), (u.2, eL 0 (kA κ 1) 0)] t.heap) (Af κ)) 2 6 (Af κ) := by
  refine Met.ofW (cc := cX13_init) (maxL := 1) (ret := (Option.none : Option Jvm.ClassFile.FieldType)) (by decide) rfl ?_
  intro p e s m args below meth c s₁ B hml hv
  obtain ⟨rfl, hR, hK⟩ := hv
  have hx := B.exec
  have hb := B.bytes
  have hr := B.returns
  have hts := atoms_spec (ws := ws_ yX13_init cX13_init 1 (Option.none : Option Jvm.ClassFile.FieldType)) B.pre
  have hts : ∀ w ∈ lw_all, w.before _ s = true := fun w h => hts w (List.mem_cons_of_mem _ h)
  have hown : s.vm.findClass RX13 = some m.cls := findClass_of_methodNamed B.named
  have hlocks := B.notSynchronized
  have hS : va_S (Af κ) s.heap s.heap [] := va_S.rf
  have hl := lv_entry ([.ref q]) (n := 1) (Nat.le_of_ble_eq_true rfl)
  rw [lg_entry_eq]
  generalize (lg_sl ([.ref q]) ++ List.replicate (1 - (lg_sl ([.ref q])).length) Slot.unset).toArray = ls at hl ⊢
  have hl : lv_has ls 1 [(0, .ref q)] := hl
  have hin : meth.name = "<init>" := (name_of_methodNamed B.named B.method).1
  have hR := hR.toUp hX
  refine lv_aload_n hx hb dX13_init_0 rfl (lv_at hl 0 rfl) ?_
  refine W.objInit hx hb hown (hts _ q2146) (hts _ q127) (hts _ q128) rfl (by rw [hml]; exact hl.1) rfl dX13_init_1 (Nat.le_of_ble_eq_true rfl) (Nat.le_of_ble_eq_true rfl) ?_
  refine W.eq (g2 := F0 m 4 ls []) rfl ?_
  refine lv_aload_n hx hb dX13_init_4 rfl (lv_at hl 0 rfl) ?_
  refine xa_new (C := RJ2) (T := TJ2) (N := 3) (ci := 16) (fs := [.int 0, .null, .int 0]) hx hb hts in_J2 tyJ2 tyJ2_ok hown q2147 q130 q77 hK.1 hS rfl (fun j hj => by rcases (show j = 0 ∨ j = 1 ∨ j = 2 by omega) with rfl | rfl | rfl <;> rfl) (Nat.le_of_ble_eq_true rfl) (Nat.le_of_ble_eq_true rfl) dX13_init_5 (fun a1 H1 hq h1 hz ho hS => ?_)
  have hR := hR.newL hq h1 (by omega) ho
  clear hq h1 hz ho
  generalize H1 = H at hR hS ⊢
  have hR : Rp κ w y (upX X q (.inr (13, [.int 0, .int 0, .int 0, .int 0, .int 0, .int 0, .int 0, .int 0, .int 0, .null, .null]))) [(a1, .inr (16, [.int 0, .null, .int 0]))] H := hR
  refine lv_dup hx hb dX13_init_8 rfl ?_
  refine va_callv (va_runI (As := []) (rest := [.ref a1, .ref q]) ⟨hx, hb, hml, hown, hts⟩ (m_J2_init (X := xl (upX X q (.inr (13, [.int 0, .int 0, .int 0, .int 0, .int 0, .int 0, .int 0, .int 0, .int 0, .null, .null]))) [(a1, .inr (16, [.int 0, .null, .int 0]))]) (Or.inr ⟨0, rfl⟩)) (cwI 0 hts (lw_meth q133) rfl rfl rfl (hts _ q77) (hts _ q2148) (hts _ q132) rfl (by decide +kernel) ⟨Nat.le_of_ble_eq_true rfl, Nat.le_of_ble_eq_true rfl⟩) ⟨RC.blind, RC.pre hR hK⟩ rfl rfl hl.1 rfl (lv_room (Nat.le_of_ble_eq_true rfl)) dX13_init_9 ⟨Nat.le_of_ble_eq_true rfl, Nat.le_of_ble_eq_true rfl⟩) hS (fun _ _ h => h) (fun _ h => h) (fun u2 t9 H locs ht9 _ hp9 hB9 hz9 _ hS => ?_)
  rw [ht9] at hB9
  have hR := hR.wroteL (t := 0) rfl hB9
  clear hp9 hz9 hB9
  have hR : Rp κ w y (upX X q (.inr (13, [.int 0, .int 0, .int 0, .int 0, .int 0, .int 0, .int 0, .int 0, .int 0, .null, .null]))) [(a1, eL 0 (kA κ 1) 0)] H := hR
  refine xa_putF (T := TX13) (N := 11) hx hb hts in_X13 tyX13 tyX13_ok nmX13 hown hK.1 hS (hR.2.2.2.1 _ _ (upX_self _ _ _)).2.1 (hR.X (upX_self _ _ _)) rfl 9 (by decide) q2158 rfl rfl hin rfl rfl rfl (Nat.le_of_ble_eq_true rfl) dX13_init_12 (fun H1 locs h1 hz ho hS => ?_)
  have hR := hR.putXL2 h1 hz ho
  clear h1 hz ho
  generalize H1 = H at hR hS ⊢
  have hR : Rp κ w y (upX X q (.inr (13, [.int 0, .int 0, .int 0, .int 0, .int 0, .int 0, .int 0, .int 0, .int 0, .ref a1, .null]))) [(a1, eL 0 (kA κ 1) 0)] H := hR
  refine lv_aload_n hx hb dX13_init_15 rfl (lv_at hl 0 rfl) ?_
  refine xa_new (C := RJ2) (T := TJ2) (N := 3) (ci := 16) (fs := [.int 0, .null, .int 0]) hx hb hts in_J2 tyJ2 tyJ2_ok hown q2147 q130 q77 hK.1 hS rfl (fun j hj => by rcases (show j = 0 ∨ j = 1 ∨ j = 2 by omega) with rfl | rfl | rfl <;> rfl) (Nat.le_of_ble_eq_true rfl) (Nat.le_of_ble_eq_true rfl) dX13_init_16 (fun a3 H1 hq h1 hz ho hS => ?_)
  have hR := hR.newL hq h1 (by omega) ho
  clear hq h1 hz ho
  generalize H1 = H at hR hS ⊢
  have hR : Rp κ w y (upX X q (.inr (13, [.int 0, .int 0, .int 0, .int 0, .int 0, .int 0, .int 0, .int 0, .int 0, .ref a1, .null]))) [(a1, eL 0 (kA κ 1) 0), (a3, .inr (16, [.int 0, .null, .int 0]))] H := hR
  refine lv_dup hx hb dX13_init_19 rfl ?_
  refine va_callv (va_runI (As := []) (rest := [.ref a3, .ref q]) ⟨hx, hb, hml, hown, hts⟩ (m_J2_init (X := xl (upX X q (.inr (13, [.int 0, .int 0, .int 0, .int 0, .int 0, .int 0, .int 0, .int 0, .int 0, .ref a1, .null]))) [(a1, eL 0 (kA κ 1) 0), (a3, .inr (16, [.int 0, .null, .int 0]))]) (Or.inr ⟨1, rfl⟩)) (cwI 0 hts (lw_meth q133) rfl rfl rfl (hts _ q77) (hts _ q2148) (hts _ q132) rfl (by decide +kernel) ⟨Nat.le_of_ble_eq_true rfl, Nat.le_of_ble_eq_true rfl⟩) ⟨RC.blind, RC.pre hR hK⟩ rfl rfl hl.1 rfl (lv_room (Nat.le_of_ble_eq_true rfl)) dX13_init_20 ⟨Nat.le_of_ble_eq_true rfl, Nat.le_of_ble_eq_true rfl⟩) hS (fun _ _ h => h) (fun _ h => h) (fun u4 t9 H locs ht9 _ hp9 hB9 hz9 _ hS => ?_)
  rw [ht9] at hB9
  have hR := hR.wroteL (t := 1) rfl hB9
  clear hp9 hz9 hB9
  have hR : Rp κ w y (upX X q (.inr (13, [.int 0, .int 0, .int 0, .int 0, .int 0, .int 0, .int 0, .int 0, .int 0, .ref a1, .null]))) [(a1, eL 0 (kA κ 1) 0), (a3, eL 0 (kA κ 1) 0)] H := hR
  refine xa_putF (T := TX13) (N := 11) hx hb hts in_X13 tyX13 tyX13_ok nmX13 hown hK.1 hS (hR.2.2.2.1 _ _ (upX_self _ _ _)).2.1 (hR.X (upX_self _ _ _)) rfl 10 (by decide) q2160 rfl rfl hin rfl rfl rfl (Nat.le_of_ble_eq_true rfl) dX13_init_23 (fun H1 locs h1 hz ho hS => ?_)
  have hR := hR.putXL2 h1 hz ho
  clear h1 hz ho
  generalize H1 = H at hR hS ⊢
  have hR : Rp κ w y (upX X q (.inr (13, [.int 0, .int 0, .int 0, .int 0, .int 0, .int 0, .int 0, .int 0, .int 0, .ref a1, .ref a3]))) [(a1, eL 0 (kA κ 1) 0), (a3, eL 0 (kA κ 1) 0)] H := hR
  exact W.vret hx hb hr (fun t ht hW9 => ⟨⟨(a1, a3), rfl, trivial, rpt ht hR⟩, hS.F ht⟩) hS.2.2 dX13_init_26
theorem hd_X16_init : yX16_init.cls = RX16 ∧ yX16_init.cls ≠ "java/lang/invoke/MethodHandle" ∧ yX16_init.cls ≠ "java/lang/invoke/VarHandle" ∧ (parseMethodDescriptor yX16_init.desc).map (fun d => d.parameters.length) = some 0 := by decide +kernel
abbrev rm_X16_init : Room := { frames := 1, cells := 2, slots := 12, locals := 24 }
set_option maxHeartbeats 4000000 in
theorem m_X16_init {l : Launch} {κ : Kx} {w : Wd} {y : Ly} {X : XR} {q : Nat} (hX : X q (.inr (14, [.int 0, .int 0, .int 0, .int 0, .int 0, .int 0, .int 0, .int 0, .int 0, .int 0, .int 0, .null, .null]))) : Met l yX16_init (ws_ yX16_init cX16_init 1 (Option.none : Option Jvm.ClassFile.FieldType)) rm_X16_init (va_Pc [.ref q] (RC κ w y X)) (va_Qv (fun _ : Nat × Nat => True) (fun u t => Rp κ w y (upX X q (.inr (14, [.int 0, .int 0, .int 0, .int 0, .int 0, .int (-1), .int 0, .int 0, .int 0, .int 0, .int (-1), .ref u.1, .ref u.2]))) [(u.1, .inl (kT κ 0, (4, .inl (fun _ => 0)))), (u.2, .inl (kT κ 0, (8, .inl (fun _ => 0))))] t.heap) (Af κ)) 2 12 (Af κ) := by
  refine Met.ofW (cc := cX16_init) (maxL := 1) (ret := (Option.none : Option Jvm.ClassFile.FieldType)) (by decide) rfl ?_
  intro p e s m args below meth c s₁ B hml hv
  obtain ⟨rfl, hR, hK⟩ := hv
  have hx := B.exec
  have hb := B.bytes
  have hr := B.returns
  have hts := atoms_spec (ws := ws_ yX16_init cX16_init 1 (Option.none : Option Jvm.ClassFile.FieldType)) B.pre
  have hts : ∀ w ∈ lw_all, w.before _ s = true := fun w h => hts w (List.mem_cons_of_mem _ h)
  have hown : s.vm.findClass RX16 = some m.cls := findClass_of_methodNamed B.named
  have hlocks := B.notSynchronized
  have hS : va_S (Af κ) s.heap s.heap [] := va_S.rf
  have hl := lv_entry ([.ref q]) (n := 1) (Nat.le_of_ble_eq_true rfl)
  rw [lg_entry_eq]
  generalize (lg_sl ([.ref q]) ++ List.replicate (1 - (lg_sl ([.ref q])).length) Slot.unset).toArray = ls at hl ⊢
  have hl : lv_has ls 1 [(0, .ref q)] := hl
  have hin : meth.name = "<init>" := (name_of_methodNamed B.named B.method).1
  have hR := hR.toUp hX
  refine lv_aload_n hx hb dX16_init_0 rfl (lv_at hl 0 rfl) ?_
  refine W.objInit hx hb hown (hts _ q2258) (hts _ q127) (hts _ q128) rfl (by rw [hml]; exact hl.1) rfl dX16_init_1 (Nat.le_of_ble_eq_true rfl) (Nat.le_of_ble_eq_true rfl) ?_
  refine W.eq (g2 := F0 m 4 ls []) rfl ?_
  refine lv_aload_n hx hb dX16_init_4 rfl (lv_at hl 0 rfl) ?_
  refine lv_iconst (v := 0) hx hb dX16_init_5 (by decide) ?_
  refine xa_put (T := TX16) (N := 13) hx hb hts in_X16 tyX16 tyX16_ok nmX16 hown hK.1 hS (hR.2.2.2.1 _ _ (upX_self _ _ _)).2.1 (hR.X (upX_self _ _ _)) rfl 4 (by decide) q2263 rfl rfl rfl rfl (Nat.le_of_ble_eq_true rfl) dX16_init_6 (fun H1 locs h1 hz ho hS => ?_)
  have hR := hR.putXL2 h1 hz ho
  clear h1 hz ho
  generalize H1 = H at hR hS ⊢
  have hR : Rp κ w y (upX X q (.inr (14, [.int 0, .int 0, .int 0, .int 0, .int 0, .int 0, .int 0, .int 0, .int 0, .int 0, .int 0, .null, .null]))) [] H := hR
  refine lv_aload_n hx hb dX16_init_9 rfl (lv_at hl 0 rfl) ?_
  refine lv_iconst (v := (-1)) hx hb dX16_init_10 (by decide) ?_
  refine xa_put (T := TX16) (N := 13) hx hb hts in_X16 tyX16 tyX16_ok nmX16 hown hK.1 hS (hR.2.2.2.1 _ _ (upX_self _ _ _)).2.1 (hR.X (upX_self _ _ _)) rfl 5 (by decide) q2265 rfl rfl rfl rfl (Nat.le_of_ble_eq_true rfl) dX16_init_11 (fun H1 locs h1 hz ho hS => ?_)
  have hR := hR.putXL2 h1 hz ho
  clear h1 hz ho
  generalize H1 = H at hR hS ⊢
  have hR : Rp κ w y (upX X q (.inr (14, [.int 0, .int 0, .int 0, .int 0, .int 0, .int (-1), .int 0, .int 0, .int 0, .int 0, .int 0, .null, .null]))) [] H := hR
  refine lv_aload_n hx hb dX16_init_14 rfl (lv_at hl 0 rfl) ?_
  refine lv_iconst (v := (-1)) hx hb dX16_init_15 (by decide) ?_
  refine xa_put (T := TX16) (N := 13) hx hb hts in_X16 tyX16 tyX16_ok nmX16 hown hK.1 hS (hR.2.2.2.1 _ _ (upX_self _ _ _)).2.1 (hR.X (upX_self _ _ _)) rfl 10 (by decide) q2271 rfl rfl rfl rfl (Nat.le_of_ble_eq_true rfl) dX16_init_16 (fun H1 locs h1 hz ho hS => ?_)
  have hR := hR.putXL2 h1 hz ho
  clear h1 hz ho
  generalize H1 = H at hR hS ⊢
  have hR : Rp κ w y (upX X q (.inr (14, [.int 0, .int 0, .int 0, .int 0, .int 0, .int (-1), .int 0, .int 0, .int 0, .int 0, .int (-1), .null, .null]))) [] H := hR
  refine lv_aload_n hx hb dX16_init_19 rfl (lv_at hl 0 rfl) ?_
  refine lv_iconst (v := 4) hx hb dX16_init_20 (by decide) ?_
  refine xa_newa (ty := .int) (N' := 4) (a0 := (4, .inl (fun _ => 0))) hx hb hts q995 rfl hK.1 0 rfl (by intro C h9; cases h9) hS rfl (by decide) (by decide) (by decide) (Nat.le_of_ble_eq_true rfl) (Nat.le_of_ble_eq_true rfl) dX16_init_21 (fun a1 H1 hq h1 hz ho hS => ?_)
  have hR := hR.newL hq h1 (by omega) ho
  clear hq h1 hz ho
  generalize H1 = H at hR hS ⊢
  have hR : Rp κ w y (upX X q (.inr (14, [.int 0, .int 0, .int 0, .int 0, .int 0, .int (-1), .int 0, .int 0, .int 0, .int 0, .int (-1), .null, .null]))) [(a1, .inl (kT κ 0, (4, .inl (fun _ => 0))))] H := hR
  refine xa_putF (T := TX16) (N := 13) hx hb hts in_X16 tyX16 tyX16_ok nmX16 hown hK.1 hS (hR.2.2.2.1 _ _ (upX_self _ _ _)).2.1 (hR.X (upX_self _ _ _)) rfl 11 (by decide) q2273 rfl rfl hin rfl rfl rfl (Nat.le_of_ble_eq_true rfl) dX16_init_23 (fun H1 locs h1 hz ho hS => ?_)
  have hR := hR.putXL2 h1 hz ho
  clear h1 hz ho
  generalize H1 = H at hR hS ⊢
  have hR : Rp κ w y (upX X q (.inr (14, [.int 0, .int 0, .int 0, .int 0, .int 0, .int (-1), .int 0, .int 0, .int 0, .int 0, .int (-1), .ref a1, .null]))) [(a1, .inl (kT κ 0, (4, .inl (fun _ => 0))))] H := hR
  refine lv_aload_n hx hb dX16_init_26 rfl (lv_at hl 0 rfl) ?_
  refine lv_bipush (v := 8) hx hb dX16_init_27 (by decide) ?_
  refine xa_newa (ty := .int) (N' := 8) (a0 := (8, .inl (fun _ => 0))) hx hb hts q995 rfl hK.1 0 rfl (by intro C h9; cases h9) hS rfl (by decide) (by decide) (by decide) (Nat.le_of_ble_eq_true rfl) (Nat.le_of_ble_eq_true rfl) dX16_init_29 (fun a2 H1 hq h1 hz ho hS => ?_)
  have hR := hR.newL hq h1 (by omega) ho
  clear hq h1 hz ho
  generalize H1 = H at hR hS ⊢
  have hR : Rp κ w y (upX X q (.inr (14, [.int 0, .int 0, .int 0, .int 0, .int 0, .int (-1), .int 0, .int 0, .int 0, .int 0, .int (-1), .ref a1, .null]))) [(a1, .inl (kT κ 0, (4, .inl (fun _ => 0)))), (a2, .inl (kT κ 0, (8, .inl (fun _ => 0))))] H := hR
  refine xa_putF (T := TX16) (N := 13) hx hb hts in_X16 tyX16 tyX16_ok nmX16 hown hK.1 hS (hR.2.2.2.1 _ _ (upX_self _ _ _)).2.1 (hR.X (upX_self _ _ _)) rfl 12 (by decide) q2275 rfl rfl hin rfl rfl rfl (Nat.le_of_ble_eq_true rfl) dX16_init_31 (fun H1 locs h1 hz ho hS => ?_)
  have hR := hR.putXL2 h1 hz ho
  clear h1 hz ho
  generalize H1 = H at hR hS ⊢
  have hR : Rp κ w y (upX X q (.inr (14, [.int 0, .int 0, .int 0, .int 0, .int 0, .int (-1), .int 0, .int 0, .int 0, .int 0, .int (-1), .ref a1, .ref a2]))) [(a1, .inl (kT κ 0, (4, .inl (fun _ => 0)))), (a2, .inl (kT κ 0, (8, .inl (fun _ => 0))))] H := hR
  exact W.vret hx hb hr (fun t ht hW9 => ⟨⟨(a1, a2), rfl, trivial, rpt ht hR⟩, hS.F ht⟩) hS.2.2 dX16_init_34
