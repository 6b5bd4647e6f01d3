/-! BOXES of Integers (printed by wip gen/boxp.py) -/
set_option maxRecDepth 100000
theorem bx_at {κ : Kx} {w : Wd} {y : Ly} {X : XR} {L : va_W} {H : Heap} {s : State} (hK : KK κ s) (hR : Rp κ w y X L H) {a n : Nat} (hB : bxO κ y a n) : va_at (kD κ) Cl (a, .inr (19, [.int (bxV w y n)])) H := by
  unfold bxV
  rcases hB with ⟨h1, rfl⟩ | ⟨h1, h2, rfl⟩
  · rw [if_pos h1]
    exact hR.role (k := 36) ⟨h1, by decide⟩
  · rw [if_neg h1]
    have hBX := hK.2.1.2.2.2.2.2.1.2.2.2.2.2.1 _ h2
    exact hBX.1.kept (hR.1.2 _ hBX.2)
theorem nm_128 {v : Int32} (h0 : ¬ v < -128) (h1 : ¬ 127 < v) : ∃ n, n < 256 ∧ v = nI n - 128 ∧ v + 128 = nI n := by
  have a0 : -128 ≤ v.toInt := by
    have : ¬ v.toInt < (-128 : Int32).toInt := fun h => h0 (Int32.lt_iff_toInt_lt.mpr h)
    rw [show (-128 : Int32).toInt = -128 from by decide] at this
    omega
  have a1 : v.toInt ≤ 127 := by
    have : ¬ (127 : Int32).toInt < v.toInt := fun h => h1 (Int32.lt_iff_toInt_lt.mpr h)
    rw [show (127 : Int32).toInt = 127 from by decide] at this
    omega
  have e : v + 128 = nI (v.toInt + 128).toNat := by
    have h2 : Int32.ofInt (v.toInt + 128) = v + 128 := by
      rw [Int32.ofInt_add, Int32.ofInt_toInt]
      rfl
    rw [← h2]
    show _ = Int32.ofNat _
    have h3 : ((v.toInt + 128).toNat : Int) = v.toInt + 128 := Int.toNat_of_nonneg (by omega)
    rw [← h3]
    rfl
  refine ⟨(v.toInt + 128).toNat, by omega, ?_, e⟩
  rw [← e]
  rw [Int32.add_sub_cancel]
def BC (κ : Kx) (a : Nat) (v : Int32) (U : State) : Prop := va_at (kD κ) Cl (a, .inr (19, [.int v])) U.heap ∧ KK κ U
theorem hd_J20_intValue : yJ20_intValue.cls = RJ20 ∧ yJ20_intValue.cls ≠ "java/lang/invoke/MethodHandle" ∧ yJ20_intValue.cls ≠ "java/lang/invoke/VarHandle" ∧ (parseMethodDescriptor yJ20_intValue.desc).map (fun d => d.parameters.length) = some 0 := by decide +kernel
abbrev rm_J20_intValue : Room := {}
set_option maxHeartbeats 4000000 in
theorem m_J20_intValue {l : Launch} {κ : Kx} {a : Nat} {v : Int32} : Met l yJ20_intValue (ws_ yJ20_intValue cJ20_intValue 1 (Option.some Jvm.ClassFile.FieldType.int)) rm_J20_intValue (va_Pc [.ref a] (BC κ a v)) (Qs (.int v)) 0 0 (nofree) := by
  refine Met.ofW (cc := cJ20_intValue) (maxL := 1) (ret := (Option.some Jvm.ClassFile.FieldType.int)) (by decide) rfl ?_
  intro p e s m args below meth c s₁ B hml hv
  obtain ⟨rfl, hR, hK⟩ := hv
  have hx := B.exec
  have hb := B.bytes
  have hr := B.returns
  have hts := atoms_spec (ws := ws_ yJ20_intValue cJ20_intValue 1 (Option.some Jvm.ClassFile.FieldType.int)) B.pre
  have hts : ∀ w ∈ lw_all, w.before _ s = true := fun w h => hts w (List.mem_cons_of_mem _ h)
  have hown : s.vm.findClass RJ20 = some m.cls := findClass_of_methodNamed B.named
  have hlocks := B.notSynchronized
  have hl := lv_entry ([.ref a]) (n := 1) (Nat.le_of_ble_eq_true rfl)
  rw [lg_entry_eq]
  generalize (lg_sl ([.ref a]) ++ List.replicate (1 - (lg_sl ([.ref a])).length) Slot.unset).toArray = ls at hl ⊢
  have hl : lv_has ls 1 [(0, .ref a)] := hl
  refine lv_aload_n hx hb dJ20_intValue_0 rfl (lv_at hl 0 rfl) ?_
  refine xa_get (T := TJ20) (N := 1) (v := .int v) hx hb hts in_J20 hown hK.1 hR rfl 0 (by decide) q2209 rfl rfl dJ20_intValue_1 ?_
  exact W.iret (v := v) hx hb hr (fun t ht _ => ⟨rfl, ht⟩) (fun q h => by cases h) dJ20_intValue_4
theorem hd_J19_init : yJ19_init.cls = RJ19 ∧ yJ19_init.cls ≠ "java/lang/invoke/MethodHandle" ∧ yJ19_init.cls ≠ "java/lang/invoke/VarHandle" ∧ (parseMethodDescriptor yJ19_init.desc).map (fun d => d.parameters.length) = some 0 := by decide +kernel
abbrev rm_J19_init : Room := { frames := 1, locals := 24 }
set_option maxHeartbeats 4000000 in
theorem m_J19_init {l : Launch} {κ : Kx} {w : Wd} {y : Ly} {X : XR} {q : Nat} : Met l yJ19_init (ws_ yJ19_init cJ19_init 1 (Option.none : Option Jvm.ClassFile.FieldType)) rm_J19_init (va_Pc [.ref q] (RC κ w y X)) (va_Qv (fun _ : Unit => True) (fun _ t => Rp κ w y X [] t.heap) (Af κ)) 0 0 (Af κ) := by
  refine Met.ofW (cc := cJ19_init) (maxL := 1) (ret := (Option.none : Option Jvm.ClassFile.FieldType)) (by decide) rfl ?_
  intro p e s m args below meth c s₁ B hml hv
  obtain ⟨rfl, hR, hK⟩ := hv
  have hx := B.exec
  have hb := B.bytes
  have hr := B.returns
  have hts := atoms_spec (ws := ws_ yJ19_init cJ19_init 1 (Option.none : Option Jvm.ClassFile.FieldType)) B.pre
  have hts : ∀ w ∈ lw_all, w.before _ s = true := fun w h => hts w (List.mem_cons_of_mem _ h)
  have hown : s.vm.findClass RJ19 = some m.cls := findClass_of_methodNamed B.named
  have hlocks := B.notSynchronized
  have hS : va_S (Af κ) s.heap s.heap [] := va_S.rf
  have hl := lv_entry ([.ref q]) (n := 1) (Nat.le_of_ble_eq_true rfl)
  rw [lg_entry_eq]
  generalize (lg_sl ([.ref q]) ++ List.replicate (1 - (lg_sl ([.ref q])).length) Slot.unset).toArray = ls at hl ⊢
  have hl : lv_has ls 1 [(0, .ref q)] := hl
  refine lv_aload_n hx hb dJ19_init_0 rfl (lv_at hl 0 rfl) ?_
  refine W.objInit hx hb hown (hts _ q2208) (hts _ q127) (hts _ q128) rfl (by rw [hml]; exact hl.1) rfl dJ19_init_1 (Nat.le_of_ble_eq_true rfl) (Nat.le_of_ble_eq_true rfl) ?_
  refine W.eq (g2 := F0 m 4 ls []) rfl ?_
  exact W.vret hx hb hr (fun t ht hW9 => ⟨⟨(), rfl, trivial, rpt ht hR⟩, hS.F ht⟩) hS.2.2 dJ19_init_4
theorem hd_J20_init : yJ20_init.cls = RJ20 ∧ yJ20_init.cls ≠ "java/lang/invoke/MethodHandle" ∧ yJ20_init.cls ≠ "java/lang/invoke/VarHandle" ∧ (parseMethodDescriptor yJ20_init.desc).map (fun d => d.parameters.length) = some 1 := by decide +kernel
abbrev rm_J20_init : Room := { frames := 2, locals := 60 }
set_option maxHeartbeats 4000000 in
theorem m_J20_init {l : Launch} {κ : Kx} {w : Wd} {y : Ly} {X : XR} {q : Nat} {v : Int32} (hX : X q (.inr (19, [.int 0]))) : Met l yJ20_init (ws_ yJ20_init cJ20_init 2 (Option.none : Option Jvm.ClassFile.FieldType)) rm_J20_init (va_Pc [.ref q, .int v] (RC κ w y X)) (va_Qv (fun _ : Unit => True) (fun _ t => Rp κ w y (upX X q (.inr (19, [.int v]))) [] t.heap) (Af κ)) 0 0 (Af κ) := by
  refine Met.ofW (cc := cJ20_init) (maxL := 2) (ret := (Option.none : Option Jvm.ClassFile.FieldType)) (by decide) rfl ?_
  intro p e s m args below meth c s₁ B hml hv
  obtain ⟨rfl, hR, hK⟩ := hv
  have hx := B.exec
  have hb := B.bytes
  have hr := B.returns
  have hts := atoms_spec (ws := ws_ yJ20_init cJ20_init 2 (Option.none : Option Jvm.ClassFile.FieldType)) B.pre
  have hts : ∀ w ∈ lw_all, w.before _ s = true := fun w h => hts w (List.mem_cons_of_mem _ h)
  have hown : s.vm.findClass RJ20 = some m.cls := findClass_of_methodNamed B.named
  have hlocks := B.notSynchronized
  have hS : va_S (Af κ) s.heap s.heap [] := va_S.rf
  have hl := lv_entry ([.ref q, .int v]) (n := 2) (Nat.le_of_ble_eq_true rfl)
  rw [lg_entry_eq]
  generalize (lg_sl ([.ref q, .int v]) ++ List.replicate (2 - (lg_sl ([.ref q, .int v])).length) Slot.unset).toArray = ls at hl ⊢
  have hl : lv_has ls 2 [(0, .ref q), (1, .int v)] := hl
  have hin : meth.name = "<init>" := (name_of_methodNamed B.named B.method).1
  refine lv_aload_n hx hb dJ20_init_0 rfl (lv_at hl 0 rfl) ?_
  refine va_callv (va_runI (As := []) (rest := []) ⟨hx, hb, hml, hown, hts⟩ (m_J19_init (X := xl X [])) (cwI 0 hts (lw_meth q2207) rfl rfl rfl (hts _ q109) (hts _ q2205) (hts _ q2206) rfl (by decide +kernel) ⟨Nat.le_of_ble_eq_true rfl, Nat.le_of_ble_eq_true rfl⟩) ⟨RC.blind, RC.pre hR hK⟩ rfl rfl hl.1 rfl (lv_room (Nat.le_of_ble_eq_true rfl)) dJ20_init_1 ⟨Nat.le_of_ble_eq_true rfl, Nat.le_of_ble_eq_true rfl⟩) hS (fun _ _ h => h) (fun _ h => h) (fun u t H1 locs1 ht _ hp hB hz _ hS => ?_)
  rw [ht] at hB
  have hR := hR.up hB
  clear hB hz hp ht
  generalize H1 = H at hR hS ⊢
  refine lv_aload_n hx hb dJ20_init_4 rfl (lv_at hl 0 rfl) ?_
  refine lv_iload_n hx hb dJ20_init_5 rfl (lv_at hl 1 rfl) ?_
  refine xa_putF (T := TJ20) (N := 1) hx hb hts in_J20 tyJ20 tyJ20_ok nmJ20 hown hK.1 hS (hR.2.2.2.1 _ _ hX).2.1 (hR.X hX) rfl 0 (by decide) q2209 rfl rfl hin rfl rfl rfl (Nat.le_of_ble_eq_true rfl) dJ20_init_6 (fun H1 locs h1 hz ho hS => ?_)
  have hR := hR.putX hX h1 hz ho
  exact W.vret hx hb hr (fun t ht hW9 => ⟨⟨(), rfl, trivial, rpt ht hR⟩, hS.F ht⟩) hS.2.2 dJ20_init_9
/-- what Integer.valueOf hands over -/
def BxR (κ : Kx) (w : Wd) (y : Ly) (X : XR) (v : Int32) (ra : Nat) (H : Heap) : Prop := (∃ n, n < 256 ∧ v = nI n - 128 ∧ ra = kA κ (5000 + n) ∧ Rp κ w y X [] H) ∨ Rp κ w y X [(ra, .inr (19, [.int v]))] H
theorem hds_J20_valueOf : yJ20_valueOf.cls ≠ "java/lang/invoke/MethodHandle" ∧ yJ20_valueOf.cls ≠ "java/lang/invoke/VarHandle" ∧ (parseMethodDescriptor yJ20_valueOf.desc).map (fun d => d.parameters.length) = some 1 := by decide +kernel
abbrev rm_J20_valueOf : Room := { frames := 3, cells := 1, slots := 1, locals := 90 }
set_option maxHeartbeats 4000000 in
theorem m_J20_valueOf {l : Launch} {κ : Kx} {w : Wd} {y : Ly} {X : XR} {v : Int32} : Met l yJ20_valueOf (ws_ yJ20_valueOf cJ20_valueOf 1 (Option.some (Jvm.ClassFile.FieldType.object "java/lang/Integer"))) rm_J20_valueOf (va_Pc [.int v] (RC κ w y X)) (va_Qr (fun _ : Unit => True) (fun _ ra t => BxR κ w y X v ra t.heap) (Af κ)) 1 1 (Af κ) := by
  refine Met.ofW (cc := cJ20_valueOf) (maxL := 1) (ret := (Option.some (Jvm.ClassFile.FieldType.object "java/lang/Integer"))) (by decide) rfl ?_
  intro p e s m args below meth c s₁ B hml hv
  obtain ⟨rfl, hR, hK⟩ := hv
  have hx := B.exec
  have hb := B.bytes
  have hr := B.returns
  have hts := atoms_spec (ws := ws_ yJ20_valueOf cJ20_valueOf 1 (Option.some (Jvm.ClassFile.FieldType.object "java/lang/Integer"))) B.pre
  have hts : ∀ w ∈ lw_all, w.before _ s = true := fun w h => hts w (List.mem_cons_of_mem _ h)
  have hown : s.vm.findClass RJ20 = some m.cls := findClass_of_methodNamed B.named
  have hlocks := B.notSynchronized
  have hS : va_S (Af κ) s.heap s.heap [] := va_S.rf
  have hl := lv_entry ([.int v]) (n := 1) (Nat.le_of_ble_eq_true rfl)
  rw [lg_entry_eq]
  generalize (lg_sl ([.int v]) ++ List.replicate (1 - (lg_sl ([.int v])).length) Slot.unset).toArray = ls at hl ⊢
  have hl : lv_has ls 1 [(0, .int v)] := hl
  have hnew : W p l e (headSpec (ws_ yJ20_valueOf cJ20_valueOf 1 (Option.some (Jvm.ClassFile.FieldType.object "java/lang/Integer"))) rm_J20_valueOf).room s m ([.int v] : List Value).toArray below meth c s.heap [] 0 0 (MQ below (va_Qr (fun _ : Unit => True) (fun _ ra t => BxR κ w y X v ra t.heap) (Af κ)) ([.int v] : List Value).toArray s 1 1 (Af κ)) (F0 m 23 ls []) := by
    refine xa_new (C := RJ20) (T := TJ20) (N := 1) (ci := 19) (fs := [.int 0]) hx hb hts in_J20 tyJ20 tyJ20_ok hown q2200 q2201 q110 hK.1 hS rfl (fun j hj => by rcases (show j = 0 by omega) with rfl; rfl) (Nat.le_of_ble_eq_true rfl) (Nat.le_of_ble_eq_true rfl) dJ20_valueOf_23 (fun q H1 hq h1 hz ho hS => ?_)
    have hR := hR.newL hq h1 (by omega) ho
    clear hq h1 hz ho
    generalize H1 = H at hR hS ⊢
    refine lv_dup hx hb dJ20_valueOf_26 rfl ?_
    refine lv_iload_n hx hb dJ20_valueOf_27 rfl (lv_at hl 0 rfl) ?_
    refine va_callv (va_runI (As := [.int v]) (rest := [.ref q]) ⟨hx, hb, hml, hown, hts⟩ (m_J20_init (X := xl X [(q, .inr (19, [.int 0]))]) (Or.inr ⟨0, rfl⟩)) (cwI 1 hts (lw_meth q2204) rfl rfl rfl (hts _ q110) (hts _ q2202) (hts _ q2203) rfl (by decide +kernel) ⟨Nat.le_of_ble_eq_true rfl, Nat.le_of_ble_eq_true rfl⟩) ⟨RC.blind, RC.pre hR hK⟩ rfl rfl hl.1 rfl (lv_room (Nat.le_of_ble_eq_true rfl)) dJ20_valueOf_28 ⟨Nat.le_of_ble_eq_true rfl, Nat.le_of_ble_eq_true rfl⟩) hS (fun _ _ h => h) (fun _ h => h) (fun u t H1 locs1 ht _ hp hB hz _ hS => ?_)
    rw [ht] at hB
    have hR := hR.wroteL (t := 0) rfl hB
    exact W.aret hx hb hr (Or.inl ⟨_, rfl⟩) (Or.inr ⟨_, rfl⟩) (fun t ht _ => ⟨⟨(), q, rfl, trivial, by have h9 : BxR κ w y X v q t.heap := (by rw [ht]; exact Or.inr hR); exact h9⟩, hS.F ht⟩) hS.2.2 dJ20_valueOf_31
  refine lv_iload_n hx hb dJ20_valueOf_0 rfl (lv_at hl 0 rfl) ?_
  refine lv_bipush (v := -128) hx hb dJ20_valueOf_1 (by decide) ?_
  refine lv_icmp_lt (tgt := 23) hx hb dJ20_valueOf_3 (by decide) (fun _ => hnew) (fun c0 => ?_)
  refine lv_iload_n hx hb dJ20_valueOf_6 rfl (lv_at hl 0 rfl) ?_
  refine jr_getsI (C := "java/lang/Integer$IntegerCache") (n := "high") (d := "I") (v := 127) hx hb hown hK hR (List.mem_of_getElem? (i := 1) rfl) q2196 hts dJ20_valueOf_7 ?_
  refine lv_icmp_gt (tgt := 23) hx hb dJ20_valueOf_10 (by decide) (fun _ => hnew) (fun c1 => ?_)
  clear hnew
  obtain ⟨n, hn, hv, hv2⟩ := nm_128 c0 c1
  refine jr_gets (C := "java/lang/Integer$IntegerCache") (n := "cache") (d := "[Ljava/lang/Integer;") (j := 31) hx hb hown hK hR hS (List.mem_of_getElem? (i := 7) rfl) q2198 hts dJ20_valueOf_13 ?_
  refine lv_iload_n hx hb dJ20_valueOf_16 rfl (lv_at hl 0 rfl) ?_
  refine lv_sipush (v := 128) hx hb dJ20_valueOf_17 (by decide) ?_
  refine lv_iadd hx hb dJ20_valueOf_20 ?_
  rw [hv2]
  obtain ⟨cell, i1, i2, i3, i4, i5, i6⟩ := hK.2.1.2.2.2.2.2.1.2.2.2.2.1
  have hc := (hR.1.2 _ i6).trans i1
  refine W.aald (v := .ref (kA κ (5000 + n))) hx hb hc i2 rfl i3 (by rw [i4]; exact vp_in_nI hn (by omega)) (by rw [nI_clamp (by omega)]; exact i5 n hn) rfl rfl dJ20_valueOf_21 ?_
  refine W.eq (g2 := F0 m 22 ls [.ref (kA κ (5000 + n))]) rfl ?_
  refine W.widen (k := 1) (n := 1) (Nat.zero_le _) (Nat.zero_le _) ?_
  exact W.aret hx hb hr (Or.inl ⟨_, rfl⟩) (Or.inr ⟨_, rfl⟩) (fun t ht _ => ⟨⟨(), kA κ (5000 + n), rfl, trivial, by have h9 : BxR κ w y X v (kA κ (5000 + n)) t.heap := (by rw [ht]; exact Or.inl ⟨n, hn, hv, rfl, hR⟩); exact h9⟩, hS.F ht⟩) hS.2.2 dJ20_valueOf_22
/-- what a box's change makes of the world and of the layout -/
def BxS (w w1 : Wd) (y y1 : Ly) (e : Nat) (v : Int32) : Prop := bxV w1 y1 e = v ∧ (∀ e', e' ≠ e → bxV w1 y1 e' = bxV w y e') ∧ (∀ k i, ¬ (k = 36 ∧ i = e) → w1.1 k i = w.1 k i) ∧ w1.2 = w.2 ∧ ∀ k i, ¬ (k = 36 ∧ i = e) → ¬ (k = 137 ∧ i = e) → y1.1 k i = y.1 k i
def yBx0 (y : Ly) (k f e n : Nat) (κ : Kx) : Ly := seF (seF (seA y k f (kA κ (5000 + n))) 36 e 0) 137 e n
def yBx1 (y : Ly) (k f e q : Nat) : Ly := seF (seA (seA y k f q) 36 e q) 36 e 1
theorem bxS_0 {κ : Kx} {w : Wd} {y : Ly} {k f e n : Nat} {v : Int32} (hv : v = nI n - 128) : BxS w w y (yBx0 y k f e n κ) e v := by
  have f1 : ∀ k' i, ¬ (k' = 36 ∧ i = e) → ¬ (k' = 137 ∧ i = e) → (yBx0 y k f e n κ).1 k' i = y.1 k' i := fun k' i h1 h2 => by
    unfold yBx0
    rw [seF_ne h2, seF_ne h1]
    rfl
  have a1 : (yBx0 y k f e n κ).1 36 e = 0 := by
    unfold yBx0
    rw [seF_ne (fun h => by omega), seF_eq]
  have a2 : (yBx0 y k f e n κ).1 137 e = n := seF_eq
  refine ⟨?_, fun e' he => ?_, fun _ _ _ => rfl, rfl, f1⟩
  · unfold bxV
    rw [a1, a2, if_neg (by decide), hv]
  · unfold bxV
    rw [f1 36 e' (fun h => he h.2) (fun h => he h.2), f1 137 e' (fun h => he h.2) (fun h => he h.2)]
theorem bxS_1 {w : Wd} {y : Ly} {k f e q : Nat} {v : Int32} : BxS w (sv w 36 e 0 v) y (yBx1 y k f e q) e v := by
  have f1 : ∀ k' i, ¬ (k' = 36 ∧ i = e) → (yBx1 y k f e q).1 k' i = y.1 k' i := fun k' i h1 => by
    unfold yBx1
    rw [seF_ne h1]
    rfl
  have a1 : (yBx1 y k f e q).1 36 e = 1 := seF_eq
  refine ⟨?_, fun e' he => ?_, fun k i h => sv_ne _ _ _ _ _ h, rfl, fun k i h _ => f1 k i h⟩
  · unfold bxV
    rw [a1, if_pos rfl]
    simp [gv, sv]
  · unfold bxV
    rw [f1 36 e' (fun h => he h.2), f1 137 e' (fun h => he h.2)]
    unfold gv
    rw [sv_ne _ _ _ _ _ (fun h => he h.2)]
theorem yBx0_2 {κ : Kx} {y : Ly} {k f e n k' i : Nat} (h : ¬ (k' = k ∧ i = f)) : (yBx0 y k f e n κ).2 k' i = y.2 k' i := seA_ne h
theorem yBx1_2 {y : Ly} {k f e q k' i : Nat} (h : ¬ (k' = k ∧ i = f)) (h6 : ¬ (k' = 36 ∧ i = e)) : (yBx1 y k f e q).2 k' i = y.2 k' i := by
  show (seA (seA y k f q) 36 e q).2 k' i = _
  rw [seA_ne h6, seA_ne h]
/-- the cells that don't see the boxes -/
theorem ce_bx {κ : Kx} {y y' : Ly} {e k i : Nat} {g : Nat → Int32} {l : Int64} (hk : k < 100) (h1 : ∀ k' i', ¬ (k' = 36 ∧ i' = e) → ¬ (k' = 137 ∧ i' = e) → y'.1 k' i' = y.1 k' i') (h2 : ∀ k' i', ¬ (k' = 36 ∧ i' = e) → y'.2 k' i' = y.2 k' i') : ce κ y' k i g l = ce κ y k i g l := by
  have a1 : ∀ k', k' ≠ 36 → k' ≠ 137 → y'.1 k' = y.1 k' := fun k' h h' => funext fun i' => h1 k' i' (fun e => h e.1) (fun e => h' e.1)
  have a2 : ∀ k', k' ≠ 36 → y'.2 k' = y.2 k' := fun k' h => funext fun i' => h2 k' i' (fun e => h e.1)
  unfold ce
  split
  all_goals first
    | rfl
    | (have n35 : k ≠ 35 := by assumption
       split
       · exact lsC_eq (by rw [a1 _ (by omega) (by omega)]) (by rw [a1 _ (by omega) (by omega)]) (by rw [a1 _ (by omega) (by omega)]) (by rw [a2 _ (by omega)])
       · exact laC_eq (by rw [a1 _ (by omega) (by omega)]) (a2 _ (by omega)))
    | (simp only [a1 14 (by decide) (by decide), a1 25 (by decide) (by decide), a2 1 (by decide), a2 2 (by decide), a2 3 (by decide), a2 4 (by decide), a2 5 (by decide), a2 7 (by decide), a2 8 (by decide), a2 9 (by decide), a2 12 (by decide), a2 13 (by decide), a2 14 (by decide), a2 16 (by decide), a2 22 (by decide), a2 23 (by decide), a2 24 (by decide), a2 25 (by decide), a2 28 (by decide), a2 29 (by decide), a2 30 (by decide), a2 31 (by decide), a2 32 (by decide), a2 33 (by decide), a2 34 (by decide), a2 35 (by decide), a2 40 (by decide), a2 42 (by decide), a2 44 (by decide), a2 46 (by decide), a2 48 (by decide), a2 50 (by decide), a2 52 (by decide), a2 54 (by decide), a2 56 (by decide), a2 58 (by decide)]; done)
    | (simp only [a1 14 (by decide) (by decide), a1 25 (by decide) (by decide), a2 1 (by decide), a2 2 (by decide), a2 3 (by decide), a2 4 (by decide), a2 5 (by decide), a2 7 (by decide), a2 8 (by decide), a2 9 (by decide), a2 12 (by decide), a2 13 (by decide), a2 14 (by decide), a2 16 (by decide), a2 22 (by decide), a2 23 (by decide), a2 24 (by decide), a2 25 (by decide), a2 28 (by decide), a2 29 (by decide), a2 30 (by decide), a2 31 (by decide), a2 32 (by decide), a2 33 (by decide), a2 34 (by decide), a2 35 (by decide), a2 40 (by decide), a2 42 (by decide), a2 44 (by decide), a2 46 (by decide), a2 48 (by decide), a2 50 (by decide), a2 52 (by decide), a2 54 (by decide), a2 56 (by decide), a2 58 (by decide)]; rfl)
theorem leS_bx0 {κ : Kx} {y : Ly} {k f e n : Nat} (hk : vol2 k = true) : LeS y (yBx0 y k f e n κ) := LeS.trans (LeS.trans (LeS.seA hk) (LeS.seF rfl)) (LeS.seF rfl)
theorem leS_bx1 {y : Ly} {k f e q : Nat} (hk : vol2 k = true) : LeS y (yBx1 y k f e q) := LeS.trans (LeS.trans (LeS.seA hk) (LeS.seA rfl)) (LeS.seF rfl)
theorem WFm.bx {κ : Kx} {y y1 : Ly} (h : WFm κ y) {j t : Nat} (hl : live y 26 j) (ht : t < mT y j) (e1 : ∀ k i, ¬ (k = 36 ∧ i = 50 + (5 * j + t)) → ¬ (k = 137 ∧ i = 50 + (5 * j + t)) → y1.1 k i = y.1 k i) (e2 : ∀ k i, ¬ (k = 36 ∧ i = 50 + (5 * j + t)) → ¬ (k = 358 ∧ i = 16 * j + t) → y1.2 k i = y.2 k i) (hb : bxO κ y1 (y1.2 358 (16 * j + t)) (50 + (5 * j + t))) : WFm κ y1 := by
  have hj4 := h.ci4 hl
  have ht5 : t < 5 := Nat.lt_of_lt_of_le ht (Nat.le_trans (h.mTS hl) (h.mS5 hl))
  have f1 : ∀ k, k ≠ 36 → k ≠ 137 → y1.1 k = y.1 k := fun k a b => funext fun i => e1 k i (fun e => a e.1) (fun e => b e.1)
  have f2 : ∀ k, k ≠ 36 → k ≠ 358 → y1.2 k = y.2 k := fun k a b => funext fun i => e2 k i (fun e => a e.1) (fun e => b e.1)
  have fb : ∀ a n, n ≠ 50 + (5 * j + t) → bxO κ y a n → bxO κ y1 a n := fun a n hn hb => by
    unfold bxO at hb ⊢
    rw [e1 36 n (fun e => hn e.2) (fun e => hn e.2), e1 137 n (fun e => hn e.2) (fun e => hn e.2), e2 36 n (fun e => hn e.2) (fun e => by omega)]
    exact hb
  obtain ⟨b1, b2, b3, b4, b5, b6, b7, b8, b9⟩ := h
  unfold WFm
  simp only [live, mV, mC, mL, mS, mT] at b1 b2 b3 b4 b5 b6 b7 b8 b9 ⊢
  simp only [f1 20 (by decide) (by decide), f1 21 (by decide) (by decide), f1 22 (by decide) (by decide), f1 23 (by decide) (by decide), f1 24 (by decide) (by decide), f1 26 (by decide) (by decide), f1 27 (by decide) (by decide), f1 28 (by decide) (by decide), f1 29 (by decide) (by decide), f1 30 (by decide) (by decide), f1 31 (by decide) (by decide), f1 32 (by decide) (by decide), f1 33 (by decide) (by decide), f1 34 (by decide) (by decide), f1 35 (by decide) (by decide), f1 50 (by decide) (by decide), f1 51 (by decide) (by decide), f1 52 (by decide) (by decide), f1 53 (by decide) (by decide), f1 54 (by decide) (by decide), f1 55 (by decide) (by decide), f1 56 (by decide) (by decide), f1 57 (by decide) (by decide), f1 58 (by decide) (by decide), f1 59 (by decide) (by decide), f1 150 (by decide) (by decide), f1 152 (by decide) (by decide), f1 154 (by decide) (by decide), f1 156 (by decide) (by decide), f1 158 (by decide) (by decide), f2 350 (by decide) (by decide), f2 352 (by decide) (by decide), f2 354 (by decide) (by decide), f2 356 (by decide) (by decide), f2 21 (by decide) (by decide), f2 26 (by decide) (by decide), f2 27 (by decide) (by decide)]
  refine ⟨b1, b2, b3, b4, b5, fun j' hj' => ?_, b7, b8, b9⟩
  obtain ⟨c1, c2, c3, c4, c5, c6⟩ := b6 j' hj'
  refine ⟨c1, c2, c3, c4, fun t' ht' => fb _ _ (by omega) (c5 t' ht'), fun t' ht' => ?_⟩
  have d2 := c6 t' ht'
  have ht'5 : t' < 5 := by omega
  by_cases hc : j' = j ∧ t' = t
  · obtain ⟨rfl, rfl⟩ := hc
    exact hb
  · rw [e2 358 (16 * j' + t') (fun e => by omega) (fun e => hc (by omega))]
    exact fb _ _ (fun e => hc (by omega)) d2
section BXR
variable {p : Program} {l : Launch} {e : Env} {R : Room} {s : State} {m : MethodId} {args : Array Value} {below : List Frame} {meth : Method} {c : Code} {H : Heap} {locs : List Loc} {cells slots : Nat} {Q : State → Prop}
variable {cc : ByteArray} {pc nL index index2 : Nat} {ls : Array Slot} {rest : List Value} {κ : Kx} {w : Wd} {y : Ly} {X : XR} {L : va_W} {own : String}
theorem jr_intv (S : CallFix p m c cc nL s args lw_all own) (hK : KK κ s) {a : Nat} {v : Int32} (ho : va_at (kD κ) Cl (a, .inr (19, [.int v])) H) (q1 : Cond.methodLink own index yJ20_intValue ∈ lw_all) (hRm : rm_J20_intValue.frames + 1 ≤ R.frames ∧ 8 + (1 + 11) + rm_J20_intValue.locals ≤ R.locals) (hsize : ls.size = nL) (hW : (rest.map fun v => v.category).sum ≤ 8) (hdg : decode cc pc = .ok (.invokevirtual index, 3)) (hf : cells + 0 ≤ R.cells ∧ slots + 0 ≤ R.slots) (kk : W p l e R s m args below meth c H locs cells slots Q (F0 m (pc + 3) ls (.int v :: rest))) : W p l e R s m args below meth c H locs cells slots Q (F0 m pc ls (.ref a :: rest)) :=
  ce_s (va_runV (As := []) (rest := rest) S m_J20_intValue (cwV 0 S.2.2.2.2 (lw_V q1 q2229 q2230 q110 q2231) rfl rfl rfl hd_J20_intValue hRm) ⟨fun a U g mk q => ⟨q.1, q.2.1, KK.same (u := U) (U := U.calling g mk a) rfl q.2.2⟩, rv_at hK ho rfl, fun U hU hW => ⟨rfl, by rw [hU]; exact ho, hK.warm hW⟩⟩ rfl rfl hsize rfl (lv_room hW) hdg hf) kk
/-- told.set(t, v), the box made on the way and the old one dropped -/
theorem jr_vset58 (S : CallFix p m c cc nL s args lw_all own) (hK : KK κ s) (hR : Rp κ w y X L H) (hS : va_S (Af κ) s.heap H locs) (hM : WFm κ y) {j0 : Nat} (hl : live y 26 j0) {j v : Int32} (hj : vp_in j (y.1 (58 + 100) j0)) (q1 : Cond.methodLink own index yJ20_valueOf ∈ lw_all) (q2 : Cond.methodLink own index2 yJ2_set ∈ lw_all) (hRm : rm_J20_valueOf.frames + 1 ≤ R.frames ∧ 8 + (1 + 11) + rm_J20_valueOf.locals ≤ R.locals) (hRm2 : rm_J2_set.frames + 1 ≤ R.frames ∧ 8 + (4 + 11) + rm_J2_set.locals ≤ R.locals) (hsize : ls.size = nL) (hWd : (rest.map fun v => v.category).sum ≤ 6) (hdg : decode cc pc = .ok (.invokestatic index, 3)) (hdg2 : decode cc (pc + 3) = .ok (.invokevirtual index2, 3)) (hdg3 : decode cc (pc + 3 + 3) = .ok (.pop, 1)) (hf : cells + 1 ≤ R.cells ∧ slots + 1 ≤ R.slots)
    (kk : ∀ (H1 : Heap) (locs1 : List Loc) (w1 : Wd) (y1 : Ly), BxS w w1 y y1 (50 + (5 * j0 + j.toNatClampNeg)) v → LeS y y1 → WFm κ y1 → Rp κ w1 y1 X L H1 → va_S (Af κ) s.heap H1 locs1 → W p l e R s m args below meth c H1 locs1 (cells + 1) (slots + 1) Q (F0 m (pc + 3 + 3 + 1) ls rest)) : W p l e R s m args below meth c H locs cells slots Q (F0 m pc ls (.int v :: .int j :: .ref (y.2 58 j0) :: rest)) := by
  have hk : IsLs 58 := ⟨fun _ _ _ _ _ => rfl, fun _ _ _ _ _ => rfl⟩
  have hj9 : j.toNatClampNeg < mT y j0 := vp_lt hj
  have hj5 : j.toNatClampNeg < 5 := Nat.lt_of_lt_of_le hj9 (Nat.le_trans (hM.mTS hl) (hM.mS5 hl))
  have hj4 := hM.ci4 hl
  have hLA : LsA y 58 j0 := ⟨hM.arT (Nat.lt_of_le_of_lt (Nat.zero_le _) (vp_lt hj)), by have h1 : y.1 (58 + 100) j0 ≤ mS y j0 := hM.mTS hl; have h2 := hM.mS5 hl; omega⟩
  refine va_callr (cr_S (n := 1) (As := [.int v]) (rest := .int j :: .ref (y.2 58 j0) :: rest) S hK hR (m_J20_valueOf (v := v)) q1 q2194 q110 q2195 rfl rfl hds_J20_valueOf hRm rfl rfl hsize rfl (lv_room (by simp only [List.map_cons, List.sum_cons]; show 1 + (1 + _) ≤ 8; omega)) hdg ⟨hf.1, hf.2⟩) hS (fun _ _ h => h) (fun _ h => h) (fun u ra t H1 locs1 ht _ _ hB _ _ hS => ?_)
  rw [ht] at hB
  have hset : ∀ (L1 : va_W) (hR1 : Rp κ w y X L1 H1) (ci : Nat) (vs : List Value) (r : vw_C), (∀ H : Heap, Rp κ w y (xl X L1) [] H → va_at (kD κ) Cl (ra, .inr (ci, vs)) H) → Cl[ci]? = some r → (r.1, "java/lang/Object") ∈ nwC →
      (∀ (H2 : Heap) (locs2 : List Loc), Rp κ w (seA y 358 (16 * j0 + j.toNatClampNeg) ra) X L1 H2 → va_S (Af κ) s.heap H2 locs2 → W p l e R s m args below meth c H2 locs2 (cells + 1) (slots + 1) Q (F0 m (pc + 3 + 3 + 1) ls rest)) →
      W p l e R s m args below meth c H1 locs1 (cells + 1) (slots + 1) Q (F0 m (pc + 3) ls (.ref ra :: .int j :: .ref (y.2 58 j0) :: rest)) := fun L1 hR1 ci vs r hX hc hq k2 => by
    refine va_callr (cr_V (n := 2) (As := [.int j, .ref ra]) (rest := rest) S hK hR1 (m_J2_set hk (hM.cto hl) hLA rfl hj hX hc hq) q2 q1567 q1568 q77 q1569 rfl rfl hd_J2_set hRm2 (rv_ls hK hR1 hk (hM.cto hl)) rfl rfl hsize rfl (lv_room (by omega)) hdg2 ⟨hf.1, hf.2⟩) hS (fun _ _ h => h) (fun _ h => h) (fun u a9 t H2 locs2 ht _ _ hB _ _ hS => ?_)
    have hR2 : Rp κ w (seA y 358 (16 * j0 + j.toNatClampNeg) ra) X L1 H2 := hR1.up (by rw [← ht]; exact hB)
    refine lv_pop S.1 S.2.1 hdg3 rfl ?_
    exact k2 H2 locs2 hR2 hS
  generalize j.toNatClampNeg = d at hj9 hj5 hset kk
  rcases hB with ⟨n, hn, hv, hra, hR1⟩ | hR1
  · have hBX := hK.2.1.2.2.2.2.2.1.2.2.2.2.2.1 _ hn
    refine hset L (hR.up hR1) 19 _ _ (fun H hR => by rw [hra]; exact hBX.1.kept (hR.1.2 _ hBX.2)) rfl (List.mem_of_getElem? (i := 9) rfl) (fun H2 locs2 hR2 hS => ?_)
    have g1 : ∀ k i, ¬ (k = 36 ∧ i = 50 + (5 * j0 + d)) → ¬ (k = 137 ∧ i = 50 + (5 * j0 + d)) → (yBx0 y 358 (16 * j0 + d) (50 + (5 * j0 + d)) n κ).1 k i = y.1 k i := (bxS_0 (w := w) hv).2.2.2.2
    refine kk H2 locs2 w (yBx0 y 358 (16 * j0 + d) (50 + (5 * j0 + d)) n κ) (bxS_0 hv) (leS_bx0 rfl) (hM.bx hl hj9 g1 (fun k i _ h => yBx0_2 h) (Or.inr ?_)) ?_ hS
    · have a1 : (yBx0 y 358 (16 * j0 + d) (50 + (5 * j0 + d)) n κ).1 36 (50 + (5 * j0 + d)) = 0 := by
        unfold yBx0
        rw [seF_ne (fun h => by omega), seF_eq]
      have a2 : (yBx0 y 358 (16 * j0 + d) (50 + (5 * j0 + d)) n κ).1 137 (50 + (5 * j0 + d)) = n := seF_eq
      have a3 : (yBx0 y 358 (16 * j0 + d) (50 + (5 * j0 + d)) n κ).2 358 (16 * j0 + d) = kA κ (5000 + n) := seA_eq
      rw [a1, a2, a3]
      exact ⟨by decide, hn, rfl⟩
    · subst hra
      have h58 : live (seA y 358 (16 * j0 + d) (kA κ (5000 + n))) 58 j0 := hM.cto hl
      refine hR2.absorb (A := fun _ _ => False) (k0 := 58) (i0 := j0) (L' := L) h58 id rfl ?_ rfl (fun _ _ => rfl) ?_ (fun _ _ _ h => h.elim) (fun _ _ _ _ h => h.elim) (fun t q h => ⟨⟨t, h⟩, fun _ _ h => h.elim⟩) hR2.LD
      · rw [ce_bx (y := seA y 358 (16 * j0 + d) (kA κ (5000 + n))) (e := 50 + (5 * j0 + d)) (by decide) g1 (fun _ _ _ => rfl)]
        exact hR2.role h58
      · intro k i h _ _
        have h9 := h.1
        by_cases h6 : k = 36 ∧ i = 50 + (5 * j0 + d)
        · obtain ⟨rfl, rfl⟩ := h6
          have a1 : (yBx0 y 358 (16 * j0 + d) (50 + (5 * j0 + d)) n κ).1 36 (50 + (5 * j0 + d)) = 0 := by
            unfold yBx0
            rw [seF_ne (fun h => by omega), seF_eq]
          rw [a1] at h9
          cases h9
        · rw [g1 k i h6 (fun e => by have := h.2; omega)] at h9
          exact ⟨⟨h9, h.2⟩, rfl, ce_bx h.2 g1 (fun _ _ _ => rfl)⟩
  · refine hset (L ++ [(ra, .inr (19, [.int v]))]) (hR.up2 hR1) 19 [.int v] _ (fun H hR => hR.X (Or.inr ⟨L.length, by rw [List.getElem?_append_right (Nat.le_refl _), Nat.sub_self]; rfl⟩)) rfl (List.mem_of_getElem? (i := 9) rfl) (fun H2 locs2 hR2 hS => ?_)
    have g1 : ∀ k i, ¬ (k = 36 ∧ i = 50 + (5 * j0 + d)) → (yBx1 y 358 (16 * j0 + d) (50 + (5 * j0 + d)) ra).1 k i = y.1 k i := fun k i h1 => by
      unfold yBx1
      rw [seF_ne h1]
      rfl
    have a1 : (yBx1 y 358 (16 * j0 + d) (50 + (5 * j0 + d)) ra).1 36 (50 + (5 * j0 + d)) = 1 := seF_eq
    have a2 : (yBx1 y 358 (16 * j0 + d) (50 + (5 * j0 + d)) ra).2 36 (50 + (5 * j0 + d)) = ra := seA_eq
    have a3 : (yBx1 y 358 (16 * j0 + d) (50 + (5 * j0 + d)) ra).2 358 (16 * j0 + d) = ra := by
      show (seA (seA y 358 (16 * j0 + d) ra) 36 (50 + (5 * j0 + d)) ra).2 358 (16 * j0 + d) = _
      rw [seA_ne (fun h => by omega), seA_eq]
    have g2 : ∀ k i, ¬ (k = 36 ∧ i = 50 + (5 * j0 + d)) → (yBx1 y 358 (16 * j0 + d) (50 + (5 * j0 + d)) ra).2 k i = (seA y 358 (16 * j0 + d) ra).2 k i := fun k i h => seA_ne h
    refine kk H2 locs2 (sv w 36 (50 + (5 * j0 + d)) 0 v) (yBx1 y 358 (16 * j0 + d) (50 + (5 * j0 + d)) ra) bxS_1 (leS_bx1 rfl) (hM.bx hl hj9 (fun k i h _ => g1 k i h) (fun k i h h' => yBx1_2 h' h) (Or.inl ⟨a1, a3.trans a2.symm⟩)) ?_ hS
    have h58 : live (seA y 358 (16 * j0 + d) ra) 58 j0 := hM.cto hl
    refine hR2.absorb (A := fun k i => k = 36 ∧ i = 50 + (5 * j0 + d)) (k0 := 58) (i0 := j0) (L' := L) h58 (fun h => by omega) (g2 _ _ (fun h => by omega)) ?_ rfl (fun _ _ => rfl) ?_ ?_ (fun k i k' i' h h' _ => ⟨h.1.trans h'.1.symm, h.2.trans h'.2.symm⟩) (fun t q h => ⟨⟨t, ?_⟩, fun k i hA e9 => ?_⟩) hR.LD
    · rw [sv_ne _ _ _ _ _ (fun h => by omega), ce_bx (y := seA y 358 (16 * j0 + d) ra) (e := 50 + (5 * j0 + d)) (by decide) (fun k i h _ => g1 k i h) g2]
      exact hR2.role h58
    · intro k i h hA _
      have h9 := h.1
      rw [g1 k i hA] at h9
      refine ⟨⟨h9, h.2⟩, g2 k i hA, ?_⟩
      rw [sv_ne _ _ _ _ _ hA]
      exact ce_bx h.2 (fun k i h _ => g1 k i h) g2
    · rintro k i h ⟨rfl, rfl⟩
      refine ⟨L.length, ?_⟩
      rw [a2, List.getElem?_append_right (Nat.le_refl _), Nat.sub_self]
      show some (ra, Sum.inr (19, [Value.int v])) = some (ra, Sum.inr (19, [Value.int ((sv w 36 (50 + (5 * j0 + d)) 0 v).1 36 (50 + (5 * j0 + d)) 0)]))
      rw [sv_same, show upd (w.1 36 (50 + (5 * j0 + d))) 0 v 0 = v from if_pos rfl]
    · rw [List.getElem?_append_left (List.getElem?_eq_some_iff.mp h).1]
      exact h
    · obtain ⟨rfl, rfl⟩ := hA
      rw [a2] at e9
      have hlt := (List.getElem?_eq_some_iff.mp h).1
      have h8 := hR2.LD.1 t L.length q (ra, .inr (19, [.int v])) (by rw [List.getElem?_append_left hlt]; exact h) (by rw [List.getElem?_append_right (Nat.le_refl _), Nat.sub_self]; rfl) e9.symm
      omega
theorem jr_newl5 (hx : p.tables.exec = Jvm.exec) (hb : c.code = cc) (hts : ∀ w ∈ lw_all, w.before args s = true) (hK : KK κ s) (hS : va_S (Af κ) s.heap H locs) (hR : Rp κ w y X L H) {M : Nat} (hM : M ≤ 5) (hcells : cells + 1 ≤ R.cells) (hslots : slots + 5 ≤ R.slots) (hdg : decode cc pc = .ok (.newarray .long, 2))
    (kk : ∀ (n : Nat) (_ : n = M) (q : Nat) (H1 : Heap), Rp κ w y X (L ++ [(q, .inl (kT κ 1, (n, .inr (.inl (fun _ => 0)))))]) H1 → va_S (Af κ) s.heap H1 locs → W p l e R s m args below meth c H1 locs (cells + 1) (slots + 5) Q (F0 m (pc + 2) ls (.ref q :: rest))) : W p l e R s m args below meth c H locs cells slots Q (F0 m pc ls (.int (nI M) :: rest)) := by
  refine xa_newa (ty := .long) (N' := M) (a0 := (M, .inr (.inl (fun _ => 0)))) hx hb hts q1229 rfl hK.1 1 rfl (by intro C h9; cases h9) hS rfl (nI_pos (by omega)) (nI_clamp (by omega)) (by show M * 8 ≤ 536870912; omega) hcells (Nat.le_trans (by omega) hslots) hdg (fun q H1 hq h1 hz ho hS => ?_)
  have hR := hR.newL hq h1 (by omega) ho
  refine W.widen (k := cells + 1) (n := slots + 5) (Nat.le_refl _) (by omega) ?_
  exact kk M rfl q H1 hR hS
end BXR
theorem hd_J26_equals : yJ26_equals.cls = RJ26 ∧ yJ26_equals.cls ≠ "java/lang/invoke/MethodHandle" ∧ yJ26_equals.cls ≠ "java/lang/invoke/VarHandle" ∧ (parseMethodDescriptor yJ26_equals.desc).map (fun d => d.parameters.length) = some 1 := by decide +kernel
abbrev rm_J26_equals : Room := {}
set_option maxHeartbeats 4000000 in
theorem m_J26_equals {l : Launch} {κ : Kx} {w : Wd} {y : Ly} {X : XR} {a b : Nat} : MetN l yJ26_equals (ws_ yJ26_equals cJ26_equals 2 (Option.some Jvm.ClassFile.FieldType.boolean)) rm_J26_equals (va_Pc [.ref a, .ref b] (RC κ w y X)) (Qs (.int (bi (a = b)))) 0 0 (nofree) := by
  refine MetN.ofWF (cc := cJ26_equals) (maxL := 2) (ret := (Option.some Jvm.ClassFile.FieldType.boolean)) (by decide +kernel) rfl ?_
  intro p e s m args below meth c hx hb hr hlocks hpre hnamed hml hv
  obtain ⟨rfl, hR, hK⟩ := hv
  have hts := atoms_spec (ws := ws_ yJ26_equals cJ26_equals 2 (Option.some Jvm.ClassFile.FieldType.boolean)) hpre
  have hts : ∀ w ∈ lw_all, w.before _ s = true := fun w h => hts w (List.mem_cons_of_mem _ h)
  have hown : s.vm.findClass RJ26 = some m.cls := findClass_of_methodNamed hnamed
  have hS : va_S (Af κ) s.heap s.heap [] := va_S.rf
  have hl := lv_entry ([.ref a, .ref b]) (n := 2) (Nat.le_of_ble_eq_true rfl)
  rw [lg_entry_eq]
  generalize (lg_sl ([.ref a, .ref b]) ++ List.replicate (2 - (lg_sl ([.ref a, .ref b])).length) Slot.unset).toArray = ls at hl ⊢
  have hl : lv_has ls 2 [(0, .ref a), (1, .ref b)] := hl
  refine lv_aload_n hx hb dJ26_equals_0 rfl (lv_at hl 0 rfl) ?_
  refine lv_aload_n hx hb dJ26_equals_1 rfl (lv_at hl 1 rfl) ?_
  refine lv_acmp_ne (rx := some a) (ry := some b) (tgt := 9) hx hb dJ26_equals_2 (by decide) (fun c => ?_) (fun c => ?_)
  · refine lv_iconst (v := 0) hx hb dJ26_equals_9 (by decide) ?_
    refine W.zret (v := 0) hx hb hr rfl (fun t ht _ => ⟨?_, ht⟩) (fun q h => by cases h) dJ26_equals_10
    rw [bi_0.mpr (fun h => c (congrArg some h))]
  · refine lv_iconst (v := 1) hx hb dJ26_equals_5 (by decide) ?_
    refine lv_goto (tgt := 10) hx hb dJ26_equals_6 (by decide) ?_
    refine W.zret (v := 1) hx hb hr rfl (fun t ht _ => ⟨?_, ht⟩) (fun q h => by cases h) dJ26_equals_10
    rw [bi_1.mpr (Option.some.inj c)]
theorem hd_J2_indexOfRange : yJ2_indexOfRange.cls = RJ2 ∧ yJ2_indexOfRange.cls ≠ "java/lang/invoke/MethodHandle" ∧ yJ2_indexOfRange.cls ≠ "java/lang/invoke/VarHandle" ∧ (parseMethodDescriptor yJ2_indexOfRange.desc).map (fun d => d.parameters.length) = some 3 := by decide +kernel
abbrev rm_J2_indexOfRange : Room := { frames := 1, locals := 40 }
set_option maxHeartbeats 4000000 in
theorem m_J2_indexOfRange {l : Launch} {κ : Kx} {w : Wd} {y : Ly} {X : XR} {n : Nat} (hM : WFm κ y) (hn : n < mL y) : Met l yJ2_indexOfRange (ws_ yJ2_indexOfRange cJ2_indexOfRange 6 (Option.some Jvm.ClassFile.FieldType.int)) rm_J2_indexOfRange (va_Pc [.ref (y.2 54 0), .ref (y.2 27 n), .int 0, .int (nI (mL y))] (RC κ w y X)) (Qs (.int (nI n))) 0 0 (nofree) := by
  refine Met.ofW (cc := cJ2_indexOfRange) (maxL := 6) (ret := (Option.some Jvm.ClassFile.FieldType.int)) (by decide) rfl ?_
  intro p e s m args below meth c s₁ B hml hv
  obtain ⟨rfl, hR, hK⟩ := hv
  have hx := B.exec
  have hb := B.bytes
  have hr := B.returns
  have hts := atoms_spec (ws := ws_ yJ2_indexOfRange cJ2_indexOfRange 6 (Option.some Jvm.ClassFile.FieldType.int)) B.pre
  have hts : ∀ w ∈ lw_all, w.before _ s = true := fun w h => hts w (List.mem_cons_of_mem _ h)
  have hown : s.vm.findClass RJ2 = some m.cls := findClass_of_methodNamed B.named
  have hlocks := B.notSynchronized
  have hS : va_S (Af κ) s.heap s.heap [] := va_S.rf
  have hl := lv_entry ([.ref (y.2 54 0), .ref (y.2 27 n), .int 0, .int (nI (mL y))]) (n := 6) (Nat.le_of_ble_eq_true rfl)
  rw [lg_entry_eq]
  generalize (lg_sl ([.ref (y.2 54 0), .ref (y.2 27 n), .int 0, .int (nI (mL y))]) ++ List.replicate (6 - (lg_sl ([.ref (y.2 54 0), .ref (y.2 27 n), .int 0, .int (nI (mL y))])).length) Slot.unset).toArray = ls at hl ⊢
  have hl : lv_has ls 6 [(0, .ref (y.2 54 0)), (1, .ref (y.2 27 n)), (2, .int 0), (3, .int (nI (mL y)))] := hl
  have hk : IsLs 54 := ⟨fun _ _ _ _ _ => rfl, fun _ _ _ _ _ => rfl⟩
  have hL := hR.role hM.lsL
  rw [hk.1] at hL
  have hA := hM.arL (Nat.lt_of_le_of_lt (Nat.zero_le _) hn)
  have hAr := hR.role hA
  rw [hk.2] at hAr
  have hm8 := hM.mL8
  have hln := hM.lot hn
  refine lv_aload_n hx hb dJ2_indexOfRange_0 rfl (lv_at hl 0 rfl) ?_
  refine xa_get (T := TJ2) (N := 3) (v := .ref (y.2 55 0)) hx hb hts in_J2 hown hK.1 hL rfl 1 (by decide) q143 rfl (by rw [if_pos (show y.1 (54 + 1) 0 = 1 from hA.1)]; rfl) dJ2_indexOfRange_1 ?_
  refine lv_astore (lv' := [(4, .ref (y.2 55 0)), (0, .ref (y.2 54 0)), (1, .ref (y.2 27 n)), (2, .int 0), (3, .int (nI (mL y)))]) hx hb dJ2_indexOfRange_4 hl (by decide) rfl (fun ls hl => ?_)
  refine lv_aload_n hx hb dJ2_indexOfRange_6 rfl (lv_at hl 2 rfl) ?_
  refine lv_ifnonnull (tgt := 39) hx hb dJ2_indexOfRange_7 (by decide) ?_
  refine lv_iload_n hx hb dJ2_indexOfRange_39 rfl (lv_at hl 3 rfl) ?_
  refine lv_istore (lv' := [(5, .int 0), (4, .ref (y.2 55 0)), (0, .ref (y.2 54 0)), (1, .ref (y.2 27 n)), (2, .int 0), (3, .int (nI (mL y)))]) hx hb dJ2_indexOfRange_40 hl (by decide) rfl (fun ls hl => ?_)
  refine W.eq (g2 := F0 m 42 ls []) rfl ?_
  have key : ∀ (f t : Nat) (ls : Array Slot), t + f = n → lv_has ls 6 [(5, .int (nI t)), (4, .ref (y.2 55 0)), (0, .ref (y.2 54 0)), (1, .ref (y.2 27 n)), (2, .int 0), (3, .int (nI (mL y)))] → W p l e (headSpec (ws_ yJ2_indexOfRange cJ2_indexOfRange 6 (Option.some Jvm.ClassFile.FieldType.int)) rm_J2_indexOfRange).room s m ([.ref (y.2 54 0), .ref (y.2 27 n), .int 0, .int (nI (mL y))] : List Value).toArray below meth c s.heap [] 0 0 (MQ below (Qs (.int (nI n))) ([.ref (y.2 54 0), .ref (y.2 27 n), .int 0, .int (nI (mL y))] : List Value).toArray s 0 0 nofree) (F0 m 42 ls []) := by
    intro f
    induction f with
    | zero => ?_
    | succ f ih => ?_
    all_goals
      intro t ls ht hl
      have htn : t < mL y := by omega
      have hin : vp_in (nI t) 10 := vp_in_nI (by omega) (by omega)
      have hcl : (nI t).toNatClampNeg = t := nI_clamp (by omega)
      refine lv_iload hx hb dJ2_indexOfRange_42 (lv_at hl 0 rfl) ?_
      refine lv_iload_n hx hb dJ2_indexOfRange_44 rfl (lv_at hl 5 rfl) ?_
      refine lv_icmp_ge (tgt := 69) hx hb dJ2_indexOfRange_45 (by decide) (fun c => absurd (nI_lt htn (by omega)) (Int32.not_lt.mpr c)) (fun _ => ?_)
      refine lv_aload_n hx hb dJ2_indexOfRange_48 rfl (lv_at hl 3 rfl) ?_
      refine lv_aload hx hb dJ2_indexOfRange_49 (lv_at hl 1 rfl) ?_
      refine lv_iload hx hb dJ2_indexOfRange_51 (lv_at hl 0 rfl) ?_
      refine xa_aald hx hb hK.1 hAr 4 rfl hin dJ2_indexOfRange_53 ?_
      have he : va_rf (laF y 54 0 (nI t).toNatClampNeg) = .ref (y.2 27 t) := by
        rw [hcl]
        unfold laF
        rw [if_pos ⟨htn, by omega⟩, hM.elL htn]
        rfl
      rw [he]
      refine ce_s (va_runUN (n := 1) (C := "PublicanryModel$Lot") (owner := "java/lang/Object") (Y := yJ26_equals) (As := [.ref (y.2 27 t)]) (rest := []) ⟨hx, hb, hml, hown, hts⟩ (m_J26_equals (a := y.2 27 n) (b := y.2 27 t)) hK hR (fun _ _ _ _ h => ⟨_, h.1⟩) q2425 q2427 (va_Decl.of (hts _ q2426) (hts _ q2467)) (by decide +kernel) q2448 q2426 q2467 ⟨rfl, rfl⟩ ⟨Nat.le_of_ble_eq_true rfl, Nat.le_of_ble_eq_true rfl⟩ (by decide +kernel) (rv hK hR hln (ci := 14) rfl rfl) rfl rfl hl.1 rfl (lv_room (Nat.le_of_ble_eq_true rfl)) dJ2_indexOfRange_54 ⟨Nat.le_of_ble_eq_true rfl, Nat.le_of_ble_eq_true rfl⟩) ?_
      refine lv_if_eq (tgt := 63) hx hb dJ2_indexOfRange_57 (by decide) (fun c => ?_) (fun c => ?_)
    · exact absurd (congrArg (y.2 27) (show n = t by omega)) (bi_0.mp c)
    · refine lv_iload hx hb dJ2_indexOfRange_60 (lv_at hl 0 rfl) ?_
      have e0 : t = n := by omega
      subst e0
      exact W.iret (v := nI t) hx hb hr (fun t ht _ => ⟨rfl, ht⟩) (fun q h => by cases h) dJ2_indexOfRange_62
    · refine lv_iinc (v := nI (t + 1)) (lv' := [(5, .int (nI (t + 1))), (4, .ref (y.2 55 0)), (0, .ref (y.2 54 0)), (1, .ref (y.2 27 n)), (2, .int 0), (3, .int (nI (mL y)))]) hx hb dJ2_indexOfRange_63 hl (k := 0) rfl (by rw [← nI_1]; rfl) (by decide) rfl (fun ls hl => ?_)
      refine lv_goto (tgt := 42) hx hb dJ2_indexOfRange_66 (by decide) ?_
      exact ih (t + 1) ls (by omega) hl
    · have h9 := (hR.inj hln (hM.lot htn) (bi_n0.mp c)).2
      omega
  exact key n 0 ls (by omega) hl
theorem hd_J2_indexOf : yJ2_indexOf.cls = RJ2 ∧ yJ2_indexOf.cls ≠ "java/lang/invoke/MethodHandle" ∧ yJ2_indexOf.cls ≠ "java/lang/invoke/VarHandle" ∧ (parseMethodDescriptor yJ2_indexOf.desc).map (fun d => d.parameters.length) = some 1 := by decide +kernel
abbrev rm_J2_indexOf : Room := { frames := 2, locals := 80 }
set_option maxHeartbeats 4000000 in
theorem m_J2_indexOf {l : Launch} {κ : Kx} {w : Wd} {y : Ly} {X : XR} {n : Nat} (hM : WFm κ y) (hn : n < mL y) : Met l yJ2_indexOf (ws_ yJ2_indexOf cJ2_indexOf 2 (Option.some Jvm.ClassFile.FieldType.int)) rm_J2_indexOf (va_Pc [.ref (y.2 54 0), .ref (y.2 27 n)] (RC κ w y X)) (Qs (.int (nI n))) 0 0 (nofree) := by
  refine Met.ofW (cc := cJ2_indexOf) (maxL := 2) (ret := (Option.some Jvm.ClassFile.FieldType.int)) (by decide) rfl ?_
  intro p e s m args below meth c s₁ B hml hv
  obtain ⟨rfl, hR, hK⟩ := hv
  have hx := B.exec
  have hb := B.bytes
  have hr := B.returns
  have hts := atoms_spec (ws := ws_ yJ2_indexOf cJ2_indexOf 2 (Option.some Jvm.ClassFile.FieldType.int)) B.pre
  have hts : ∀ w ∈ lw_all, w.before _ s = true := fun w h => hts w (List.mem_cons_of_mem _ h)
  have hown : s.vm.findClass RJ2 = some m.cls := findClass_of_methodNamed B.named
  have hlocks := B.notSynchronized
  have hS : va_S (Af κ) s.heap s.heap [] := va_S.rf
  have hl := lv_entry ([.ref (y.2 54 0), .ref (y.2 27 n)]) (n := 2) (Nat.le_of_ble_eq_true rfl)
  rw [lg_entry_eq]
  generalize (lg_sl ([.ref (y.2 54 0), .ref (y.2 27 n)]) ++ List.replicate (2 - (lg_sl ([.ref (y.2 54 0), .ref (y.2 27 n)])).length) Slot.unset).toArray = ls at hl ⊢
  have hl : lv_has ls 2 [(0, .ref (y.2 54 0)), (1, .ref (y.2 27 n))] := hl
  have hk : IsLs 54 := ⟨fun _ _ _ _ _ => rfl, fun _ _ _ _ _ => rfl⟩
  have hL := hR.role hM.lsL
  rw [hk.1] at hL
  refine lv_aload_n hx hb dJ2_indexOf_0 rfl (lv_at hl 0 rfl) ?_
  refine lv_aload_n hx hb dJ2_indexOf_1 rfl (lv_at hl 1 rfl) ?_
  refine lv_iconst (v := 0) hx hb dJ2_indexOf_2 (by decide) ?_
  refine lv_aload_n hx hb dJ2_indexOf_3 rfl (lv_at hl 0 rfl) ?_
  refine xa_get (T := TJ2) (N := 3) (v := .int (nI (mL y))) hx hb hts in_J2 hown hK.1 hL rfl 2 (by decide) q146 rfl rfl dJ2_indexOf_4 ?_
  refine ce_s (cr_V (n := 3) (As := [.ref (y.2 27 n), .int 0, .int (nI (mL y))]) (rest := []) ⟨hx, hb, hml, hown, hts⟩ hK hR (m_J2_indexOfRange hM hn) q2420 q2421 q2422 q77 q2423 rfl rfl hd_J2_indexOfRange ⟨Nat.le_of_ble_eq_true rfl, Nat.le_of_ble_eq_true rfl⟩ (rv_ls hK hR hk hM.lsL) rfl rfl hl.1 rfl (lv_room (Nat.le_of_ble_eq_true rfl)) dJ2_indexOf_7 ⟨Nat.le_of_ble_eq_true rfl, Nat.le_of_ble_eq_true rfl⟩) ?_
  exact W.iret (v := nI n) hx hb hr (fun t ht _ => ⟨rfl, ht⟩) (fun q h => by cases h) dJ2_indexOf_10
section IXO
variable {p : Program} {l : Launch} {e : Env} {R : Room} {s : State} {m : MethodId} {args : Array Value} {below : List Frame} {meth : Method} {c : Code} {H : Heap} {locs : List Loc} {cells slots : Nat} {Q : State → Prop}
variable {cc : ByteArray} {pc nL index : Nat} {ls : Array Slot} {rest : List Value} {κ : Kx} {w : Wd} {y : Ly} {X : XR} {L : va_W} {own : String}
theorem jr_indexOf (S : CallFix p m c cc nL s args lw_all own) (hK : KK κ s) (hR : Rp κ w y X L H) (hM : WFm κ y) {n : Nat} (hn : n < mL y) (q1 : Cond.methodLink own index yJ2_indexOf ∈ lw_all) (hRm : rm_J2_indexOf.frames + 1 ≤ R.frames ∧ 8 + (2 + 11) + rm_J2_indexOf.locals ≤ R.locals) (hsize : ls.size = nL) (hW : (rest.map fun v => v.category).sum ≤ 8) (hdg : decode cc pc = .ok (.invokevirtual index, 3)) (hf : cells + 0 ≤ R.cells ∧ slots + 0 ≤ R.slots) (kk : W p l e R s m args below meth c H locs cells slots Q (F0 m (pc + 3) ls (.int (nI n) :: rest))) : W p l e R s m args below meth c H locs cells slots Q (F0 m pc ls (.ref (y.2 27 n) :: .ref (y.2 54 0) :: rest)) :=
  ce_s (cr_V (n := 1) (As := [.ref (y.2 27 n)]) (rest := rest) S hK hR (m_J2_indexOf hM hn) q1 q2417 q2418 q77 q2419 rfl rfl hd_J2_indexOf hRm (rv_ls hK hR ⟨fun _ _ _ _ _ => rfl, fun _ _ _ _ _ => rfl⟩ hM.lsL) rfl rfl hsize rfl (lv_room hW) hdg hf) kk
end IXO
