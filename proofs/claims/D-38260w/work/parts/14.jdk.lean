/-! THE JDK: members as contracts (heads printed by wip gen/jdk.py) -/
set_option maxRecDepth 100000
/-- a method that answers v and leaves the heap alone -/
def Qs (v : Value) : Array Value → State → Outcome → State → Prop := fun _ st oc t => oc = .returned (some v) ∧ t.heap = st.heap
def nofree : Addr → Prop := fun _ => False
section CS
variable {p : Program} {l : Launch} {e : Env} {R : Room} {s : State} {m : MethodId} {args : Array Value} {below : List Frame} {meth : Method} {c : Code} {H : Heap} {locs : List Loc} {cells slots : Nat} {Q : State → Prop} {pc : Nat} {ls : Array Slot} {rest st0 : List Value} {a : Array Value} {v : Value}
theorem ce_s (hr : va_Run p l e R s m args below meth c H locs cells slots 0 0 (F0 m pc ls st0) rest (Qs v a) nofree)
    (kk : W p l e R s m args below meth c H locs cells slots Q (F0 m (pc + 3) ls (v :: rest))) : W p l e R s m args below meth c H locs cells slots Q (F0 m pc ls st0) := by
  intro T hT X
  obtain ⟨v', st₀, t, T', L, h0, X', hL, e1, e2, ⟨hv, hh⟩, st⟩ := hr T hT X
  have hL0 : L = [] := List.eq_nil_iff_forall_not_mem.mpr hL
  subst hL0
  cases hv
  rw [List.append_nil] at X'
  obtain ⟨t2, a1, b1⟩ := kk T' (e1.trans (hh.trans h0)) X'
  exact ⟨t2, st t2 a1, b1⟩
theorem ce_s5 (hr : va_Run5 p l e R s m args below meth c H locs cells slots 0 0 (F0 m pc ls st0) rest (Qs v a) nofree)
    (kk : W p l e R s m args below meth c H locs cells slots Q (F0 m (pc + 5) ls (v :: rest))) : W p l e R s m args below meth c H locs cells slots Q (F0 m pc ls st0) := by
  intro T hT X
  obtain ⟨v', st₀, t, T', L, h0, X', hL, e1, e2, ⟨hv, hh⟩, st⟩ := hr T hT X
  have hL0 : L = [] := List.eq_nil_iff_forall_not_mem.mpr hL
  subst hL0
  cases hv
  rw [List.append_nil] at X'
  obtain ⟨t2, a1, b1⟩ := kk T' (e1.trans (hh.trans h0)) X'
  exact ⟨t2, st t2 a1, b1⟩
end CS
/-- a list's kind: its object and its array -/
def IsLs (k : Nat) : Prop := (∀ (κ : Kx) (y : Ly) (i : Nat) (g : Nat → Int32) (d : Int64), ce κ y k i g d = lsC κ y k i) ∧ ∀ (κ : Kx) (y : Ly) (i : Nat) (g : Nat → Int32) (d : Int64), ce κ y (k + 1) i g d = laC κ y k i
/-- the list's array stands -/
def LsA (y : Ly) (k i : Nat) : Prop := live y (k + 1) i ∧ y.1 (k + 100) i ≤ 10
def itC (y : Ly) (k i c : Nat) (z : Int32) : va_E := .inr (17, [.int (nI c), .int z, .int (nI (y.1 (k + 200) i)), .ref (y.2 k i)])
theorem same_mc {args : Array Value} {s : State} (hts : ∀ w ∈ lw_all, w.before args s = true) : ∀ x, s.fieldFound? "java/util/AbstractList" "modCount" "I" = some x → s.fieldFound? "java/util/ArrayList" "modCount" "I" = some x := u_same (hts _ q149)
theorem hds_J14_checkIndex : yJ14_checkIndex.cls ≠ "java/lang/invoke/MethodHandle" ∧ yJ14_checkIndex.cls ≠ "java/lang/invoke/VarHandle" ∧ (parseMethodDescriptor yJ14_checkIndex.desc).map (fun d => d.parameters.length) = some 3 := by decide +kernel
abbrev rm_J14_checkIndex : Room := {}
set_option maxHeartbeats 4000000 in
theorem m_J14_checkIndex {l : Launch} {κ : Kx} {w : Wd} {y : Ly} {X : XR} {i n : Int32} (h0 : ¬ i < 0) (h1 : i < n) : Met l yJ14_checkIndex (ws_ yJ14_checkIndex cJ14_checkIndex 3 (Option.some Jvm.ClassFile.FieldType.int)) rm_J14_checkIndex (va_Pc [.int i, .int n, .null] (RC κ w y X)) (Qs (.int i)) 0 0 (nofree) := by
  refine Met.ofW (cc := cJ14_checkIndex) (maxL := 3) (ret := (Option.some Jvm.ClassFile.FieldType.int)) (by decide) rfl ?_
  intro p e s m args below meth c s₁ B hml hv
  obtain ⟨rfl, hR, hK⟩ := hv
  have hx := B.exec
  have hb := B.bytes
  have hr := B.returns
  have hts := atoms_spec (ws := ws_ yJ14_checkIndex cJ14_checkIndex 3 (Option.some Jvm.ClassFile.FieldType.int)) B.pre
  have hts : ∀ w ∈ lw_all, w.before _ s = true := fun w h => hts w (List.mem_cons_of_mem _ h)
  have hown : s.vm.findClass RJ14 = some m.cls := findClass_of_methodNamed B.named
  have hlocks := B.notSynchronized
  have hS : va_S (Af κ) s.heap s.heap [] := va_S.rf
  have hl := lv_entry ([.int i, .int n, .null]) (n := 3) (Nat.le_of_ble_eq_true rfl)
  rw [lg_entry_eq]
  generalize (lg_sl ([.int i, .int n, .null]) ++ List.replicate (3 - (lg_sl ([.int i, .int n, .null])).length) Slot.unset).toArray = ls at hl ⊢
  have hl : lv_has ls 3 [(0, .int i), (1, .int n), (2, .null)] := hl
  refine lv_iload_n hx hb dJ14_checkIndex_0 rfl (lv_at hl 0 rfl) ?_
  refine lv_if_lt (tgt := 9) hx hb dJ14_checkIndex_1 (by decide) (fun c => absurd c h0) (fun _ => ?_)
  refine lv_iload_n hx hb dJ14_checkIndex_4 rfl (lv_at hl 0 rfl) ?_
  refine lv_iload_n hx hb dJ14_checkIndex_5 rfl (lv_at hl 1 rfl) ?_
  refine lv_icmp_lt (tgt := 16) hx hb dJ14_checkIndex_6 (by decide) (fun _ => ?_) (fun c => absurd h1 c)
  refine lv_iload_n hx hb dJ14_checkIndex_16 rfl (lv_at hl 0 rfl) ?_
  exact W.iret (v := i) hx hb hr (fun t ht _ => ⟨rfl, ht⟩) (fun q h => by cases h) dJ14_checkIndex_17
theorem hds_J13_checkIndex : yJ13_checkIndex.cls ≠ "java/lang/invoke/MethodHandle" ∧ yJ13_checkIndex.cls ≠ "java/lang/invoke/VarHandle" ∧ (parseMethodDescriptor yJ13_checkIndex.desc).map (fun d => d.parameters.length) = some 2 := by decide +kernel
abbrev rm_J13_checkIndex : Room := { frames := 1, locals := 40 }
set_option maxHeartbeats 4000000 in
theorem m_J13_checkIndex {l : Launch} {κ : Kx} {w : Wd} {y : Ly} {X : XR} {i n : Int32} (h0 : ¬ i < 0) (h1 : i < n) : Met l yJ13_checkIndex (ws_ yJ13_checkIndex cJ13_checkIndex 2 (Option.some Jvm.ClassFile.FieldType.int)) rm_J13_checkIndex (va_Pc [.int i, .int n] (RC κ w y X)) (Qs (.int i)) 0 0 (nofree) := by
  refine Met.ofW (cc := cJ13_checkIndex) (maxL := 2) (ret := (Option.some Jvm.ClassFile.FieldType.int)) (by decide) rfl ?_
  intro p e s m args below meth c s₁ B hml hv
  obtain ⟨rfl, hR, hK⟩ := hv
  have hx := B.exec
  have hb := B.bytes
  have hr := B.returns
  have hts := atoms_spec (ws := ws_ yJ13_checkIndex cJ13_checkIndex 2 (Option.some Jvm.ClassFile.FieldType.int)) B.pre
  have hts : ∀ w ∈ lw_all, w.before _ s = true := fun w h => hts w (List.mem_cons_of_mem _ h)
  have hown : s.vm.findClass RJ13 = some m.cls := findClass_of_methodNamed B.named
  have hlocks := B.notSynchronized
  have hS : va_S (Af κ) s.heap s.heap [] := va_S.rf
  have hl := lv_entry ([.int i, .int n]) (n := 2) (Nat.le_of_ble_eq_true rfl)
  rw [lg_entry_eq]
  generalize (lg_sl ([.int i, .int n]) ++ List.replicate (2 - (lg_sl ([.int i, .int n])).length) Slot.unset).toArray = ls at hl ⊢
  have hl : lv_has ls 2 [(0, .int i), (1, .int n)] := hl
  refine lv_iload_n hx hb dJ13_checkIndex_0 rfl (lv_at hl 0 rfl) ?_
  refine lv_iload_n hx hb dJ13_checkIndex_1 rfl (lv_at hl 1 rfl) ?_
  refine lv_null hx hb dJ13_checkIndex_2 ?_
  refine ce_s (cr_S (n := 3) (As := [.int i, .int n, .null]) (rest := []) ⟨hx, hb, hml, hown, hts⟩ hK hR (m_J14_checkIndex h0 h1) q692 q693 q101 q694 rfl rfl hds_J14_checkIndex ⟨Nat.le_of_ble_eq_true rfl, Nat.le_of_ble_eq_true rfl⟩ rfl rfl hl.1 rfl (lv_room (Nat.le_of_ble_eq_true rfl)) dJ13_checkIndex_3 ⟨Nat.le_of_ble_eq_true rfl, Nat.le_of_ble_eq_true rfl⟩) ?_
  exact W.iret (v := i) hx hb hr (fun t ht _ => ⟨rfl, ht⟩) (fun q h => by cases h) dJ13_checkIndex_6
theorem hd_J2_size : yJ2_size.cls = RJ2 ∧ yJ2_size.cls ≠ "java/lang/invoke/MethodHandle" ∧ yJ2_size.cls ≠ "java/lang/invoke/VarHandle" ∧ (parseMethodDescriptor yJ2_size.desc).map (fun d => d.parameters.length) = some 0 := by decide +kernel
abbrev rm_J2_size : Room := {}
set_option maxHeartbeats 4000000 in
theorem m_J2_size {l : Launch} {κ : Kx} {w : Wd} {y : Ly} {X : XR} {k i : Nat} (hk : IsLs k) (hl0 : live y k i) : Met l yJ2_size (ws_ yJ2_size cJ2_size 1 (Option.some Jvm.ClassFile.FieldType.int)) rm_J2_size (va_Pc [.ref (y.2 k i)] (RC κ w y X)) (Qs (.int (nI (y.1 (k + 100) i)))) 0 0 (nofree) := by
  refine Met.ofW (cc := cJ2_size) (maxL := 1) (ret := (Option.some Jvm.ClassFile.FieldType.int)) (by decide) rfl ?_
  intro p e s m args below meth c s₁ B hml hv
  obtain ⟨rfl, hR, hK⟩ := hv
  have hx := B.exec
  have hb := B.bytes
  have hr := B.returns
  have hts := atoms_spec (ws := ws_ yJ2_size cJ2_size 1 (Option.some Jvm.ClassFile.FieldType.int)) B.pre
  have hts : ∀ w ∈ lw_all, w.before _ s = true := fun w h => hts w (List.mem_cons_of_mem _ h)
  have hown : s.vm.findClass RJ2 = some m.cls := findClass_of_methodNamed B.named
  have hlocks := B.notSynchronized
  have hS : va_S (Af κ) s.heap s.heap [] := va_S.rf
  have hl := lv_entry ([.ref (y.2 k i)]) (n := 1) (Nat.le_of_ble_eq_true rfl)
  rw [lg_entry_eq]
  generalize (lg_sl ([.ref (y.2 k i)]) ++ List.replicate (1 - (lg_sl ([.ref (y.2 k i)])).length) Slot.unset).toArray = ls at hl ⊢
  have hl : lv_has ls 1 [(0, .ref (y.2 k i))] := hl
  have hL := hR.role hl0
  rw [hk.1] at hL
  refine lv_aload_n hx hb dJ2_size_0 rfl (lv_at hl 0 rfl) ?_
  refine xa_get (T := TJ2) (N := 3) (v := .int (nI (y.1 (k + 100) i))) hx hb hts in_J2 hown hK.1 hL rfl 2 (by decide) q146 rfl rfl dJ2_size_1 ?_
  exact W.iret (v := nI (y.1 (k + 100) i)) hx hb hr (fun t ht _ => ⟨rfl, ht⟩) (fun q h => by cases h) dJ2_size_4
theorem hd_J2_isEmpty : yJ2_isEmpty.cls = RJ2 ∧ yJ2_isEmpty.cls ≠ "java/lang/invoke/MethodHandle" ∧ yJ2_isEmpty.cls ≠ "java/lang/invoke/VarHandle" ∧ (parseMethodDescriptor yJ2_isEmpty.desc).map (fun d => d.parameters.length) = some 0 := by decide +kernel
abbrev rm_J2_isEmpty : Room := {}
set_option maxHeartbeats 4000000 in
theorem m_J2_isEmpty {l : Launch} {κ : Kx} {w : Wd} {y : Ly} {X : XR} {k i : Nat} (hk : IsLs k) (hl0 : live y k i) (hn : y.1 (k + 100) i ≤ 10) : Met l yJ2_isEmpty (ws_ yJ2_isEmpty cJ2_isEmpty 1 (Option.some Jvm.ClassFile.FieldType.boolean)) rm_J2_isEmpty (va_Pc [.ref (y.2 k i)] (RC κ w y X)) (Qs (.int (bi (y.1 (k + 100) i = 0)))) 0 0 (nofree) := by
  refine Met.ofW (cc := cJ2_isEmpty) (maxL := 1) (ret := (Option.some Jvm.ClassFile.FieldType.boolean)) (by decide) rfl ?_
  intro p e s m args below meth c s₁ B hml hv
  obtain ⟨rfl, hR, hK⟩ := hv
  have hx := B.exec
  have hb := B.bytes
  have hr := B.returns
  have hts := atoms_spec (ws := ws_ yJ2_isEmpty cJ2_isEmpty 1 (Option.some Jvm.ClassFile.FieldType.boolean)) B.pre
  have hts : ∀ w ∈ lw_all, w.before _ s = true := fun w h => hts w (List.mem_cons_of_mem _ h)
  have hown : s.vm.findClass RJ2 = some m.cls := findClass_of_methodNamed B.named
  have hlocks := B.notSynchronized
  have hS : va_S (Af κ) s.heap s.heap [] := va_S.rf
  have hl := lv_entry ([.ref (y.2 k i)]) (n := 1) (Nat.le_of_ble_eq_true rfl)
  rw [lg_entry_eq]
  generalize (lg_sl ([.ref (y.2 k i)]) ++ List.replicate (1 - (lg_sl ([.ref (y.2 k i)])).length) Slot.unset).toArray = ls at hl ⊢
  have hl : lv_has ls 1 [(0, .ref (y.2 k i))] := hl
  have hL := hR.role hl0
  rw [hk.1] at hL
  refine lv_aload_n hx hb dJ2_isEmpty_0 rfl (lv_at hl 0 rfl) ?_
  refine xa_get (T := TJ2) (N := 3) (v := .int (nI (y.1 (k + 100) i))) hx hb hts in_J2 hown hK.1 hL rfl 2 (by decide) q146 rfl rfl dJ2_isEmpty_1 ?_
  have e0 : nI (y.1 (k + 100) i) = 0 ↔ y.1 (k + 100) i = 0 := nI_eq (b := 0) (by omega) (by decide)
  refine lv_if_ne (tgt := 11) hx hb dJ2_isEmpty_4 (by decide) (fun c => ?_) (fun c => ?_)
  · refine lv_iconst (v := 0) hx hb dJ2_isEmpty_11 (by decide) ?_
    refine W.zret (v := 0) hx hb hr rfl (fun t ht _ => ⟨?_, ht⟩) (fun q h => by cases h) dJ2_isEmpty_12
    rw [bi_0.mpr (fun h => c (e0.mpr h))]
  · refine lv_iconst (v := 1) hx hb dJ2_isEmpty_7 (by decide) ?_
    refine lv_goto (tgt := 12) hx hb dJ2_isEmpty_8 (by decide) ?_
    refine W.zret (v := 1) hx hb hr rfl (fun t ht _ => ⟨?_, ht⟩) (fun q h => by cases h) dJ2_isEmpty_12
    rw [bi_1.mpr (e0.mp c)]
theorem hd_J2_elementData : yJ2_elementData.cls = RJ2 ∧ yJ2_elementData.cls ≠ "java/lang/invoke/MethodHandle" ∧ yJ2_elementData.cls ≠ "java/lang/invoke/VarHandle" ∧ (parseMethodDescriptor yJ2_elementData.desc).map (fun d => d.parameters.length) = some 1 := by decide +kernel
abbrev rm_J2_elementData : Room := {}
set_option maxHeartbeats 4000000 in
theorem m_J2_elementData {l : Launch} {κ : Kx} {w : Wd} {y : Ly} {X : XR} {k i : Nat} (hk : IsLs k) (hl0 : live y k i) (hA : LsA y k i) {j : Int32} (hj : vp_in j (y.1 (k + 100) i)) : Met l yJ2_elementData (ws_ yJ2_elementData cJ2_elementData 2 (Option.some (Jvm.ClassFile.FieldType.object "java/lang/Object"))) rm_J2_elementData (va_Pc [.ref (y.2 k i), .int j] (RC κ w y X)) (Qs (.ref (y.2 (k + 300) (16 * i + j.toNatClampNeg)))) 0 0 (nofree) := by
  refine Met.ofW (cc := cJ2_elementData) (maxL := 2) (ret := (Option.some (Jvm.ClassFile.FieldType.object "java/lang/Object"))) (by decide) rfl ?_
  intro p e s m args below meth c s₁ B hml hv
  obtain ⟨rfl, hR, hK⟩ := hv
  have hx := B.exec
  have hb := B.bytes
  have hr := B.returns
  have hts := atoms_spec (ws := ws_ yJ2_elementData cJ2_elementData 2 (Option.some (Jvm.ClassFile.FieldType.object "java/lang/Object"))) B.pre
  have hts : ∀ w ∈ lw_all, w.before _ s = true := fun w h => hts w (List.mem_cons_of_mem _ h)
  have hown : s.vm.findClass RJ2 = some m.cls := findClass_of_methodNamed B.named
  have hlocks := B.notSynchronized
  have hS : va_S (Af κ) s.heap s.heap [] := va_S.rf
  have hl := lv_entry ([.ref (y.2 k i), .int j]) (n := 2) (Nat.le_of_ble_eq_true rfl)
  rw [lg_entry_eq]
  generalize (lg_sl ([.ref (y.2 k i), .int j]) ++ List.replicate (2 - (lg_sl ([.ref (y.2 k i), .int j])).length) Slot.unset).toArray = ls at hl ⊢
  have hl : lv_has ls 2 [(0, .ref (y.2 k i)), (1, .int j)] := hl
  have hL := hR.role hl0
  rw [hk.1] at hL
  have hM := hR.role hA.1
  rw [hk.2] at hM
  have h10 : vp_in j 10 := fun q => hj (q.imp id (fun z => by have := hA.2; omega))
  refine lv_aload_n hx hb dJ2_elementData_0 rfl (lv_at hl 0 rfl) ?_
  refine xa_get (T := TJ2) (N := 3) (v := .ref (y.2 (k + 1) i)) hx hb hts in_J2 hown hK.1 hL rfl 1 (by decide) q143 rfl (by rw [if_pos (show y.1 (k + 1) i = 1 from hA.1.1)]; rfl) dJ2_elementData_1 ?_
  refine lv_iload_n hx hb dJ2_elementData_4 rfl (lv_at hl 1 rfl) ?_
  refine xa_aald hx hb hK.1 hM 4 rfl h10 dJ2_elementData_5 ?_
  have he : va_rf (laF y k i j.toNatClampNeg) = .ref (y.2 (k + 300) (16 * i + j.toNatClampNeg)) := by
    unfold laF
    rw [if_pos ⟨vp_lt hj, by have h8 := hA.2; have h7 := vp_lt hj; omega⟩]
    rfl
  rw [he]
  exact W.aret hx hb hr (Or.inl ⟨_, rfl⟩) (Or.inr ⟨_, rfl⟩) (fun t ht _ => ⟨rfl, ht⟩) (fun q h => by cases h) dJ2_elementData_6
theorem rv_ls {κ : Kx} {w : Wd} {y : Ly} {X : XR} {L : va_W} {H : Heap} {s : State} (hK : KK κ s) (hR : Rp κ w y X L H) {k i : Nat} (hk : IsLs k) (hl : live y k i) : ∃ cell : Cell, H[y.2 k i]? = some cell ∧ cell.vm.isStatics = false ∧ s.vm.findClass RJ2 = some cell.cls := rv hK hR hl (ci := 16) (hk.1 κ y i _ _) rfl
theorem hd_J2_get : yJ2_get.cls = RJ2 ∧ yJ2_get.cls ≠ "java/lang/invoke/MethodHandle" ∧ yJ2_get.cls ≠ "java/lang/invoke/VarHandle" ∧ (parseMethodDescriptor yJ2_get.desc).map (fun d => d.parameters.length) = some 1 := by decide +kernel
abbrev rm_J2_get : Room := { frames := 2, locals := 72 }
set_option maxHeartbeats 4000000 in
theorem m_J2_get {l : Launch} {κ : Kx} {w : Wd} {y : Ly} {X : XR} {k i : Nat} (hk : IsLs k) (hl0 : live y k i) (hA : LsA y k i) {j : Int32} (hj : vp_in j (y.1 (k + 100) i)) : Met l yJ2_get (ws_ yJ2_get cJ2_get 2 (Option.some (Jvm.ClassFile.FieldType.object "java/lang/Object"))) rm_J2_get (va_Pc [.ref (y.2 k i), .int j] (RC κ w y X)) (Qs (.ref (y.2 (k + 300) (16 * i + j.toNatClampNeg)))) 0 0 (nofree) := by
  refine Met.ofW (cc := cJ2_get) (maxL := 2) (ret := (Option.some (Jvm.ClassFile.FieldType.object "java/lang/Object"))) (by decide) rfl ?_
  intro p e s m args below meth c s₁ B hml hv
  obtain ⟨rfl, hR, hK⟩ := hv
  have hx := B.exec
  have hb := B.bytes
  have hr := B.returns
  have hts := atoms_spec (ws := ws_ yJ2_get cJ2_get 2 (Option.some (Jvm.ClassFile.FieldType.object "java/lang/Object"))) B.pre
  have hts : ∀ w ∈ lw_all, w.before _ s = true := fun w h => hts w (List.mem_cons_of_mem _ h)
  have hown : s.vm.findClass RJ2 = some m.cls := findClass_of_methodNamed B.named
  have hlocks := B.notSynchronized
  have hS : va_S (Af κ) s.heap s.heap [] := va_S.rf
  have hl := lv_entry ([.ref (y.2 k i), .int j]) (n := 2) (Nat.le_of_ble_eq_true rfl)
  rw [lg_entry_eq]
  generalize (lg_sl ([.ref (y.2 k i), .int j]) ++ List.replicate (2 - (lg_sl ([.ref (y.2 k i), .int j])).length) Slot.unset).toArray = ls at hl ⊢
  have hl : lv_has ls 2 [(0, .ref (y.2 k i)), (1, .int j)] := hl
  have hL := hR.role hl0
  rw [hk.1] at hL
  have h0 : ¬ j < 0 := fun q => hj (Or.inl q)
  have h1 : j < nI (y.1 (k + 100) i) := by
    obtain ⟨z, hz, rfl⟩ := vp_in_of hj (by have := hA.2; omega)
    exact nI_lt hz (by have := hA.2; omega)
  refine lv_iload_n hx hb dJ2_get_0 rfl (lv_at hl 1 rfl) ?_
  refine lv_aload_n hx hb dJ2_get_1 rfl (lv_at hl 0 rfl) ?_
  refine xa_get (T := TJ2) (N := 3) (v := .int (nI (y.1 (k + 100) i))) hx hb hts in_J2 hown hK.1 hL rfl 2 (by decide) q146 rfl rfl dJ2_get_2 ?_
  refine ce_s (cr_S (n := 2) (As := [.int j, .int (nI (y.1 (k + 100) i))]) (rest := []) ⟨hx, hb, hml, hown, hts⟩ hK hR (m_J13_checkIndex h0 h1) q689 q690 q100 q691 rfl rfl hds_J13_checkIndex ⟨Nat.le_of_ble_eq_true rfl, Nat.le_of_ble_eq_true rfl⟩ rfl rfl hl.1 rfl (lv_room (Nat.le_of_ble_eq_true rfl)) dJ2_get_5 ⟨Nat.le_of_ble_eq_true rfl, Nat.le_of_ble_eq_true rfl⟩) ?_
  refine lv_pop hx hb dJ2_get_8 rfl ?_
  refine lv_aload_n hx hb dJ2_get_9 rfl (lv_at hl 0 rfl) ?_
  refine lv_iload_n hx hb dJ2_get_10 rfl (lv_at hl 1 rfl) ?_
  refine ce_s (cr_V (n := 1) (As := [.int j]) (rest := []) ⟨hx, hb, hml, hown, hts⟩ hK hR (m_J2_elementData hk hl0 hA hj) q695 q696 q697 q77 q698 rfl rfl hd_J2_elementData ⟨Nat.le_of_ble_eq_true rfl, Nat.le_of_ble_eq_true rfl⟩ (rv_ls hK hR hk hl0) rfl rfl hl.1 rfl (lv_room (Nat.le_of_ble_eq_true rfl)) dJ2_get_11 ⟨Nat.le_of_ble_eq_true rfl, Nat.le_of_ble_eq_true rfl⟩) ?_
  exact W.aret hx hb hr (Or.inl ⟨_, rfl⟩) (Or.inr ⟨_, rfl⟩) (fun t ht _ => ⟨rfl, ht⟩) (fun q h => by cases h) dJ2_get_14
/-- a caller's cell is written -/
def upX (X : XR) (a : Nat) (e : va_E) : XR := fun q f => (q = a ∧ f = e) ∨ (q ≠ a ∧ X q f)
theorem upX_self (X : XR) (a : Nat) (e : va_E) : upX X a e a e := Or.inl ⟨rfl, rfl⟩
theorem Rp.putX {κ : Kx} {w : Wd} {y : Ly} {X : XR} {H H1 : Heap} {a : Nat} {e0 e1 : va_E} (h : Rp κ w y X [] H) (ha : X a e0)
    (h1 : va_at (kD κ) Cl (a, e1) H1) (hz : H1.size = H.size) (ho : ∀ q : Nat, q ≠ a → H1[q]? = H[q]?) : Rp κ w y (upX X a e1) [] H1 := by
  obtain ⟨⟨a1, a2⟩, a3, a4, a5, a6, a7, a8⟩ := h
  obtain ⟨-, hA, hN⟩ := a5 a e0 ha
  refine ⟨⟨by rw [hz]; exact a1, fun q hq => ?_⟩, fun k i hl => ⟨(a3 k i hl).1.kept (ho _ (hN k i hl)), (a3 k i hl).2⟩, a4, fun q e hx => ?_, va_P0, va_D0, fun t q h => by simp at h⟩
  · rw [ho q (by omega)]
    exact a2 q hq
  · rcases hx with ⟨rfl, rfl⟩ | ⟨hq, hx⟩
    · exact ⟨h1, hA, hN⟩
    · exact ⟨(a5 q e hx).1.kept (ho q hq), (a5 q e hx).2⟩
theorem upX_upX (X : XR) (a : Nat) (e0 e1 : va_E) : upX (upX X a e0) a e1 = upX X a e1 := by
  funext q f
  unfold upX
  apply propext
  constructor
  · rintro (h | ⟨h1, h2⟩)
    · exact Or.inl h
    · rcases h2 with h2 | h2
      · exact absurd h2.1 h1
      · exact Or.inr h2
  · rintro (h | h)
    · exact Or.inl h
    · exact Or.inr ⟨h.1, Or.inr h⟩
theorem Rp.putX2 {κ : Kx} {w : Wd} {y : Ly} {X : XR} {H H1 : Heap} {a : Nat} {e0 e1 : va_E} (h : Rp κ w y (upX X a e0) [] H)
    (h1 : va_at (kD κ) Cl (a, e1) H1) (hz : H1.size = H.size) (ho : ∀ q : Nat, q ≠ a → H1[q]? = H[q]?) : Rp κ w y (upX X a e1) [] H1 := by
  have h2 := h.putX (upX_self X a e0) h1 hz ho
  rw [upX_upX] at h2
  exact h2
theorem Rp.X {κ : Kx} {w : Wd} {y : Ly} {X : XR} {L : va_W} {H : Heap} (h : Rp κ w y X L H) {q : Nat} {e : va_E} (hx : X q e) : va_at (kD κ) Cl (q, e) H := (h.2.2.2.1 q e hx).1
/-- a callee has written one of this method's temporaries -/
theorem Rp.wroteL {κ : Kx} {w w' : Wd} {y y' : Ly} {X : XR} {L : va_W} {H H1 : Heap} {t a : Nat} {e0 e1 : va_E} (h : Rp κ w y X L H) (ht : L[t]? = some (a, e0)) (h1 : Rp κ w' y' (upX (xl X L) a e1) [] H1) : Rp κ w' y' X (L.set t (a, e1)) H1 := by
  obtain ⟨a12, a3, a4, a5, a6, a7, a8⟩ := h
  obtain ⟨b12, b3, b4, b5, b6, b7, b8⟩ := h1
  have hl := (List.getElem?_eq_some_iff.mp ht).1
  have key : ∀ (k : Nat) (q : Nat × va_E), (L.set t (a, e1))[k]? = some q → upX (xl X L) a e1 q.1 q.2 ∧ ∃ e, L[k]? = some (q.1, e) := by
    intro k q hk
    by_cases hkp : k = t
    · subst hkp
      rw [List.getElem?_set_self hl] at hk
      cases hk
      exact ⟨Or.inl ⟨rfl, rfl⟩, e0, ht⟩
    · rw [List.getElem?_set_ne (fun e => hkp e.symm)] at hk
      exact ⟨Or.inr ⟨fun e => hkp (a7.1 k t q (a, e0) hk ht e), Or.inr ⟨k, hk⟩⟩, q.2, hk⟩
  refine ⟨b12, b3, b4, fun q e hx => ?_, fun k q hk => (b5 q.1 q.2 (key k q hk).1).1, a7.set ht, fun k q hk => ?_⟩
  · have hne : q ≠ a := fun e2 => (a8 t _ ht).1 e (by rw [← e2]; exact hx)
    exact b5 q e (Or.inr ⟨hne, Or.inl hx⟩)
  · obtain ⟨k1, e, k2⟩ := key k q hk
    exact ⟨(a8 k _ k2).1, (b5 q.1 q.2 k1).2.2⟩
/-- a callee has made temporaries that it hands over -/
theorem Rp.up2 {κ : Kx} {w w' : Wd} {y y' : Ly} {X : XR} {L L2 : va_W} {H H1 : Heap} (h : Rp κ w y X L H) (h1 : Rp κ w' y' (xl X L) L2 H1) : Rp κ w' y' X (L ++ L2) H1 := by
  obtain ⟨a12, a3, a4, a5, a6, a7, a8⟩ := h
  obtain ⟨b12, b3, b4, b5, b6, b7, b8⟩ := h1
  refine ⟨b12, b3, b4, fun q e hx => b5 q e (Or.inl hx), va_P.app (fun t q ht => (b5 q.1 q.2 (Or.inr ⟨t, ht⟩)).1) b6, va_D.app a7 b7 (fun i j x z hi hj e => ?_), fun k q hk => ?_⟩
  · exact (b8 j z hj).1 x.2 (Or.inr ⟨i, by rw [← e]; exact hi⟩)
  · by_cases hc : k < L.length
    · rw [List.getElem?_append_left hc] at hk
      exact ⟨(a8 k q hk).1, (b5 q.1 q.2 (Or.inr ⟨k, hk⟩)).2.2⟩
    · rw [List.getElem?_append_right (by omega)] at hk
      exact ⟨fun e hx => (b8 _ q hk).1 e (Or.inl hx), (b8 _ q hk).2⟩
theorem hd_J18_init : yJ18_init.cls = RJ18 ∧ yJ18_init.cls ≠ "java/lang/invoke/MethodHandle" ∧ yJ18_init.cls ≠ "java/lang/invoke/VarHandle" ∧ (parseMethodDescriptor yJ18_init.desc).map (fun d => d.parameters.length) = some 1 := by decide +kernel
abbrev rm_J18_init : Room := { frames := 1, locals := 24 }
set_option maxHeartbeats 4000000 in
theorem m_J18_init {l : Launch} {κ : Kx} {w : Wd} {y : Ly} {X : XR} {k i : Nat} (hk : IsLs k) (hl0 : live y k i) {q : Nat} (hX : X q (.inr (17, [.int 0, .int 0, .int 0, .null]))) : Met l yJ18_init (ws_ yJ18_init cJ18_init 2 (Option.none : Option Jvm.ClassFile.FieldType)) rm_J18_init (va_Pc [.ref q, .ref (y.2 k i)] (RC κ w y X)) (va_Qv (fun _ : Unit => True) (fun _ t => Rp κ w y (upX X q (itC y k i 0 (-1))) [] t.heap) (Af κ)) 0 0 (Af κ) := by
  refine Met.ofW (cc := cJ18_init) (maxL := 2) (ret := (Option.none : Option Jvm.ClassFile.FieldType)) (by decide) rfl ?_
  intro p e s m args below meth c s₁ B hml hv
  obtain ⟨rfl, hR, hK⟩ := hv
  have hx := B.exec
  have hb := B.bytes
  have hr := B.returns
  have hts := atoms_spec (ws := ws_ yJ18_init cJ18_init 2 (Option.none : Option Jvm.ClassFile.FieldType)) B.pre
  have hts : ∀ w ∈ lw_all, w.before _ s = true := fun w h => hts w (List.mem_cons_of_mem _ h)
  have hown : s.vm.findClass RJ18 = some m.cls := findClass_of_methodNamed B.named
  have hlocks := B.notSynchronized
  have hS : va_S (Af κ) s.heap s.heap [] := va_S.rf
  have hl := lv_entry ([.ref q, .ref (y.2 k i)]) (n := 2) (Nat.le_of_ble_eq_true rfl)
  rw [lg_entry_eq]
  generalize (lg_sl ([.ref q, .ref (y.2 k i)]) ++ List.replicate (2 - (lg_sl ([.ref q, .ref (y.2 k i)])).length) Slot.unset).toArray = ls at hl ⊢
  have hl : lv_has ls 2 [(0, .ref q), (1, .ref (y.2 k i))] := hl
  have hin : meth.name = "<init>" := (name_of_methodNamed B.named B.method).1
  have hL := hR.role hl0
  rw [hk.1] at hL
  refine lv_aload_n hx hb dJ18_init_0 rfl (lv_at hl 0 rfl) ?_
  refine lv_aload_n hx hb dJ18_init_1 rfl (lv_at hl 1 rfl) ?_
  refine xa_putF (T := TJ18) (N := 4) hx hb hts in_J18 tyJ18 tyJ18_ok nmJ18 hown hK.1 hS (hR.2.2.2.1 _ _ hX).2.1 (hR.X hX) rfl 3 (by decide) q338 rfl rfl hin rfl rfl rfl (Nat.le_of_ble_eq_true rfl) dJ18_init_2 (fun H1 locs h1 hz ho hS => ?_)
  have hR := hR.putX hX h1 hz ho
  clear h1 hz ho
  generalize H1 = H at hR hS ⊢
  refine lv_aload_n hx hb dJ18_init_5 rfl (lv_at hl 0 rfl) ?_
  refine W.objInit hx hb hown (hts _ q334) (hts _ q127) (hts _ q128) rfl (by rw [hml]; exact hl.1) rfl dJ18_init_6 (Nat.le_of_ble_eq_true rfl) (Nat.le_of_ble_eq_true rfl) ?_
  refine W.eq (g2 := F0 m 9 ls []) rfl ?_
  refine lv_aload_n hx hb dJ18_init_9 rfl (lv_at hl 0 rfl) ?_
  refine lv_iconst (v := -1) hx hb dJ18_init_10 (by decide) ?_
  refine xa_put (T := TJ18) (N := 4) hx hb hts in_J18 tyJ18 tyJ18_ok nmJ18 hown hK.1 hS (hR.2.2.2.1 _ _ (upX_self _ _ _)).2.1 (hR.X (upX_self _ _ _)) rfl 1 (by decide) q336 rfl rfl rfl rfl (Nat.le_of_ble_eq_true rfl) dJ18_init_11 (fun H1 locs h1 hz ho hS => ?_)
  have hR := hR.putX2 h1 hz ho
  clear h1 hz ho
  generalize H1 = H at hR hS ⊢
  refine lv_aload_n hx hb dJ18_init_14 rfl (lv_at hl 0 rfl) ?_
  refine lv_aload_n hx hb dJ18_init_15 rfl (lv_at hl 0 rfl) ?_
  refine xa_get (T := TJ18) (N := 4) (v := .ref (y.2 k i)) hx hb hts in_J18 hown hK.1 (hR.X (upX_self _ _ _)) rfl 3 (by decide) q338 rfl rfl dJ18_init_16 ?_
  have hL := hR.role hl0
  rw [hk.1] at hL
  refine va_get (T := TJ2) (N := 3) (v := .int (nI (y.1 (k + 200) i))) hx hb hts in_J2 hown hK.1 (va_P1 hL) 0 rfl rfl 0 (by decide) (hts _ q148) (same_mc hts) rfl dJ18_init_19 ?_
  refine xa_put (T := TJ18) (N := 4) hx hb hts in_J18 tyJ18 tyJ18_ok nmJ18 hown hK.1 hS (hR.2.2.2.1 _ _ (upX_self _ _ _)).2.1 (hR.X (upX_self _ _ _)) rfl 2 (by decide) q337 rfl rfl rfl rfl (Nat.le_of_ble_eq_true rfl) dJ18_init_22 (fun H1 locs h1 hz ho hS => ?_)
  have hR := hR.putX2 h1 hz ho
  clear h1 hz ho
  generalize H1 = H at hR hS ⊢
  exact W.vret hx hb hr (fun t ht hW9 => ⟨⟨(), rfl, trivial, rpt ht hR⟩, hS.F ht⟩) hS.2.2 dJ18_init_25
theorem hd_J2_iterator : yJ2_iterator.cls = RJ2 ∧ yJ2_iterator.cls ≠ "java/lang/invoke/MethodHandle" ∧ yJ2_iterator.cls ≠ "java/lang/invoke/VarHandle" ∧ (parseMethodDescriptor yJ2_iterator.desc).map (fun d => d.parameters.length) = some 0 := by decide +kernel
abbrev rm_J2_iterator : Room := { frames := 2, cells := 1, slots := 4, locals := 48 }
set_option maxHeartbeats 4000000 in
theorem m_J2_iterator {l : Launch} {κ : Kx} {w : Wd} {y : Ly} {X : XR} {k i : Nat} (hk : IsLs k) (hl0 : live y k i) : Met l yJ2_iterator (ws_ yJ2_iterator cJ2_iterator 1 (Option.some (Jvm.ClassFile.FieldType.object "java/util/Iterator"))) rm_J2_iterator (va_Pc [.ref (y.2 k i)] (RC κ w y X)) (va_Qr (fun _ : Unit => True) (fun _ a t => Rp κ w y X [(a, itC y k i 0 (-1))] t.heap) (Af κ)) 1 4 (Af κ) := by
  refine Met.ofW (cc := cJ2_iterator) (maxL := 1) (ret := (Option.some (Jvm.ClassFile.FieldType.object "java/util/Iterator"))) (by decide) rfl ?_
  intro p e s m args below meth c s₁ B hml hv
  obtain ⟨rfl, hR, hK⟩ := hv
  have hx := B.exec
  have hb := B.bytes
  have hr := B.returns
  have hts := atoms_spec (ws := ws_ yJ2_iterator cJ2_iterator 1 (Option.some (Jvm.ClassFile.FieldType.object "java/util/Iterator"))) B.pre
  have hts : ∀ w ∈ lw_all, w.before _ s = true := fun w h => hts w (List.mem_cons_of_mem _ h)
  have hown : s.vm.findClass RJ2 = some m.cls := findClass_of_methodNamed B.named
  have hlocks := B.notSynchronized
  have hS : va_S (Af κ) s.heap s.heap [] := va_S.rf
  have hl := lv_entry ([.ref (y.2 k i)]) (n := 1) (Nat.le_of_ble_eq_true rfl)
  rw [lg_entry_eq]
  generalize (lg_sl ([.ref (y.2 k i)]) ++ List.replicate (1 - (lg_sl ([.ref (y.2 k i)])).length) Slot.unset).toArray = ls at hl ⊢
  have hl : lv_has ls 1 [(0, .ref (y.2 k i))] := hl
  refine xa_new (C := RJ18) (T := TJ18) (N := 4) (ci := 17) (fs := [.int 0, .int 0, .int 0, .null]) hx hb hts in_J18 tyJ18 tyJ18_ok hown q329 q330 q105 hK.1 hS rfl (fun j hj => by rcases (show j = 0 ∨ j = 1 ∨ j = 2 ∨ j = 3 by omega) with rfl | rfl | rfl | rfl <;> rfl) (Nat.le_of_ble_eq_true rfl) (Nat.le_of_ble_eq_true rfl) dJ2_iterator_0 (fun q H1 hq h1 hz ho hS => ?_)
  have hR := hR.newL hq h1 (by omega) ho
  clear hq h1 hz ho
  generalize H1 = H at hR hS ⊢
  refine lv_dup hx hb dJ2_iterator_3 rfl ?_
  refine lv_aload_n hx hb dJ2_iterator_4 rfl (lv_at hl 0 rfl) ?_
  refine va_callv (va_runI (As := [.ref (y.2 k i)]) (rest := [.ref q]) ⟨hx, hb, hml, hown, hts⟩ (m_J18_init (X := xl X [(q, .inr (17, [.int 0, .int 0, .int 0, .null]))]) hk hl0 (Or.inr ⟨0, rfl⟩)) (cwI 1 hts (lw_meth q333) rfl rfl rfl (hts _ q105) (hts _ q331) (hts _ q332) rfl (by decide +kernel) ⟨Nat.le_of_ble_eq_true rfl, Nat.le_of_ble_eq_true rfl⟩) ⟨RC.blind, RC.pre hR hK⟩ rfl rfl hl.1 rfl (lv_room (Nat.le_of_ble_eq_true rfl)) dJ2_iterator_5 ⟨Nat.le_of_ble_eq_true rfl, Nat.le_of_ble_eq_true rfl⟩) hS (fun _ _ h => h) (fun _ h => h) (fun u t H1 locs1 ht _ hp hB hz _ hS => ?_)
  rw [ht] at hB
  have hR := hR.wroteL (t := 0) rfl hB
  exact W.aret hx hb hr (Or.inl ⟨_, rfl⟩) (Or.inr ⟨_, rfl⟩) (fun t ht _ => ⟨⟨(), q, rfl, trivial, rpt ht hR⟩, hS.F ht⟩) hS.2.2 dJ2_iterator_8
theorem hd_J18_hasNext : yJ18_hasNext.cls = RJ18 ∧ yJ18_hasNext.cls ≠ "java/lang/invoke/MethodHandle" ∧ yJ18_hasNext.cls ≠ "java/lang/invoke/VarHandle" ∧ (parseMethodDescriptor yJ18_hasNext.desc).map (fun d => d.parameters.length) = some 0 := by decide +kernel
abbrev rm_J18_hasNext : Room := {}
set_option maxHeartbeats 4000000 in
theorem m_J18_hasNext {l : Launch} {κ : Kx} {w : Wd} {y : Ly} {X : XR} {k i : Nat} (hk : IsLs k) (hl0 : live y k i) {q cu : Nat} {z : Int32} (hX : X q (itC y k i cu z)) (hc : cu ≤ y.1 (k + 100) i) (hn : y.1 (k + 100) i ≤ 10) : Met l yJ18_hasNext (ws_ yJ18_hasNext cJ18_hasNext 1 (Option.some Jvm.ClassFile.FieldType.boolean)) rm_J18_hasNext (va_Pc [.ref q] (RC κ w y X)) (Qs (.int (bi (¬ cu = y.1 (k + 100) i)))) 0 0 (nofree) := by
  refine Met.ofW (cc := cJ18_hasNext) (maxL := 1) (ret := (Option.some Jvm.ClassFile.FieldType.boolean)) (by decide) rfl ?_
  intro p e s m args below meth c s₁ B hml hv
  obtain ⟨rfl, hR, hK⟩ := hv
  have hx := B.exec
  have hb := B.bytes
  have hr := B.returns
  have hts := atoms_spec (ws := ws_ yJ18_hasNext cJ18_hasNext 1 (Option.some Jvm.ClassFile.FieldType.boolean)) B.pre
  have hts : ∀ w ∈ lw_all, w.before _ s = true := fun w h => hts w (List.mem_cons_of_mem _ h)
  have hown : s.vm.findClass RJ18 = some m.cls := findClass_of_methodNamed B.named
  have hlocks := B.notSynchronized
  have hS : va_S (Af κ) s.heap s.heap [] := va_S.rf
  have hl := lv_entry ([.ref q]) (n := 1) (Nat.le_of_ble_eq_true rfl)
  rw [lg_entry_eq]
  generalize (lg_sl ([.ref q]) ++ List.replicate (1 - (lg_sl ([.ref q])).length) Slot.unset).toArray = ls at hl ⊢
  have hl : lv_has ls 1 [(0, .ref q)] := hl
  have hL := hR.role hl0
  rw [hk.1] at hL
  refine lv_aload_n hx hb dJ18_hasNext_0 rfl (lv_at hl 0 rfl) ?_
  refine xa_get (T := TJ18) (N := 4) (v := .int (nI cu)) hx hb hts in_J18 hown hK.1 (hR.X hX) rfl 0 (by decide) q335 rfl rfl dJ18_hasNext_1 ?_
  refine lv_aload_n hx hb dJ18_hasNext_4 rfl (lv_at hl 0 rfl) ?_
  refine xa_get (T := TJ18) (N := 4) (v := .ref (y.2 k i)) hx hb hts in_J18 hown hK.1 (hR.X hX) rfl 3 (by decide) q338 rfl rfl dJ18_hasNext_5 ?_
  refine va_getN (host := "java/util/ArrayList") (T := TJ2) (N := 3) (v := .int (nI (y.1 (k + 100) i))) hx hb hts in_J2 hown hK.1 (va_P1 hL) 0 rfl rfl 2 (by decide) (va_Nw.use rfl (hK.2.1.2.1 _ (List.mem_of_getElem? (i := 0) rfl))) (fun _ h => h) rfl dJ18_hasNext_8 ?_
  have e0 : nI cu = nI (y.1 (k + 100) i) ↔ cu = y.1 (k + 100) i := nI_eq (by omega) (by omega)
  refine lv_icmp_eq (tgt := 18) hx hb dJ18_hasNext_11 (by decide) (fun h => ?_) (fun h => ?_)
  · refine lv_iconst (v := 0) hx hb dJ18_hasNext_18 (by decide) ?_
    refine W.zret (v := 0) hx hb hr rfl (fun t ht _ => ⟨?_, ht⟩) (fun q h => by cases h) dJ18_hasNext_19
    rw [bi_0.mpr (fun h9 => h9 (e0.mp h))]
  · refine lv_iconst (v := 1) hx hb dJ18_hasNext_14 (by decide) ?_
    refine lv_goto (tgt := 19) hx hb dJ18_hasNext_15 (by decide) ?_
    refine W.zret (v := 1) hx hb hr rfl (fun t ht _ => ⟨?_, ht⟩) (fun q h => by cases h) dJ18_hasNext_19
    rw [bi_1.mpr (show ¬ cu = _ from fun h9 => h (e0.mpr h9))]
def Qu : Array Value → State → Outcome → State → Prop := fun _ st oc t => oc = .returned none ∧ t.heap = st.heap
theorem ce_u {p : Program} {l : Launch} {e : Env} {R : Room} {s : State} {m : MethodId} {args : Array Value} {below : List Frame} {meth : Method} {c : Code} {H : Heap} {locs : List Loc} {cells slots : Nat} {Q : State → Prop} {pc : Nat} {ls : Array Slot} {rest st0 : List Value} {a : Array Value} (hr : va_Run p l e R s m args below meth c H locs cells slots 0 0 (F0 m pc ls st0) rest (Qu a) nofree)
    (kk : W p l e R s m args below meth c H locs cells slots Q (F0 m (pc + 3) ls rest)) : W p l e R s m args below meth c H locs cells slots Q (F0 m pc ls st0) := by
  intro T hT X
  obtain ⟨v', st₀, t, T', L, h0, X', hL, e1, e2, ⟨hv, hh⟩, st⟩ := hr T hT X
  have hL0 : L = [] := List.eq_nil_iff_forall_not_mem.mpr hL
  subst hL0
  cases hv
  rw [List.append_nil] at X'
  obtain ⟨t2, a1, b1⟩ := kk T' (e1.trans (hh.trans h0)) X'
  exact ⟨t2, st t2 a1, b1⟩
theorem hd_J18_checkForComodification : yJ18_checkForComodification.cls = RJ18 ∧ yJ18_checkForComodification.cls ≠ "java/lang/invoke/MethodHandle" ∧ yJ18_checkForComodification.cls ≠ "java/lang/invoke/VarHandle" ∧ (parseMethodDescriptor yJ18_checkForComodification.desc).map (fun d => d.parameters.length) = some 0 := by decide +kernel
abbrev rm_J18_checkForComodification : Room := {}
set_option maxHeartbeats 4000000 in
theorem m_J18_checkForComodification {l : Launch} {κ : Kx} {w : Wd} {y : Ly} {X : XR} {k i : Nat} (hk : IsLs k) (hl0 : live y k i) {q cu : Nat} {z : Int32} (hX : X q (itC y k i cu z)) : Met l yJ18_checkForComodification (ws_ yJ18_checkForComodification cJ18_checkForComodification 1 (Option.none : Option Jvm.ClassFile.FieldType)) rm_J18_checkForComodification (va_Pc [.ref q] (RC κ w y X)) (Qu) 0 0 (nofree) := by
  refine Met.ofW (cc := cJ18_checkForComodification) (maxL := 1) (ret := (Option.none : Option Jvm.ClassFile.FieldType)) (by decide) rfl ?_
  intro p e s m args below meth c s₁ B hml hv
  obtain ⟨rfl, hR, hK⟩ := hv
  have hx := B.exec
  have hb := B.bytes
  have hr := B.returns
  have hts := atoms_spec (ws := ws_ yJ18_checkForComodification cJ18_checkForComodification 1 (Option.none : Option Jvm.ClassFile.FieldType)) B.pre
  have hts : ∀ w ∈ lw_all, w.before _ s = true := fun w h => hts w (List.mem_cons_of_mem _ h)
  have hown : s.vm.findClass RJ18 = some m.cls := findClass_of_methodNamed B.named
  have hlocks := B.notSynchronized
  have hS : va_S (Af κ) s.heap s.heap [] := va_S.rf
  have hl := lv_entry ([.ref q]) (n := 1) (Nat.le_of_ble_eq_true rfl)
  rw [lg_entry_eq]
  generalize (lg_sl ([.ref q]) ++ List.replicate (1 - (lg_sl ([.ref q])).length) Slot.unset).toArray = ls at hl ⊢
  have hl : lv_has ls 1 [(0, .ref q)] := hl
  have hL := hR.role hl0
  rw [hk.1] at hL
  refine lv_aload_n hx hb dJ18_checkForComodification_0 rfl (lv_at hl 0 rfl) ?_
  refine xa_get (T := TJ18) (N := 4) (v := .ref (y.2 k i)) hx hb hts in_J18 hown hK.1 (hR.X hX) rfl 3 (by decide) q338 rfl rfl dJ18_checkForComodification_1 ?_
  refine va_get (T := TJ2) (N := 3) (v := .int (nI (y.1 (k + 200) i))) hx hb hts in_J2 hown hK.1 (va_P1 hL) 0 rfl rfl 0 (by decide) (hts _ q148) (same_mc hts) rfl dJ18_checkForComodification_4 ?_
  refine lv_aload_n hx hb dJ18_checkForComodification_7 rfl (lv_at hl 0 rfl) ?_
  refine xa_get (T := TJ18) (N := 4) (v := .int (nI (y.1 (k + 200) i))) hx hb hts in_J18 hown hK.1 (hR.X hX) rfl 2 (by decide) q337 rfl rfl dJ18_checkForComodification_8 ?_
  refine lv_icmp_eq (tgt := 22) hx hb dJ18_checkForComodification_11 (by decide) (fun _ => ?_) (fun h => absurd rfl h)
  exact W.vret hx hb hr (fun t ht _ => ⟨rfl, ht⟩) (fun q h => by cases h) dJ18_checkForComodification_22
theorem hd_J18_next : yJ18_next.cls = RJ18 ∧ yJ18_next.cls ≠ "java/lang/invoke/MethodHandle" ∧ yJ18_next.cls ≠ "java/lang/invoke/VarHandle" ∧ (parseMethodDescriptor yJ18_next.desc).map (fun d => d.parameters.length) = some 0 := by decide +kernel
abbrev rm_J18_next : Room := { frames := 1, locals := 24 }
set_option maxHeartbeats 4000000 in
theorem m_J18_next {l : Launch} {κ : Kx} {w : Wd} {y : Ly} {X : XR} {k i : Nat} (hk : IsLs k) (hl0 : live y k i) (hA : LsA y k i) {q cu : Nat} {z : Int32} (hX : X q (itC y k i cu z)) (hc : cu < y.1 (k + 100) i) : Met l yJ18_next (ws_ yJ18_next cJ18_next 3 (Option.some (Jvm.ClassFile.FieldType.object "java/lang/Object"))) rm_J18_next (va_Pc [.ref q] (RC κ w y X)) (va_Qr (fun _ : Unit => True) (fun _ a t => a = y.2 (k + 300) (16 * i + cu) ∧ Rp κ w y (upX X q (itC y k i (cu + 1) (nI cu))) [] t.heap) (Af κ)) 0 0 (Af κ) := by
  refine Met.ofW (cc := cJ18_next) (maxL := 3) (ret := (Option.some (Jvm.ClassFile.FieldType.object "java/lang/Object"))) (by decide) rfl ?_
  intro p e s m args below meth c s₁ B hml hv
  obtain ⟨rfl, hR, hK⟩ := hv
  have hx := B.exec
  have hb := B.bytes
  have hr := B.returns
  have hts := atoms_spec (ws := ws_ yJ18_next cJ18_next 3 (Option.some (Jvm.ClassFile.FieldType.object "java/lang/Object"))) B.pre
  have hts : ∀ w ∈ lw_all, w.before _ s = true := fun w h => hts w (List.mem_cons_of_mem _ h)
  have hown : s.vm.findClass RJ18 = some m.cls := findClass_of_methodNamed B.named
  have hlocks := B.notSynchronized
  have hS : va_S (Af κ) s.heap s.heap [] := va_S.rf
  have hl := lv_entry ([.ref q]) (n := 3) (Nat.le_of_ble_eq_true rfl)
  rw [lg_entry_eq]
  generalize (lg_sl ([.ref q]) ++ List.replicate (3 - (lg_sl ([.ref q])).length) Slot.unset).toArray = ls at hl ⊢
  have hl : lv_has ls 3 [(0, .ref q)] := hl
  have hL := hR.role hl0
  rw [hk.1] at hL
  have hM := hR.role hA.1
  rw [hk.2] at hM
  have hc10 : y.1 (k + 100) i ≤ 10 := hA.2
  refine lv_aload_n hx hb dJ18_next_0 rfl (lv_at hl 0 rfl) ?_
  refine ce_u (cr_V (n := 0) (As := []) (rest := []) ⟨hx, hb, hml, hown, hts⟩ hK hR (m_J18_checkForComodification (X := xl X []) hk hl0 (Or.inl hX)) q367 q368 q369 q105 q370 rfl rfl hd_J18_checkForComodification ⟨Nat.le_of_ble_eq_true rfl, Nat.le_of_ble_eq_true rfl⟩ (rv_at hK (hR.X hX) rfl) rfl rfl hl.1 rfl (lv_room (Nat.le_of_ble_eq_true rfl)) dJ18_next_1 ⟨Nat.le_of_ble_eq_true rfl, Nat.le_of_ble_eq_true rfl⟩) ?_
  refine lv_aload_n hx hb dJ18_next_4 rfl (lv_at hl 0 rfl) ?_
  refine xa_get (T := TJ18) (N := 4) (v := .int (nI cu)) hx hb hts in_J18 hown hK.1 (hR.X hX) rfl 0 (by decide) q335 rfl rfl dJ18_next_5 ?_
  refine lv_istore_n (lv' := [(1, .int (nI cu)), (0, .ref q)]) hx hb dJ18_next_8 rfl hl (by decide) rfl (fun ls hl => ?_)
  refine lv_iload_n hx hb dJ18_next_9 rfl (lv_at hl 0 rfl) ?_
  refine lv_aload_n hx hb dJ18_next_10 rfl (lv_at hl 1 rfl) ?_
  refine xa_get (T := TJ18) (N := 4) (v := .ref (y.2 k i)) hx hb hts in_J18 hown hK.1 (hR.X hX) rfl 3 (by decide) q338 rfl rfl dJ18_next_11 ?_
  refine va_getN (host := "java/util/ArrayList") (T := TJ2) (N := 3) (v := .int (nI (y.1 (k + 100) i))) hx hb hts in_J2 hown hK.1 (va_P1 hL) 0 rfl rfl 2 (by decide) (va_Nw.use rfl (hK.2.1.2.1 _ (List.mem_of_getElem? (i := 0) rfl))) (fun _ h => h) rfl dJ18_next_14 ?_
  refine lv_icmp_lt (tgt := 28) hx hb dJ18_next_17 (by decide) (fun _ => ?_) (fun h => absurd (nI_lt hc (by omega)) h)
  refine lv_aload_n hx hb dJ18_next_28 rfl (lv_at hl 1 rfl) ?_
  refine xa_get (T := TJ18) (N := 4) (v := .ref (y.2 k i)) hx hb hts in_J18 hown hK.1 (hR.X hX) rfl 3 (by decide) q338 rfl rfl dJ18_next_29 ?_
  refine xa_get (T := TJ2) (N := 3) (v := .ref (y.2 (k + 1) i)) hx hb hts in_J2 hown hK.1 hL rfl 1 (by decide) q144 rfl (by rw [if_pos (show y.1 (k + 1) i = 1 from hA.1.1)]; rfl) dJ18_next_32 ?_
  refine lv_astore_n (lv' := [(2, .ref (y.2 (k + 1) i)), (1, .int (nI cu)), (0, .ref q)]) hx hb dJ18_next_35 rfl hl (by decide) rfl (fun ls hl => ?_)
  refine lv_iload_n hx hb dJ18_next_36 rfl (lv_at hl 1 rfl) ?_
  refine lv_aload_n hx hb dJ18_next_37 rfl (lv_at hl 0 rfl) ?_
  refine xa_alen hx hb hK.1 hM 4 rfl dJ18_next_38 ?_
  refine lv_icmp_lt (tgt := 50) hx hb dJ18_next_39 (by decide) (fun _ => ?_) (fun h => absurd (nI_lt (show cu < 10 by omega) (by decide)) h)
  refine lv_aload_n hx hb dJ18_next_50 rfl (lv_at hl 2 rfl) ?_
  refine lv_iload_n hx hb dJ18_next_51 rfl (lv_at hl 1 rfl) ?_
  refine lv_iconst (v := 1) hx hb dJ18_next_52 (by decide) ?_
  refine lv_iadd hx hb dJ18_next_53 ?_
  rw [nI_1]
  refine xa_put (T := TJ18) (N := 4) hx hb hts in_J18 tyJ18 tyJ18_ok nmJ18 hown hK.1 hS (hR.2.2.2.1 _ _ hX).2.1 (hR.X hX) rfl 0 (by decide) q335 rfl rfl rfl rfl (Nat.le_of_ble_eq_true rfl) dJ18_next_54 (fun H1 locs h1 hz ho hS => ?_)
  have hR := hR.putX hX h1 hz ho
  clear h1 hz ho
  generalize H1 = H at hR hS ⊢
  refine lv_aload_n hx hb dJ18_next_57 rfl (lv_at hl 0 rfl) ?_
  refine lv_aload_n hx hb dJ18_next_58 rfl (lv_at hl 2 rfl) ?_
  refine lv_iload_n hx hb dJ18_next_59 rfl (lv_at hl 1 rfl) ?_
  refine lv_dup_x1 hx hb dJ18_next_60 rfl rfl ?_
  refine xa_put (T := TJ18) (N := 4) hx hb hts in_J18 tyJ18 tyJ18_ok nmJ18 hown hK.1 hS (hR.2.2.2.1 _ _ (upX_self _ _ _)).2.1 (hR.X (upX_self _ _ _)) rfl 1 (by decide) q336 rfl rfl rfl rfl (Nat.le_of_ble_eq_true rfl) dJ18_next_61 (fun H1 locs h1 hz ho hS => ?_)
  have hR := hR.putX2 h1 hz ho
  clear h1 hz ho
  generalize H1 = H at hR hS ⊢
  have hM := hR.role hA.1
  rw [hk.2] at hM
  refine xa_aald hx hb hK.1 hM 4 rfl (vp_in_nI (show cu < 10 by omega) (by decide)) dJ18_next_64 ?_
  have he : va_rf (laF y k i (nI cu).toNatClampNeg) = .ref (y.2 (k + 300) (16 * i + cu)) := by
    rw [nI_clamp (by omega)]
    unfold laF
    rw [if_pos ⟨hc, by omega⟩]
    rfl
  rw [he]
  exact W.aret hx hb hr (Or.inl ⟨_, rfl⟩) (Or.inr ⟨_, rfl⟩) (fun t ht _ => ⟨⟨(), _, rfl, trivial, rfl, rpt ht hR⟩, hS.F ht⟩) hS.2.2 dJ18_next_65
