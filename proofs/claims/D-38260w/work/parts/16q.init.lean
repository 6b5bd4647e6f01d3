/-! THE ROOTS: Publicanry.<init>, PublicanryModel.<init> (printed by wip gen/inip.py) -/
set_option maxRecDepth 100000
section RT
variable {p : Program} {l : Launch} {e : Env} {R : Room} {s : State} {m : MethodId} {args : Array Value} {below : List Frame} {meth : Method} {c : Code} {H H0 : Heap} {locs : List Loc} {cells slots : Nat} {Q : State → Prop}
variable {cc : ByteArray} {pc : Nat} {ls : Array Slot} {rest : List Value} {D : va_G} {A : Nat → Prop} {a : Nat} {tys : List (ClassId × FieldType)}
theorem xa_aastS (hx : p.tables.exec = Jvm.exec) (hb : c.code = cc) (hK : va_K D Cl tys s) {cA : ClassId} {n v ci : Nat} {r : vw_C} {vs : List Value} {f : Nat → Option Nat} (hS : va_S A H0 H locs) (hA : A a) (he : va_at D Cl (a, .inl (cA, n, .inr (.inr (.inr (.inr f))))) H) (t0 : Nat) (ht : tys[t0]? = some (cA, .object r.1)) (hv : va_at D Cl (v, .inr (ci, vs)) H) (hc : Cl[ci]? = some r) {i : Int32} (hin : vp_in i n) (hdg : decode cc pc = .ok (.aastore, 1))
    (kk : ∀ (H1 : Heap) (locs1 : List Loc), va_at D Cl (a, .inl (cA, n, .inr (.inr (.inr (.inr (va_up f i.toNatClampNeg (some v))))))) H1 → H1.size = H.size → (∀ q : Nat, q ≠ a → H1[q]? = H[q]?) → va_S A H0 H1 locs1 → W p l e R s m args below meth c H1 locs1 cells slots Q (F0 m (pc + 1) ls rest)) : W p l e R s m args below meth c H locs cells slots Q (F0 m pc ls (.ref v :: .int i :: .ref a :: rest)) := by
  have hlt : i.toNatClampNeg < n := Nat.not_le.mp fun q => hin (Or.inr q)
  have h0 : ¬ i < 0 := fun q => hin (Or.inl q)
  obtain ⟨r', hr', cellV, g1, g2, g3, -⟩ := hv
  have hcls := (hK.1 ci r hc).2
  obtain ⟨kA, comp, k1, k2, k3, -⟩ := (hK.2 t0 _ ht).2
  have hcomp : comp = D.1 ci := Option.some.inj (k3.symm.trans hcls.1)
  subst hcomp
  obtain ⟨kC, hkC, -⟩ := hcls.2
  refine W.aast hx hb he (fun q h => by cases h) (fun h => by cases h) k1 k2 rfl hkC ⟨h0, by show _ < (arrV _ _ _).slots.size; rw [arrV_size]; exact hlt⟩ g1 (fun q h => by rw [g3] at h; cases h) (by rw [g2]; exact hkC) (by rw [g2]; exact va_assign hcls) rfl rfl hdg fun H1 e z oq => ?_
  refine kk H1 _ ?_ z oq (hS.put z oq hA)
  show H1[a]? = some (vp_cell _ _)
  rw [e]
  rw [vp_cell_q, vp_cell_q, arrV_store]
  congr 2
  funext q
  by_cases hq : q = i.toNatClampNeg
  · subst hq
    simp [updV, va_up, va_rf]
  · simp [updV, va_up, hq]
theorem jr_first {index i : Nat} {own : String} {κ : Kx} {w : Wd} {y : Ly} {X : XR} {L : va_W} (hx : p.tables.exec = Jvm.exec) (hb : c.code = cc) (hown : s.vm.findClass own = some m.cls) (hts : ∀ w ∈ lw_all, w.before args s = true) (hK : KK κ s) (hR : Rp κ w y X L H) (hi : i < 3) (hlink : Cond.fieldLink own index "Publicanry$Duty" "first" "I" ∈ lw_all) (hdg : decode cc pc = .ok (.getfield index, 3))
    (kk : W p l e R s m args below meth c H locs cells slots Q (F0 m (pc + 3) ls (.int (dutyF i) :: rest))) : W p l e R s m args below meth c H locs cells slots Q (F0 m pc ls (.ref (kA κ (20 + i)) :: rest)) := by
  obtain ⟨cf, k, fi, f, cell, h1, h2, h3, h4, h5, h6⟩ := (hK.2.1.2.2.2.2.2.2.2.2.2.1 i hi).2.2
  exact W.getf hx hb hown (hts _ hlink) h1 h2 (by rw [hR.1.2 _ (Nat.not_le.mp h6)]; exact h3) h4 (v := .int (dutyF i)) h5 rfl rfl hdg kk
end RT
abbrev rm_X2_init0 : Room := { frames := 1, locals := 24 }
set_option maxHeartbeats 4000000 in
theorem m_X2_init0 {l : Launch} {κ : Kx} {w : Wd} {y : Ly} {X : XR} {q : Nat} : Met l yX2_init (ws_ yX2_init cX2_init 1 (Option.none : Option Jvm.ClassFile.FieldType)) rm_X2_init0 (va_Pc [.ref q] (RC κ w y X)) (va_Qv (fun _ : Unit => True) (fun _ t => Rp κ w y X [] t.heap) (Af κ)) 0 0 (Af κ) := by
  refine Met.ofW (cc := cX2_init) (maxL := 1) (ret := (Option.none : Option Jvm.ClassFile.FieldType)) (by decide) rfl ?_
  intro p e s m args below meth c s₁ B hml hv
  obtain ⟨rfl, hR, hK⟩ := hv
  have hx := B.exec
  have hb := B.bytes
  have hr := B.returns
  have hts := atoms_spec (ws := ws_ yX2_init cX2_init 1 (Option.none : Option Jvm.ClassFile.FieldType)) B.pre
  have hts : ∀ w ∈ lw_all, w.before _ s = true := fun w h => hts w (List.mem_cons_of_mem _ h)
  have hown : s.vm.findClass RX2 = some m.cls := findClass_of_methodNamed B.named
  have hlocks := B.notSynchronized
  have hS : va_S (Af κ) s.heap s.heap [] := va_S.rf
  have hl := lv_entry ([.ref q]) (n := 1) (Nat.le_of_ble_eq_true rfl)
  rw [lg_entry_eq]
  generalize (lg_sl ([.ref q]) ++ List.replicate (1 - (lg_sl ([.ref q])).length) Slot.unset).toArray = ls at hl ⊢
  have hl : lv_has ls 1 [(0, .ref q)] := hl
  refine lv_aload_n hx hb dX2_init_0 rfl (lv_at hl 0 rfl) ?_
  refine W.objInit hx hb hown (hts _ q168) (hts _ q127) (hts _ q128) rfl (by rw [hml]; exact hl.1) rfl dX2_init_1 (Nat.le_of_ble_eq_true rfl) (Nat.le_of_ble_eq_true rfl) ?_
  refine W.eq (g2 := F0 m 4 ls []) rfl ?_
  exact W.vret hx hb hr (fun t ht hW9 => ⟨⟨(), rfl, trivial, rpt ht hR⟩, hS.F ht⟩) hS.2.2 dX2_init_4
theorem hd_X3_init : yX3_init.cls = RX3 ∧ yX3_init.cls ≠ "java/lang/invoke/MethodHandle" ∧ yX3_init.cls ≠ "java/lang/invoke/VarHandle" ∧ (parseMethodDescriptor yX3_init.desc).map (fun d => d.parameters.length) = some 0 := by decide +kernel
abbrev rm_X3_init : Room := { frames := 2, locals := 60 }
set_option maxHeartbeats 4000000 in
theorem m_X3_init {l : Launch} {κ : Kx} {w : Wd} {y : Ly} {X : XR} {q : Nat} : Met l yX3_init (ws_ yX3_init cX3_init 1 (Option.none : Option Jvm.ClassFile.FieldType)) rm_X3_init (va_Pc [.ref q] (RC κ w y X)) (va_Qv (fun _ : Unit => True) (fun _ t => Rp κ w y X [] t.heap) (Af κ)) 0 0 (Af κ) := by
  refine Met.ofW (cc := cX3_init) (maxL := 1) (ret := (Option.none : Option Jvm.ClassFile.FieldType)) (by decide) rfl ?_
  intro p e s m args below meth c s₁ B hml hv
  obtain ⟨rfl, hR, hK⟩ := hv
  have hx := B.exec
  have hb := B.bytes
  have hr := B.returns
  have hts := atoms_spec (ws := ws_ yX3_init cX3_init 1 (Option.none : Option Jvm.ClassFile.FieldType)) B.pre
  have hts : ∀ w ∈ lw_all, w.before _ s = true := fun w h => hts w (List.mem_cons_of_mem _ h)
  have hown : s.vm.findClass RX3 = some m.cls := findClass_of_methodNamed B.named
  have hlocks := B.notSynchronized
  have hS : va_S (Af κ) s.heap s.heap [] := va_S.rf
  have hl := lv_entry ([.ref q]) (n := 1) (Nat.le_of_ble_eq_true rfl)
  rw [lg_entry_eq]
  generalize (lg_sl ([.ref q]) ++ List.replicate (1 - (lg_sl ([.ref q])).length) Slot.unset).toArray = ls at hl ⊢
  have hl : lv_has ls 1 [(0, .ref q)] := hl
  refine lv_aload_n hx hb dX3_init_0 rfl (lv_at hl 0 rfl) ?_
  refine va_callv (va_runIN (As := []) (rest := []) ⟨hx, hb, hml, hown, hts⟩ (m_X2_init0 (X := xl X [])) ⟨va_cnB 0 hts (lw_meth q167) rfl rfl rfl (hK.2.1.1 _ (List.mem_of_getElem? (i := 11) rfl)) (hts _ q78) (by decide +kernel) ⟨Nat.le_of_ble_eq_true rfl, Nat.le_of_ble_eq_true rfl⟩, rfl, hts _ q166⟩ ⟨RC.blind, RC.pre hR hK⟩ rfl rfl hl.1 rfl (lv_room (Nat.le_of_ble_eq_true rfl)) dX3_init_1 ⟨Nat.le_of_ble_eq_true rfl, Nat.le_of_ble_eq_true rfl⟩) hS (fun _ _ h => h) (fun _ h => h) (fun u t H1 locs1 ht _ hp hB hz _ hS => ?_)
  rw [ht] at hB
  have hR := hR.up hB
  exact W.vret hx hb hr (fun t ht hW9 => ⟨⟨(), rfl, trivial, rpt ht hR⟩, hS.F ht⟩) hS.2.2 dX3_init_4
theorem hd_X1_init : yX1_init.cls = RX1 ∧ yX1_init.cls ≠ "java/lang/invoke/MethodHandle" ∧ yX1_init.cls ≠ "java/lang/invoke/VarHandle" ∧ (parseMethodDescriptor yX1_init.desc).map (fun d => d.parameters.length) = some 0 := by decide +kernel
abbrev rm_X1_init : Room := { frames := 4, cells := 15, slots := 45, locals := 92 }
set_option maxHeartbeats 4000000 in
theorem m_X1_init {l : Launch} {κ : Kx} {w : Wd} {y : Ly} {X : XR} {q : Nat} (hX : X q (.inr (0, [.null, .null, .null, .null, .null, .null, .null, .null, .int 0, .int 0, .int 0, .int 0, .int 0, .int 0, .int 0, .long 0]))) : Met l yX1_init (ws_ yX1_init cX1_init 2 (Option.none : Option Jvm.ClassFile.FieldType)) rm_X1_init (va_Pc [.ref q] (RC κ w y X)) (va_Qv (fun _ : Nat × Nat × Nat × Nat × Nat × Nat × Nat × Nat × Nat × Nat × Nat × Nat => True) (fun u t => Rp κ w y (upX X q (.inr (0, [.ref u.1, .ref u.2.1, .ref u.2.2.1, .ref u.2.2.2.1, .ref u.2.2.2.2.1, .ref u.2.2.2.2.2.1, .ref u.2.2.2.2.2.2.1, .ref u.2.2.2.2.2.2.2.2.1, .int 0, .int 5, .int 0, .int 3, .int 0, .int 0, .int 0, .long 0]))) [(u.1, eL 0 (kA κ 1) 0), (u.2.1, eL 0 (kA κ 1) 0), (u.2.2.1, eL 0 (kA κ 1) 0), (u.2.2.2.1, .inl (kT κ 5, (3, .inr (.inr (.inr (.inr (va_up (va_up (va_up (fun _ => none) 0 (some u.2.2.2.2.2.2.2.2.2.1)) 1 (some u.2.2.2.2.2.2.2.2.2.2.1)) 2 (some u.2.2.2.2.2.2.2.2.2.2.2)))))))), (u.2.2.2.2.1, .inr (2, [.int 0])), (u.2.2.2.2.2.1, .inr (1, [.int 0])), (u.2.2.2.2.2.2.1, .inr (3, [.ref u.2.2.2.2.2.2.2.1, .int 0])), (u.2.2.2.2.2.2.2.1, .inr (1, [.int 0])), (u.2.2.2.2.2.2.2.2.1, .inr (4, [.int 0])), (u.2.2.2.2.2.2.2.2.2.1, .inr (5, [.int 100, .int 0, .int (-1), .int 0, .int 0, .int 0])), (u.2.2.2.2.2.2.2.2.2.2.1, .inr (5, [.int 10, .int 0, .int (-1), .int 0, .int 0, .int 0])), (u.2.2.2.2.2.2.2.2.2.2.2, .inr (5, [.int 2, .int 0, .int (-1), .int 0, .int 0, .int 0]))] t.heap) (Af κ)) 15 45 (Af κ) := by
  refine Met.ofW (cc := cX1_init) (maxL := 2) (ret := (Option.none : Option Jvm.ClassFile.FieldType)) (by decide) rfl ?_
  intro p e s m args below meth c s₁ B hml hv
  obtain ⟨rfl, hR, hK⟩ := hv
  have hx := B.exec
  have hb := B.bytes
  have hr := B.returns
  have hts := atoms_spec (ws := ws_ yX1_init cX1_init 2 (Option.none : Option Jvm.ClassFile.FieldType)) B.pre
  have hts : ∀ w ∈ lw_all, w.before _ s = true := fun w h => hts w (List.mem_cons_of_mem _ h)
  have hown : s.vm.findClass RX1 = some m.cls := findClass_of_methodNamed B.named
  have hlocks := B.notSynchronized
  have hS : va_S (Af κ) s.heap s.heap [] := va_S.rf
  have hl := lv_entry ([.ref q]) (n := 2) (Nat.le_of_ble_eq_true rfl)
  rw [lg_entry_eq]
  generalize (lg_sl ([.ref q]) ++ List.replicate (2 - (lg_sl ([.ref q])).length) Slot.unset).toArray = ls at hl ⊢
  have hl : lv_has ls 2 [(0, .ref q)] := hl
  have hin : meth.name = "<init>" := (name_of_methodNamed B.named B.method).1
  have hR := hR.toUp hX
  refine lv_aload_n hx hb dX1_init_0 rfl (lv_at hl 0 rfl) ?_
  refine W.objInit hx hb hown (hts _ q126) (hts _ q127) (hts _ q128) rfl (by rw [hml]; exact hl.1) rfl dX1_init_1 (Nat.le_of_ble_eq_true rfl) (Nat.le_of_ble_eq_true rfl) ?_
  refine W.eq (g2 := F0 m 4 ls []) rfl ?_
  refine lv_aload_n hx hb dX1_init_4 rfl (lv_at hl 0 rfl) ?_
  refine xa_new (C := RJ2) (T := TJ2) (N := 3) (ci := 16) (fs := [.int 0, .null, .int 0]) hx hb hts in_J2 tyJ2 tyJ2_ok hown q129 q130 q77 hK.1 hS rfl (fun j hj => by rcases (show j = 0 ∨ j = 1 ∨ j = 2 by omega) with rfl | rfl | rfl <;> rfl) (Nat.le_of_ble_eq_true rfl) (Nat.le_of_ble_eq_true rfl) dX1_init_5 (fun a1 H1 hq h1 hz ho hS => ?_)
  have hR := hR.newL hq h1 (by omega) ho
  clear hq h1 hz ho
  generalize H1 = H at hR hS ⊢
  have hR : Rp κ w y (upX X q (.inr (0, [.null, .null, .null, .null, .null, .null, .null, .null, .int 0, .int 0, .int 0, .int 0, .int 0, .int 0, .int 0, .long 0]))) [(a1, .inr (16, [.int 0, .null, .int 0]))] H := hR
  refine lv_dup hx hb dX1_init_8 rfl ?_
  refine va_callv (va_runI (As := []) (rest := [.ref a1, .ref q]) ⟨hx, hb, hml, hown, hts⟩ (m_J2_init (X := xl (upX X q (.inr (0, [.null, .null, .null, .null, .null, .null, .null, .null, .int 0, .int 0, .int 0, .int 0, .int 0, .int 0, .int 0, .long 0]))) [(a1, .inr (16, [.int 0, .null, .int 0]))]) (Or.inr ⟨0, rfl⟩)) (cwI 0 hts (lw_meth q133) rfl rfl rfl (hts _ q77) (hts _ q131) (hts _ q132) rfl (by decide +kernel) ⟨Nat.le_of_ble_eq_true rfl, Nat.le_of_ble_eq_true rfl⟩) ⟨RC.blind, RC.pre hR hK⟩ rfl rfl hl.1 rfl (lv_room (Nat.le_of_ble_eq_true rfl)) dX1_init_9 ⟨Nat.le_of_ble_eq_true rfl, Nat.le_of_ble_eq_true rfl⟩) hS (fun _ _ h => h) (fun _ h => h) (fun u2 t9 H locs ht9 _ hp9 hB9 hz9 _ hS => ?_)
  rw [ht9] at hB9
  have hR := hR.wroteL (t := 0) rfl hB9
  clear hp9 hz9 hB9
  have hR : Rp κ w y (upX X q (.inr (0, [.null, .null, .null, .null, .null, .null, .null, .null, .int 0, .int 0, .int 0, .int 0, .int 0, .int 0, .int 0, .long 0]))) [(a1, eL 0 (kA κ 1) 0)] H := hR
  refine xa_putF (T := TX1) (N := 16) hx hb hts in_X1 tyX1 tyX1_ok nmX1 hown hK.1 hS (hR.2.2.2.1 _ _ (upX_self _ _ _)).2.1 (hR.X (upX_self _ _ _)) rfl 0 (by decide) q247 rfl rfl hin rfl rfl rfl (Nat.le_of_ble_eq_true rfl) dX1_init_12 (fun H1 locs h1 hz ho hS => ?_)
  have hR := hR.putXL2 h1 hz ho
  clear h1 hz ho
  generalize H1 = H at hR hS ⊢
  have hR : Rp κ w y (upX X q (.inr (0, [.ref a1, .null, .null, .null, .null, .null, .null, .null, .int 0, .int 0, .int 0, .int 0, .int 0, .int 0, .int 0, .long 0]))) [(a1, eL 0 (kA κ 1) 0)] H := hR
  refine lv_aload_n hx hb dX1_init_15 rfl (lv_at hl 0 rfl) ?_
  refine xa_new (C := RJ2) (T := TJ2) (N := 3) (ci := 16) (fs := [.int 0, .null, .int 0]) hx hb hts in_J2 tyJ2 tyJ2_ok hown q129 q130 q77 hK.1 hS rfl (fun j hj => by rcases (show j = 0 ∨ j = 1 ∨ j = 2 by omega) with rfl | rfl | rfl <;> rfl) (Nat.le_of_ble_eq_true rfl) (Nat.le_of_ble_eq_true rfl) dX1_init_16 (fun a3 H1 hq h1 hz ho hS => ?_)
  have hR := hR.newL hq h1 (by omega) ho
  clear hq h1 hz ho
  generalize H1 = H at hR hS ⊢
  have hR : Rp κ w y (upX X q (.inr (0, [.ref a1, .null, .null, .null, .null, .null, .null, .null, .int 0, .int 0, .int 0, .int 0, .int 0, .int 0, .int 0, .long 0]))) [(a1, eL 0 (kA κ 1) 0), (a3, .inr (16, [.int 0, .null, .int 0]))] H := hR
  refine lv_dup hx hb dX1_init_19 rfl ?_
  refine va_callv (va_runI (As := []) (rest := [.ref a3, .ref q]) ⟨hx, hb, hml, hown, hts⟩ (m_J2_init (X := xl (upX X q (.inr (0, [.ref a1, .null, .null, .null, .null, .null, .null, .null, .int 0, .int 0, .int 0, .int 0, .int 0, .int 0, .int 0, .long 0]))) [(a1, eL 0 (kA κ 1) 0), (a3, .inr (16, [.int 0, .null, .int 0]))]) (Or.inr ⟨1, rfl⟩)) (cwI 0 hts (lw_meth q133) rfl rfl rfl (hts _ q77) (hts _ q131) (hts _ q132) rfl (by decide +kernel) ⟨Nat.le_of_ble_eq_true rfl, Nat.le_of_ble_eq_true rfl⟩) ⟨RC.blind, RC.pre hR hK⟩ rfl rfl hl.1 rfl (lv_room (Nat.le_of_ble_eq_true rfl)) dX1_init_20 ⟨Nat.le_of_ble_eq_true rfl, Nat.le_of_ble_eq_true rfl⟩) hS (fun _ _ h => h) (fun _ h => h) (fun u4 t9 H locs ht9 _ hp9 hB9 hz9 _ hS => ?_)
  rw [ht9] at hB9
  have hR := hR.wroteL (t := 1) rfl hB9
  clear hp9 hz9 hB9
  have hR : Rp κ w y (upX X q (.inr (0, [.ref a1, .null, .null, .null, .null, .null, .null, .null, .int 0, .int 0, .int 0, .int 0, .int 0, .int 0, .int 0, .long 0]))) [(a1, eL 0 (kA κ 1) 0), (a3, eL 0 (kA κ 1) 0)] H := hR
  refine xa_putF (T := TX1) (N := 16) hx hb hts in_X1 tyX1 tyX1_ok nmX1 hown hK.1 hS (hR.2.2.2.1 _ _ (upX_self _ _ _)).2.1 (hR.X (upX_self _ _ _)) rfl 1 (by decide) q248 rfl rfl hin rfl rfl rfl (Nat.le_of_ble_eq_true rfl) dX1_init_23 (fun H1 locs h1 hz ho hS => ?_)
  have hR := hR.putXL2 h1 hz ho
  clear h1 hz ho
  generalize H1 = H at hR hS ⊢
  have hR : Rp κ w y (upX X q (.inr (0, [.ref a1, .ref a3, .null, .null, .null, .null, .null, .null, .int 0, .int 0, .int 0, .int 0, .int 0, .int 0, .int 0, .long 0]))) [(a1, eL 0 (kA κ 1) 0), (a3, eL 0 (kA κ 1) 0)] H := hR
  refine lv_aload_n hx hb dX1_init_26 rfl (lv_at hl 0 rfl) ?_
  refine xa_new (C := RJ2) (T := TJ2) (N := 3) (ci := 16) (fs := [.int 0, .null, .int 0]) hx hb hts in_J2 tyJ2 tyJ2_ok hown q129 q130 q77 hK.1 hS rfl (fun j hj => by rcases (show j = 0 ∨ j = 1 ∨ j = 2 by omega) with rfl | rfl | rfl <;> rfl) (Nat.le_of_ble_eq_true rfl) (Nat.le_of_ble_eq_true rfl) dX1_init_27 (fun a5 H1 hq h1 hz ho hS => ?_)
  have hR := hR.newL hq h1 (by omega) ho
  clear hq h1 hz ho
  generalize H1 = H at hR hS ⊢
  have hR : Rp κ w y (upX X q (.inr (0, [.ref a1, .ref a3, .null, .null, .null, .null, .null, .null, .int 0, .int 0, .int 0, .int 0, .int 0, .int 0, .int 0, .long 0]))) [(a1, eL 0 (kA κ 1) 0), (a3, eL 0 (kA κ 1) 0), (a5, .inr (16, [.int 0, .null, .int 0]))] H := hR
  refine lv_dup hx hb dX1_init_30 rfl ?_
  refine va_callv (va_runI (As := []) (rest := [.ref a5, .ref q]) ⟨hx, hb, hml, hown, hts⟩ (m_J2_init (X := xl (upX X q (.inr (0, [.ref a1, .ref a3, .null, .null, .null, .null, .null, .null, .int 0, .int 0, .int 0, .int 0, .int 0, .int 0, .int 0, .long 0]))) [(a1, eL 0 (kA κ 1) 0), (a3, eL 0 (kA κ 1) 0), (a5, .inr (16, [.int 0, .null, .int 0]))]) (Or.inr ⟨2, rfl⟩)) (cwI 0 hts (lw_meth q133) rfl rfl rfl (hts _ q77) (hts _ q131) (hts _ q132) rfl (by decide +kernel) ⟨Nat.le_of_ble_eq_true rfl, Nat.le_of_ble_eq_true rfl⟩) ⟨RC.blind, RC.pre hR hK⟩ rfl rfl hl.1 rfl (lv_room (Nat.le_of_ble_eq_true rfl)) dX1_init_31 ⟨Nat.le_of_ble_eq_true rfl, Nat.le_of_ble_eq_true rfl⟩) hS (fun _ _ h => h) (fun _ h => h) (fun u6 t9 H locs ht9 _ hp9 hB9 hz9 _ hS => ?_)
  rw [ht9] at hB9
  have hR := hR.wroteL (t := 2) rfl hB9
  clear hp9 hz9 hB9
  have hR : Rp κ w y (upX X q (.inr (0, [.ref a1, .ref a3, .null, .null, .null, .null, .null, .null, .int 0, .int 0, .int 0, .int 0, .int 0, .int 0, .int 0, .long 0]))) [(a1, eL 0 (kA κ 1) 0), (a3, eL 0 (kA κ 1) 0), (a5, eL 0 (kA κ 1) 0)] H := hR
  refine xa_putF (T := TX1) (N := 16) hx hb hts in_X1 tyX1 tyX1_ok nmX1 hown hK.1 hS (hR.2.2.2.1 _ _ (upX_self _ _ _)).2.1 (hR.X (upX_self _ _ _)) rfl 2 (by decide) q249 rfl rfl hin rfl rfl rfl (Nat.le_of_ble_eq_true rfl) dX1_init_34 (fun H1 locs h1 hz ho hS => ?_)
  have hR := hR.putXL2 h1 hz ho
  clear h1 hz ho
  generalize H1 = H at hR hS ⊢
  have hR : Rp κ w y (upX X q (.inr (0, [.ref a1, .ref a3, .ref a5, .null, .null, .null, .null, .null, .int 0, .int 0, .int 0, .int 0, .int 0, .int 0, .int 0, .long 0]))) [(a1, eL 0 (kA κ 1) 0), (a3, eL 0 (kA κ 1) 0), (a5, eL 0 (kA κ 1) 0)] H := hR
  refine lv_aload_n hx hb dX1_init_37 rfl (lv_at hl 0 rfl) ?_
  refine lv_iconst (v := 3) hx hb dX1_init_38 (by decide) ?_
  refine xa_anew (N' := 3) hx hb hts hown q158 hK.2.1.2.2.2.2.2.1.1 hK.1 5 rfl hS (by decide) (by decide) (by decide) (Nat.le_of_ble_eq_true rfl) (Nat.le_of_ble_eq_true rfl) dX1_init_39 (fun a7 H1 hq h1 hz ho hS => ?_)
  have hR := hR.newL hq h1 (by omega) ho
  clear hq h1 hz ho
  generalize H1 = H at hR hS ⊢
  have hR : Rp κ w y (upX X q (.inr (0, [.ref a1, .ref a3, .ref a5, .null, .null, .null, .null, .null, .int 0, .int 0, .int 0, .int 0, .int 0, .int 0, .int 0, .long 0]))) [(a1, eL 0 (kA κ 1) 0), (a3, eL 0 (kA κ 1) 0), (a5, eL 0 (kA κ 1) 0), (a7, .inl (kT κ 5, (3, .inr (.inr (.inr (.inr (fun _ => none)))))))] H := hR
  refine xa_putF (T := TX1) (N := 16) hx hb hts in_X1 tyX1 tyX1_ok nmX1 hown hK.1 hS (hR.2.2.2.1 _ _ (upX_self _ _ _)).2.1 (hR.X (upX_self _ _ _)) rfl 3 (by decide) q250 rfl rfl hin rfl rfl rfl (Nat.le_of_ble_eq_true rfl) dX1_init_42 (fun H1 locs h1 hz ho hS => ?_)
  have hR := hR.putXL2 h1 hz ho
  clear h1 hz ho
  generalize H1 = H at hR hS ⊢
  have hR : Rp κ w y (upX X q (.inr (0, [.ref a1, .ref a3, .ref a5, .ref a7, .null, .null, .null, .null, .int 0, .int 0, .int 0, .int 0, .int 0, .int 0, .int 0, .long 0]))) [(a1, eL 0 (kA κ 1) 0), (a3, eL 0 (kA κ 1) 0), (a5, eL 0 (kA κ 1) 0), (a7, .inl (kT κ 5, (3, .inr (.inr (.inr (.inr (fun _ => none)))))))] H := hR
  refine lv_aload_n hx hb dX1_init_45 rfl (lv_at hl 0 rfl) ?_
  refine xa_new (C := RX3) (T := TX3) (N := 1) (ci := 2) (fs := [.int 0]) hx hb hts in_X3 tyX3 tyX3_ok hown q160 q161 q79 hK.1 hS rfl (fun j hj => by rcases (show j = 0 by omega) with rfl <;> rfl) (Nat.le_of_ble_eq_true rfl) (Nat.le_of_ble_eq_true rfl) dX1_init_46 (fun a8 H1 hq h1 hz ho hS => ?_)
  have hR := hR.newL hq h1 (by omega) ho
  clear hq h1 hz ho
  generalize H1 = H at hR hS ⊢
  have hR : Rp κ w y (upX X q (.inr (0, [.ref a1, .ref a3, .ref a5, .ref a7, .null, .null, .null, .null, .int 0, .int 0, .int 0, .int 0, .int 0, .int 0, .int 0, .long 0]))) [(a1, eL 0 (kA κ 1) 0), (a3, eL 0 (kA κ 1) 0), (a5, eL 0 (kA κ 1) 0), (a7, .inl (kT κ 5, (3, .inr (.inr (.inr (.inr (fun _ => none))))))), (a8, .inr (2, [.int 0]))] H := hR
  refine lv_dup hx hb dX1_init_49 rfl ?_
  refine va_callv (va_runIN (As := []) (rest := [.ref a8, .ref q]) ⟨hx, hb, hml, hown, hts⟩ (m_X3_init (X := xl (upX X q (.inr (0, [.ref a1, .ref a3, .ref a5, .ref a7, .null, .null, .null, .null, .int 0, .int 0, .int 0, .int 0, .int 0, .int 0, .int 0, .long 0]))) [(a1, eL 0 (kA κ 1) 0), (a3, eL 0 (kA κ 1) 0), (a5, eL 0 (kA κ 1) 0), (a7, .inl (kT κ 5, (3, .inr (.inr (.inr (.inr (fun _ => none))))))), (a8, .inr (2, [.int 0]))])) ⟨va_cnB 0 hts (lw_meth q164) rfl rfl rfl (hK.2.1.1 _ (List.mem_of_getElem? (i := 1) rfl)) (hts _ q79) (by decide +kernel) ⟨Nat.le_of_ble_eq_true rfl, Nat.le_of_ble_eq_true rfl⟩, rfl, hts _ q163⟩ ⟨RC.blind, RC.pre hR hK⟩ rfl rfl hl.1 rfl (lv_room (Nat.le_of_ble_eq_true rfl)) dX1_init_50 ⟨Nat.le_of_ble_eq_true rfl, Nat.le_of_ble_eq_true rfl⟩) hS (fun _ _ h => h) (fun _ h => h) (fun u9 t9 H locs ht9 _ hp9 hB9 hz9 _ hS => ?_)
  rw [ht9] at hB9
  have hR := hR.up hB9
  clear hp9 hz9 hB9
  have hR : Rp κ w y (upX X q (.inr (0, [.ref a1, .ref a3, .ref a5, .ref a7, .null, .null, .null, .null, .int 0, .int 0, .int 0, .int 0, .int 0, .int 0, .int 0, .long 0]))) [(a1, eL 0 (kA κ 1) 0), (a3, eL 0 (kA κ 1) 0), (a5, eL 0 (kA κ 1) 0), (a7, .inl (kT κ 5, (3, .inr (.inr (.inr (.inr (fun _ => none))))))), (a8, .inr (2, [.int 0]))] H := hR
  refine xa_putF (T := TX1) (N := 16) hx hb hts in_X1 tyX1 tyX1_ok nmX1 hown hK.1 hS (hR.2.2.2.1 _ _ (upX_self _ _ _)).2.1 (hR.X (upX_self _ _ _)) rfl 4 (by decide) q251 rfl rfl hin rfl rfl rfl (Nat.le_of_ble_eq_true rfl) dX1_init_53 (fun H1 locs h1 hz ho hS => ?_)
  have hR := hR.putXL2 h1 hz ho
  clear h1 hz ho
  generalize H1 = H at hR hS ⊢
  have hR : Rp κ w y (upX X q (.inr (0, [.ref a1, .ref a3, .ref a5, .ref a7, .ref a8, .null, .null, .null, .int 0, .int 0, .int 0, .int 0, .int 0, .int 0, .int 0, .long 0]))) [(a1, eL 0 (kA κ 1) 0), (a3, eL 0 (kA κ 1) 0), (a5, eL 0 (kA κ 1) 0), (a7, .inl (kT κ 5, (3, .inr (.inr (.inr (.inr (fun _ => none))))))), (a8, .inr (2, [.int 0]))] H := hR
  refine lv_aload_n hx hb dX1_init_56 rfl (lv_at hl 0 rfl) ?_
  refine xa_new (C := RX2) (T := TX2) (N := 1) (ci := 1) (fs := [.int 0]) hx hb hts in_X2 tyX2 tyX2_ok hown q173 q174 q78 hK.1 hS rfl (fun j hj => by rcases (show j = 0 by omega) with rfl <;> rfl) (Nat.le_of_ble_eq_true rfl) (Nat.le_of_ble_eq_true rfl) dX1_init_57 (fun a10 H1 hq h1 hz ho hS => ?_)
  have hR := hR.newL hq h1 (by omega) ho
  clear hq h1 hz ho
  generalize H1 = H at hR hS ⊢
  have hR : Rp κ w y (upX X q (.inr (0, [.ref a1, .ref a3, .ref a5, .ref a7, .ref a8, .null, .null, .null, .int 0, .int 0, .int 0, .int 0, .int 0, .int 0, .int 0, .long 0]))) [(a1, eL 0 (kA κ 1) 0), (a3, eL 0 (kA κ 1) 0), (a5, eL 0 (kA κ 1) 0), (a7, .inl (kT κ 5, (3, .inr (.inr (.inr (.inr (fun _ => none))))))), (a8, .inr (2, [.int 0])), (a10, .inr (1, [.int 0]))] H := hR
  refine lv_dup hx hb dX1_init_60 rfl ?_
  refine va_callv (va_runIN (As := []) (rest := [.ref a10, .ref q]) ⟨hx, hb, hml, hown, hts⟩ (m_X2_init (X := xl (upX X q (.inr (0, [.ref a1, .ref a3, .ref a5, .ref a7, .ref a8, .null, .null, .null, .int 0, .int 0, .int 0, .int 0, .int 0, .int 0, .int 0, .long 0]))) [(a1, eL 0 (kA κ 1) 0), (a3, eL 0 (kA κ 1) 0), (a5, eL 0 (kA κ 1) 0), (a7, .inl (kT κ 5, (3, .inr (.inr (.inr (.inr (fun _ => none))))))), (a8, .inr (2, [.int 0])), (a10, .inr (1, [.int 0]))]) (Or.inr ⟨5, rfl⟩)) ⟨va_cnB 0 hts (lw_meth q167) rfl rfl rfl (hK.2.1.1 _ (List.mem_of_getElem? (i := 2) rfl)) (hts _ q78) (by decide +kernel) ⟨Nat.le_of_ble_eq_true rfl, Nat.le_of_ble_eq_true rfl⟩, rfl, hts _ q166⟩ ⟨RC.blind, RC.pre hR hK⟩ rfl rfl hl.1 rfl (lv_room (Nat.le_of_ble_eq_true rfl)) dX1_init_61 ⟨Nat.le_of_ble_eq_true rfl, Nat.le_of_ble_eq_true rfl⟩) hS (fun _ _ h => h) (fun _ h => h) (fun u11 t9 H locs ht9 _ hp9 hB9 hz9 _ hS => ?_)
  rw [ht9] at hB9
  have hR := hR.up hB9
  clear hp9 hz9 hB9
  have hR : Rp κ w y (upX X q (.inr (0, [.ref a1, .ref a3, .ref a5, .ref a7, .ref a8, .null, .null, .null, .int 0, .int 0, .int 0, .int 0, .int 0, .int 0, .int 0, .long 0]))) [(a1, eL 0 (kA κ 1) 0), (a3, eL 0 (kA κ 1) 0), (a5, eL 0 (kA κ 1) 0), (a7, .inl (kT κ 5, (3, .inr (.inr (.inr (.inr (fun _ => none))))))), (a8, .inr (2, [.int 0])), (a10, .inr (1, [.int 0]))] H := hR
  refine xa_putF (T := TX1) (N := 16) hx hb hts in_X1 tyX1 tyX1_ok nmX1 hown hK.1 hS (hR.2.2.2.1 _ _ (upX_self _ _ _)).2.1 (hR.X (upX_self _ _ _)) rfl 5 (by decide) q252 rfl rfl hin rfl rfl rfl (Nat.le_of_ble_eq_true rfl) dX1_init_64 (fun H1 locs h1 hz ho hS => ?_)
  have hR := hR.putXL2 h1 hz ho
  clear h1 hz ho
  generalize H1 = H at hR hS ⊢
  have hR : Rp κ w y (upX X q (.inr (0, [.ref a1, .ref a3, .ref a5, .ref a7, .ref a8, .ref a10, .null, .null, .int 0, .int 0, .int 0, .int 0, .int 0, .int 0, .int 0, .long 0]))) [(a1, eL 0 (kA κ 1) 0), (a3, eL 0 (kA κ 1) 0), (a5, eL 0 (kA κ 1) 0), (a7, .inl (kT κ 5, (3, .inr (.inr (.inr (.inr (fun _ => none))))))), (a8, .inr (2, [.int 0])), (a10, .inr (1, [.int 0]))] H := hR
  refine lv_aload_n hx hb dX1_init_67 rfl (lv_at hl 0 rfl) ?_
  refine xa_new (C := RX4) (T := TX4) (N := 2) (ci := 3) (fs := [.null, .int 0]) hx hb hts in_X4 tyX4 tyX4_ok hown q178 q179 q80 hK.1 hS rfl (fun j hj => by rcases (show j = 0 ∨ j = 1 by omega) with rfl | rfl <;> rfl) (Nat.le_of_ble_eq_true rfl) (Nat.le_of_ble_eq_true rfl) dX1_init_68 (fun a12 H1 hq h1 hz ho hS => ?_)
  have hR := hR.newL hq h1 (by omega) ho
  clear hq h1 hz ho
  generalize H1 = H at hR hS ⊢
  have hR : Rp κ w y (upX X q (.inr (0, [.ref a1, .ref a3, .ref a5, .ref a7, .ref a8, .ref a10, .null, .null, .int 0, .int 0, .int 0, .int 0, .int 0, .int 0, .int 0, .long 0]))) [(a1, eL 0 (kA κ 1) 0), (a3, eL 0 (kA κ 1) 0), (a5, eL 0 (kA κ 1) 0), (a7, .inl (kT κ 5, (3, .inr (.inr (.inr (.inr (fun _ => none))))))), (a8, .inr (2, [.int 0])), (a10, .inr (1, [.int 0])), (a12, .inr (3, [.null, .int 0]))] H := hR
  refine lv_dup hx hb dX1_init_71 rfl ?_
  refine va_callv (va_runIN (As := []) (rest := [.ref a12, .ref q]) ⟨hx, hb, hml, hown, hts⟩ (m_X4_init (X := xl (upX X q (.inr (0, [.ref a1, .ref a3, .ref a5, .ref a7, .ref a8, .ref a10, .null, .null, .int 0, .int 0, .int 0, .int 0, .int 0, .int 0, .int 0, .long 0]))) [(a1, eL 0 (kA κ 1) 0), (a3, eL 0 (kA κ 1) 0), (a5, eL 0 (kA κ 1) 0), (a7, .inl (kT κ 5, (3, .inr (.inr (.inr (.inr (fun _ => none))))))), (a8, .inr (2, [.int 0])), (a10, .inr (1, [.int 0])), (a12, .inr (3, [.null, .int 0]))]) (Or.inr ⟨6, rfl⟩)) ⟨va_cnB 0 hts (lw_meth q182) rfl rfl rfl (hK.2.1.1 _ (List.mem_of_getElem? (i := 3) rfl)) (hts _ q80) (by decide +kernel) ⟨Nat.le_of_ble_eq_true rfl, Nat.le_of_ble_eq_true rfl⟩, rfl, hts _ q181⟩ ⟨RC.blind, RC.pre hR hK⟩ rfl rfl hl.1 rfl (lv_room (Nat.le_of_ble_eq_true rfl)) dX1_init_72 ⟨Nat.le_of_ble_eq_true rfl, Nat.le_of_ble_eq_true rfl⟩) hS (fun _ _ h => h) (fun _ h => h) (fun u13 t9 H locs ht9 _ hp9 hB9 hz9 _ hS => ?_)
  rw [ht9] at hB9
  have hR := hR.wroteLs (t := 6) rfl hB9
  clear hp9 hz9 hB9
  have hR : Rp κ w y (upX X q (.inr (0, [.ref a1, .ref a3, .ref a5, .ref a7, .ref a8, .ref a10, .null, .null, .int 0, .int 0, .int 0, .int 0, .int 0, .int 0, .int 0, .long 0]))) [(a1, eL 0 (kA κ 1) 0), (a3, eL 0 (kA κ 1) 0), (a5, eL 0 (kA κ 1) 0), (a7, .inl (kT κ 5, (3, .inr (.inr (.inr (.inr (fun _ => none))))))), (a8, .inr (2, [.int 0])), (a10, .inr (1, [.int 0])), (a12, .inr (3, [.ref u13, .int 0])), (u13, .inr (1, [.int 0]))] H := hR
  refine xa_putF (T := TX1) (N := 16) hx hb hts in_X1 tyX1 tyX1_ok nmX1 hown hK.1 hS (hR.2.2.2.1 _ _ (upX_self _ _ _)).2.1 (hR.X (upX_self _ _ _)) rfl 6 (by decide) q253 rfl rfl hin rfl rfl rfl (Nat.le_of_ble_eq_true rfl) dX1_init_75 (fun H1 locs h1 hz ho hS => ?_)
  have hR := hR.putXL2 h1 hz ho
  clear h1 hz ho
  generalize H1 = H at hR hS ⊢
  have hR : Rp κ w y (upX X q (.inr (0, [.ref a1, .ref a3, .ref a5, .ref a7, .ref a8, .ref a10, .ref a12, .null, .int 0, .int 0, .int 0, .int 0, .int 0, .int 0, .int 0, .long 0]))) [(a1, eL 0 (kA κ 1) 0), (a3, eL 0 (kA κ 1) 0), (a5, eL 0 (kA κ 1) 0), (a7, .inl (kT κ 5, (3, .inr (.inr (.inr (.inr (fun _ => none))))))), (a8, .inr (2, [.int 0])), (a10, .inr (1, [.int 0])), (a12, .inr (3, [.ref u13, .int 0])), (u13, .inr (1, [.int 0]))] H := hR
  refine lv_aload_n hx hb dX1_init_78 rfl (lv_at hl 0 rfl) ?_
  refine xa_new (C := RX5) (T := TX5) (N := 1) (ci := 4) (fs := [.int 0]) hx hb hts in_X5 tyX5 tyX5_ok hown q195 q196 q81 hK.1 hS rfl (fun j hj => by rcases (show j = 0 by omega) with rfl <;> rfl) (Nat.le_of_ble_eq_true rfl) (Nat.le_of_ble_eq_true rfl) dX1_init_79 (fun a14 H1 hq h1 hz ho hS => ?_)
  have hR := hR.newL hq h1 (by omega) ho
  clear hq h1 hz ho
  generalize H1 = H at hR hS ⊢
  have hR : Rp κ w y (upX X q (.inr (0, [.ref a1, .ref a3, .ref a5, .ref a7, .ref a8, .ref a10, .ref a12, .null, .int 0, .int 0, .int 0, .int 0, .int 0, .int 0, .int 0, .long 0]))) [(a1, eL 0 (kA κ 1) 0), (a3, eL 0 (kA κ 1) 0), (a5, eL 0 (kA κ 1) 0), (a7, .inl (kT κ 5, (3, .inr (.inr (.inr (.inr (fun _ => none))))))), (a8, .inr (2, [.int 0])), (a10, .inr (1, [.int 0])), (a12, .inr (3, [.ref u13, .int 0])), (u13, .inr (1, [.int 0])), (a14, .inr (4, [.int 0]))] H := hR
  refine lv_dup hx hb dX1_init_82 rfl ?_
  refine va_callv (va_runIN (As := []) (rest := [.ref a14, .ref q]) ⟨hx, hb, hml, hown, hts⟩ (m_X5_init (X := xl (upX X q (.inr (0, [.ref a1, .ref a3, .ref a5, .ref a7, .ref a8, .ref a10, .ref a12, .null, .int 0, .int 0, .int 0, .int 0, .int 0, .int 0, .int 0, .long 0]))) [(a1, eL 0 (kA κ 1) 0), (a3, eL 0 (kA κ 1) 0), (a5, eL 0 (kA κ 1) 0), (a7, .inl (kT κ 5, (3, .inr (.inr (.inr (.inr (fun _ => none))))))), (a8, .inr (2, [.int 0])), (a10, .inr (1, [.int 0])), (a12, .inr (3, [.ref u13, .int 0])), (u13, .inr (1, [.int 0])), (a14, .inr (4, [.int 0]))]) (Or.inr ⟨8, rfl⟩)) ⟨va_cnB 0 hts (lw_meth q199) rfl rfl rfl (hK.2.1.1 _ (List.mem_of_getElem? (i := 4) rfl)) (hts _ q81) (by decide +kernel) ⟨Nat.le_of_ble_eq_true rfl, Nat.le_of_ble_eq_true rfl⟩, rfl, hts _ q198⟩ ⟨RC.blind, RC.pre hR hK⟩ rfl rfl hl.1 rfl (lv_room (Nat.le_of_ble_eq_true rfl)) dX1_init_83 ⟨Nat.le_of_ble_eq_true rfl, Nat.le_of_ble_eq_true rfl⟩) hS (fun _ _ h => h) (fun _ h => h) (fun u15 t9 H locs ht9 _ hp9 hB9 hz9 _ hS => ?_)
  rw [ht9] at hB9
  have hR := hR.up hB9
  clear hp9 hz9 hB9
  have hR : Rp κ w y (upX X q (.inr (0, [.ref a1, .ref a3, .ref a5, .ref a7, .ref a8, .ref a10, .ref a12, .null, .int 0, .int 0, .int 0, .int 0, .int 0, .int 0, .int 0, .long 0]))) [(a1, eL 0 (kA κ 1) 0), (a3, eL 0 (kA κ 1) 0), (a5, eL 0 (kA κ 1) 0), (a7, .inl (kT κ 5, (3, .inr (.inr (.inr (.inr (fun _ => none))))))), (a8, .inr (2, [.int 0])), (a10, .inr (1, [.int 0])), (a12, .inr (3, [.ref u13, .int 0])), (u13, .inr (1, [.int 0])), (a14, .inr (4, [.int 0]))] H := hR
  refine xa_putF (T := TX1) (N := 16) hx hb hts in_X1 tyX1 tyX1_ok nmX1 hown hK.1 hS (hR.2.2.2.1 _ _ (upX_self _ _ _)).2.1 (hR.X (upX_self _ _ _)) rfl 7 (by decide) q254 rfl rfl hin rfl rfl rfl (Nat.le_of_ble_eq_true rfl) dX1_init_86 (fun H1 locs h1 hz ho hS => ?_)
  have hR := hR.putXL2 h1 hz ho
  clear h1 hz ho
  generalize H1 = H at hR hS ⊢
  have hR : Rp κ w y (upX X q (.inr (0, [.ref a1, .ref a3, .ref a5, .ref a7, .ref a8, .ref a10, .ref a12, .ref a14, .int 0, .int 0, .int 0, .int 0, .int 0, .int 0, .int 0, .long 0]))) [(a1, eL 0 (kA κ 1) 0), (a3, eL 0 (kA κ 1) 0), (a5, eL 0 (kA κ 1) 0), (a7, .inl (kT κ 5, (3, .inr (.inr (.inr (.inr (fun _ => none))))))), (a8, .inr (2, [.int 0])), (a10, .inr (1, [.int 0])), (a12, .inr (3, [.ref u13, .int 0])), (u13, .inr (1, [.int 0])), (a14, .inr (4, [.int 0]))] H := hR
  refine lv_aload_n hx hb dX1_init_89 rfl (lv_at hl 0 rfl) ?_
  refine lv_iconst (v := 5) hx hb dX1_init_90 (by decide) ?_
  refine xa_put (T := TX1) (N := 16) hx hb hts in_X1 tyX1 tyX1_ok nmX1 hown hK.1 hS (hR.2.2.2.1 _ _ (upX_self _ _ _)).2.1 (hR.X (upX_self _ _ _)) rfl 9 (by decide) q256 rfl rfl rfl rfl (Nat.le_of_ble_eq_true rfl) dX1_init_91 (fun H1 locs h1 hz ho hS => ?_)
  have hR := hR.putXL2 h1 hz ho
  clear h1 hz ho
  generalize H1 = H at hR hS ⊢
  have hR : Rp κ w y (upX X q (.inr (0, [.ref a1, .ref a3, .ref a5, .ref a7, .ref a8, .ref a10, .ref a12, .ref a14, .int 0, .int 5, .int 0, .int 0, .int 0, .int 0, .int 0, .long 0]))) [(a1, eL 0 (kA κ 1) 0), (a3, eL 0 (kA κ 1) 0), (a5, eL 0 (kA κ 1) 0), (a7, .inl (kT κ 5, (3, .inr (.inr (.inr (.inr (fun _ => none))))))), (a8, .inr (2, [.int 0])), (a10, .inr (1, [.int 0])), (a12, .inr (3, [.ref u13, .int 0])), (u13, .inr (1, [.int 0])), (a14, .inr (4, [.int 0]))] H := hR
  refine lv_aload_n hx hb dX1_init_94 rfl (lv_at hl 0 rfl) ?_
  refine lv_iconst (v := 3) hx hb dX1_init_95 (by decide) ?_
  refine xa_put (T := TX1) (N := 16) hx hb hts in_X1 tyX1 tyX1_ok nmX1 hown hK.1 hS (hR.2.2.2.1 _ _ (upX_self _ _ _)).2.1 (hR.X (upX_self _ _ _)) rfl 11 (by decide) q258 rfl rfl rfl rfl (Nat.le_of_ble_eq_true rfl) dX1_init_96 (fun H1 locs h1 hz ho hS => ?_)
  have hR := hR.putXL2 h1 hz ho
  clear h1 hz ho
  generalize H1 = H at hR hS ⊢
  have hR : Rp κ w y (upX X q (.inr (0, [.ref a1, .ref a3, .ref a5, .ref a7, .ref a8, .ref a10, .ref a12, .ref a14, .int 0, .int 5, .int 0, .int 3, .int 0, .int 0, .int 0, .long 0]))) [(a1, eL 0 (kA κ 1) 0), (a3, eL 0 (kA κ 1) 0), (a5, eL 0 (kA κ 1) 0), (a7, .inl (kT κ 5, (3, .inr (.inr (.inr (.inr (fun _ => none))))))), (a8, .inr (2, [.int 0])), (a10, .inr (1, [.int 0])), (a12, .inr (3, [.ref u13, .int 0])), (u13, .inr (1, [.int 0])), (a14, .inr (4, [.int 0]))] H := hR
  refine lv_iconst (v := 0) hx hb dX1_init_99 (by decide) ?_
  refine lv_istore_n (lv' := [(1, .int 0), (0, .ref q)]) hx hb dX1_init_100 rfl hl (by decide) rfl (fun ls hl => ?_)
  refine lv_iload_n hx hb dX1_init_101 rfl (lv_at hl 0 rfl) ?_
  refine lv_iconst (v := 3) hx hb dX1_init_102 (by decide) ?_
  refine lv_icmp_ge (tgt := 133) hx hb dX1_init_103 (by decide) (fun c => absurd c (by decide)) (fun _ => ?_)
  refine W.eq (g2 := F0 m 106 ls []) rfl ?_
  refine lv_aload_n hx hb dX1_init_106 rfl (lv_at hl 1 rfl) ?_
  refine xa_get (T := TX1) (N := 16) (v := .ref a7) hx hb hts in_X1 hown hK.1 (hR.X (upX_self _ _ _)) rfl 3 (by decide) q250 rfl rfl dX1_init_107 ?_
  refine lv_iload_n hx hb dX1_init_110 rfl (lv_at hl 0 rfl) ?_
  refine xa_new (C := RX6) (T := TX6) (N := 6) (ci := 5) (fs := [.int 0, .int 0, .int 0, .int 0, .int 0, .int 0]) hx hb hts in_X6 tyX6 tyX6_ok hown q158 q205 q82 hK.1 hS rfl (fun j hj => by rcases (show j = 0 ∨ j = 1 ∨ j = 2 ∨ j = 3 ∨ j = 4 ∨ j = 5 by omega) with rfl | rfl | rfl | rfl | rfl | rfl <;> rfl) (Nat.le_of_ble_eq_true rfl) (Nat.le_of_ble_eq_true rfl) dX1_init_111 (fun a16 H1 hq h1 hz ho hS => ?_)
  have hR := hR.newL hq h1 (by omega) ho
  clear hq h1 hz ho
  generalize H1 = H at hR hS ⊢
  have hR : Rp κ w y (upX X q (.inr (0, [.ref a1, .ref a3, .ref a5, .ref a7, .ref a8, .ref a10, .ref a12, .ref a14, .int 0, .int 5, .int 0, .int 3, .int 0, .int 0, .int 0, .long 0]))) [(a1, eL 0 (kA κ 1) 0), (a3, eL 0 (kA κ 1) 0), (a5, eL 0 (kA κ 1) 0), (a7, .inl (kT κ 5, (3, .inr (.inr (.inr (.inr (fun _ => none))))))), (a8, .inr (2, [.int 0])), (a10, .inr (1, [.int 0])), (a12, .inr (3, [.ref u13, .int 0])), (u13, .inr (1, [.int 0])), (a14, .inr (4, [.int 0])), (a16, .inr (5, [.int 0, .int 0, .int 0, .int 0, .int 0, .int 0]))] H := hR
  refine lv_dup hx hb dX1_init_114 rfl ?_
  refine jr_values (rest := [.ref a16, .ref a16, .int 0, .ref a7]) ⟨hx, hb, hml, hown, hts⟩ hK hR hS q206 ⟨Nat.le_of_ble_eq_true rfl, Nat.le_of_ble_eq_true rfl⟩ hl.1 (Nat.le_of_ble_eq_true rfl) dX1_init_115 ⟨Nat.le_of_ble_eq_true rfl, Nat.le_of_ble_eq_true rfl⟩ (fun a17 H locs hR hS => ?_)
  have hR : Rp κ w y (upX X q (.inr (0, [.ref a1, .ref a3, .ref a5, .ref a7, .ref a8, .ref a10, .ref a12, .ref a14, .int 0, .int 5, .int 0, .int 3, .int 0, .int 0, .int 0, .long 0]))) [(a1, eL 0 (kA κ 1) 0), (a3, eL 0 (kA κ 1) 0), (a5, eL 0 (kA κ 1) 0), (a7, .inl (kT κ 5, (3, .inr (.inr (.inr (.inr (fun _ => none))))))), (a8, .inr (2, [.int 0])), (a10, .inr (1, [.int 0])), (a12, .inr (3, [.ref u13, .int 0])), (u13, .inr (1, [.int 0])), (a14, .inr (4, [.int 0])), (a16, .inr (5, [.int 0, .int 0, .int 0, .int 0, .int 0, .int 0])), (a17, dvC κ)] H := hR
  refine lv_iload_n hx hb dX1_init_118 rfl (lv_at hl 0 rfl) ?_
  refine xa_aald hx hb hK.1 (hR.L 10 _ rfl) 7 rfl (by unfold vp_in; decide) dX1_init_119 ?_
  refine jr_first (i := 0) hx hb hown hts hK hR (by decide) q2699 dX1_init_120 ?_
  refine va_callv (va_runI (As := [.int 100]) (rest := [.ref a16, .int 0, .ref a7]) ⟨hx, hb, hml, hown, hts⟩ (m_X6_init (X := xl (upX X q (.inr (0, [.ref a1, .ref a3, .ref a5, .ref a7, .ref a8, .ref a10, .ref a12, .ref a14, .int 0, .int 5, .int 0, .int 3, .int 0, .int 0, .int 0, .long 0]))) [(a1, eL 0 (kA κ 1) 0), (a3, eL 0 (kA κ 1) 0), (a5, eL 0 (kA κ 1) 0), (a7, .inl (kT κ 5, (3, .inr (.inr (.inr (.inr (fun _ => none))))))), (a8, .inr (2, [.int 0])), (a10, .inr (1, [.int 0])), (a12, .inr (3, [.ref u13, .int 0])), (u13, .inr (1, [.int 0])), (a14, .inr (4, [.int 0])), (a16, .inr (5, [.int 0, .int 0, .int 0, .int 0, .int 0, .int 0])), (a17, dvC κ)]) (Or.inr ⟨9, rfl⟩)) (cwI 1 hts (lw_meth q221) rfl rfl rfl (hts _ q82) (hts _ q219) (hts _ q220) rfl (by decide +kernel) ⟨Nat.le_of_ble_eq_true rfl, Nat.le_of_ble_eq_true rfl⟩) ⟨RC.blind, RC.pre hR hK⟩ rfl rfl hl.1 rfl (lv_room (Nat.le_of_ble_eq_true rfl)) dX1_init_123 ⟨Nat.le_of_ble_eq_true rfl, Nat.le_of_ble_eq_true rfl⟩) hS (fun _ _ h => h) (fun _ h => h) (fun u18 t9 H locs ht9 _ hp9 hB9 hz9 _ hS => ?_)
  rw [ht9] at hB9
  have hR := hR.wroteL (t := 9) rfl hB9
  clear hp9 hz9 hB9
  have hR : Rp κ w y (upX X q (.inr (0, [.ref a1, .ref a3, .ref a5, .ref a7, .ref a8, .ref a10, .ref a12, .ref a14, .int 0, .int 5, .int 0, .int 3, .int 0, .int 0, .int 0, .long 0]))) [(a1, eL 0 (kA κ 1) 0), (a3, eL 0 (kA κ 1) 0), (a5, eL 0 (kA κ 1) 0), (a7, .inl (kT κ 5, (3, .inr (.inr (.inr (.inr (fun _ => none))))))), (a8, .inr (2, [.int 0])), (a10, .inr (1, [.int 0])), (a12, .inr (3, [.ref u13, .int 0])), (u13, .inr (1, [.int 0])), (a14, .inr (4, [.int 0])), (a16, .inr (5, [.int 100, .int 0, .int (-1), .int 0, .int 0, .int 0])), (a17, dvC κ)] H := hR
  refine xa_aastS hx hb hK.1 hS (hR.LD.2 3 _ rfl) (hR.L 3 _ rfl) 5 rfl (hR.L 9 _ rfl) rfl (by unfold vp_in; decide) dX1_init_126 (fun H1 locs h1 hz ho hS => ?_)
  have hR := hR.putL (t := 3) rfl h1 hz ho
  clear h1 hz ho
  generalize H1 = H at hR hS ⊢
  have hR : Rp κ w y (upX X q (.inr (0, [.ref a1, .ref a3, .ref a5, .ref a7, .ref a8, .ref a10, .ref a12, .ref a14, .int 0, .int 5, .int 0, .int 3, .int 0, .int 0, .int 0, .long 0]))) [(a1, eL 0 (kA κ 1) 0), (a3, eL 0 (kA κ 1) 0), (a5, eL 0 (kA κ 1) 0), (a7, .inl (kT κ 5, (3, .inr (.inr (.inr (.inr (va_up (fun _ => none) 0 (some a16)))))))), (a8, .inr (2, [.int 0])), (a10, .inr (1, [.int 0])), (a12, .inr (3, [.ref u13, .int 0])), (u13, .inr (1, [.int 0])), (a14, .inr (4, [.int 0])), (a16, .inr (5, [.int 100, .int 0, .int (-1), .int 0, .int 0, .int 0])), (a17, dvC κ)] H := hR
  refine lv_iinc (v := 1) (lv' := [(1, .int 1), (0, .ref q)]) hx hb dX1_init_127 hl (k := 0) rfl (by decide) (by decide) rfl (fun ls hl => ?_)
  refine lv_goto (tgt := 101) hx hb dX1_init_130 (by decide) ?_
  refine W.eq (g2 := F0 m 101 ls []) rfl ?_
  refine lv_iload_n hx hb dX1_init_101 rfl (lv_at hl 0 rfl) ?_
  refine lv_iconst (v := 3) hx hb dX1_init_102 (by decide) ?_
  refine lv_icmp_ge (tgt := 133) hx hb dX1_init_103 (by decide) (fun c => absurd c (by decide)) (fun _ => ?_)
  refine W.eq (g2 := F0 m 106 ls []) rfl ?_
  refine lv_aload_n hx hb dX1_init_106 rfl (lv_at hl 1 rfl) ?_
  refine xa_get (T := TX1) (N := 16) (v := .ref a7) hx hb hts in_X1 hown hK.1 (hR.X (upX_self _ _ _)) rfl 3 (by decide) q250 rfl rfl dX1_init_107 ?_
  refine lv_iload_n hx hb dX1_init_110 rfl (lv_at hl 0 rfl) ?_
  refine xa_new (C := RX6) (T := TX6) (N := 6) (ci := 5) (fs := [.int 0, .int 0, .int 0, .int 0, .int 0, .int 0]) hx hb hts in_X6 tyX6 tyX6_ok hown q158 q205 q82 hK.1 hS rfl (fun j hj => by rcases (show j = 0 ∨ j = 1 ∨ j = 2 ∨ j = 3 ∨ j = 4 ∨ j = 5 by omega) with rfl | rfl | rfl | rfl | rfl | rfl <;> rfl) (Nat.le_of_ble_eq_true rfl) (Nat.le_of_ble_eq_true rfl) dX1_init_111 (fun a19 H1 hq h1 hz ho hS => ?_)
  have hR := hR.newL hq h1 (by omega) ho
  clear hq h1 hz ho
  generalize H1 = H at hR hS ⊢
  have hR : Rp κ w y (upX X q (.inr (0, [.ref a1, .ref a3, .ref a5, .ref a7, .ref a8, .ref a10, .ref a12, .ref a14, .int 0, .int 5, .int 0, .int 3, .int 0, .int 0, .int 0, .long 0]))) [(a1, eL 0 (kA κ 1) 0), (a3, eL 0 (kA κ 1) 0), (a5, eL 0 (kA κ 1) 0), (a7, .inl (kT κ 5, (3, .inr (.inr (.inr (.inr (va_up (fun _ => none) 0 (some a16)))))))), (a8, .inr (2, [.int 0])), (a10, .inr (1, [.int 0])), (a12, .inr (3, [.ref u13, .int 0])), (u13, .inr (1, [.int 0])), (a14, .inr (4, [.int 0])), (a16, .inr (5, [.int 100, .int 0, .int (-1), .int 0, .int 0, .int 0])), (a17, dvC κ), (a19, .inr (5, [.int 0, .int 0, .int 0, .int 0, .int 0, .int 0]))] H := hR
  refine lv_dup hx hb dX1_init_114 rfl ?_
  refine jr_values (rest := [.ref a19, .ref a19, .int 1, .ref a7]) ⟨hx, hb, hml, hown, hts⟩ hK hR hS q206 ⟨Nat.le_of_ble_eq_true rfl, Nat.le_of_ble_eq_true rfl⟩ hl.1 (Nat.le_of_ble_eq_true rfl) dX1_init_115 ⟨Nat.le_of_ble_eq_true rfl, Nat.le_of_ble_eq_true rfl⟩ (fun a20 H locs hR hS => ?_)
  have hR : Rp κ w y (upX X q (.inr (0, [.ref a1, .ref a3, .ref a5, .ref a7, .ref a8, .ref a10, .ref a12, .ref a14, .int 0, .int 5, .int 0, .int 3, .int 0, .int 0, .int 0, .long 0]))) [(a1, eL 0 (kA κ 1) 0), (a3, eL 0 (kA κ 1) 0), (a5, eL 0 (kA κ 1) 0), (a7, .inl (kT κ 5, (3, .inr (.inr (.inr (.inr (va_up (fun _ => none) 0 (some a16)))))))), (a8, .inr (2, [.int 0])), (a10, .inr (1, [.int 0])), (a12, .inr (3, [.ref u13, .int 0])), (u13, .inr (1, [.int 0])), (a14, .inr (4, [.int 0])), (a16, .inr (5, [.int 100, .int 0, .int (-1), .int 0, .int 0, .int 0])), (a17, dvC κ), (a19, .inr (5, [.int 0, .int 0, .int 0, .int 0, .int 0, .int 0])), (a20, dvC κ)] H := hR
  refine lv_iload_n hx hb dX1_init_118 rfl (lv_at hl 0 rfl) ?_
  refine xa_aald hx hb hK.1 (hR.L 12 _ rfl) 7 rfl (by unfold vp_in; decide) dX1_init_119 ?_
  refine jr_first (i := 1) hx hb hown hts hK hR (by decide) q2699 dX1_init_120 ?_
  refine va_callv (va_runI (As := [.int 10]) (rest := [.ref a19, .int 1, .ref a7]) ⟨hx, hb, hml, hown, hts⟩ (m_X6_init (X := xl (upX X q (.inr (0, [.ref a1, .ref a3, .ref a5, .ref a7, .ref a8, .ref a10, .ref a12, .ref a14, .int 0, .int 5, .int 0, .int 3, .int 0, .int 0, .int 0, .long 0]))) [(a1, eL 0 (kA κ 1) 0), (a3, eL 0 (kA κ 1) 0), (a5, eL 0 (kA κ 1) 0), (a7, .inl (kT κ 5, (3, .inr (.inr (.inr (.inr (va_up (fun _ => none) 0 (some a16)))))))), (a8, .inr (2, [.int 0])), (a10, .inr (1, [.int 0])), (a12, .inr (3, [.ref u13, .int 0])), (u13, .inr (1, [.int 0])), (a14, .inr (4, [.int 0])), (a16, .inr (5, [.int 100, .int 0, .int (-1), .int 0, .int 0, .int 0])), (a17, dvC κ), (a19, .inr (5, [.int 0, .int 0, .int 0, .int 0, .int 0, .int 0])), (a20, dvC κ)]) (Or.inr ⟨11, rfl⟩)) (cwI 1 hts (lw_meth q221) rfl rfl rfl (hts _ q82) (hts _ q219) (hts _ q220) rfl (by decide +kernel) ⟨Nat.le_of_ble_eq_true rfl, Nat.le_of_ble_eq_true rfl⟩) ⟨RC.blind, RC.pre hR hK⟩ rfl rfl hl.1 rfl (lv_room (Nat.le_of_ble_eq_true rfl)) dX1_init_123 ⟨Nat.le_of_ble_eq_true rfl, Nat.le_of_ble_eq_true rfl⟩) hS (fun _ _ h => h) (fun _ h => h) (fun u21 t9 H locs ht9 _ hp9 hB9 hz9 _ hS => ?_)
  rw [ht9] at hB9
  have hR := hR.wroteL (t := 11) rfl hB9
  clear hp9 hz9 hB9
  have hR : Rp κ w y (upX X q (.inr (0, [.ref a1, .ref a3, .ref a5, .ref a7, .ref a8, .ref a10, .ref a12, .ref a14, .int 0, .int 5, .int 0, .int 3, .int 0, .int 0, .int 0, .long 0]))) [(a1, eL 0 (kA κ 1) 0), (a3, eL 0 (kA κ 1) 0), (a5, eL 0 (kA κ 1) 0), (a7, .inl (kT κ 5, (3, .inr (.inr (.inr (.inr (va_up (fun _ => none) 0 (some a16)))))))), (a8, .inr (2, [.int 0])), (a10, .inr (1, [.int 0])), (a12, .inr (3, [.ref u13, .int 0])), (u13, .inr (1, [.int 0])), (a14, .inr (4, [.int 0])), (a16, .inr (5, [.int 100, .int 0, .int (-1), .int 0, .int 0, .int 0])), (a17, dvC κ), (a19, .inr (5, [.int 10, .int 0, .int (-1), .int 0, .int 0, .int 0])), (a20, dvC κ)] H := hR
  refine xa_aastS hx hb hK.1 hS (hR.LD.2 3 _ rfl) (hR.L 3 _ rfl) 5 rfl (hR.L 11 _ rfl) rfl (by unfold vp_in; decide) dX1_init_126 (fun H1 locs h1 hz ho hS => ?_)
  have hR := hR.putL (t := 3) rfl h1 hz ho
  clear h1 hz ho
  generalize H1 = H at hR hS ⊢
  have hR : Rp κ w y (upX X q (.inr (0, [.ref a1, .ref a3, .ref a5, .ref a7, .ref a8, .ref a10, .ref a12, .ref a14, .int 0, .int 5, .int 0, .int 3, .int 0, .int 0, .int 0, .long 0]))) [(a1, eL 0 (kA κ 1) 0), (a3, eL 0 (kA κ 1) 0), (a5, eL 0 (kA κ 1) 0), (a7, .inl (kT κ 5, (3, .inr (.inr (.inr (.inr (va_up (va_up (fun _ => none) 0 (some a16)) 1 (some a19)))))))), (a8, .inr (2, [.int 0])), (a10, .inr (1, [.int 0])), (a12, .inr (3, [.ref u13, .int 0])), (u13, .inr (1, [.int 0])), (a14, .inr (4, [.int 0])), (a16, .inr (5, [.int 100, .int 0, .int (-1), .int 0, .int 0, .int 0])), (a17, dvC κ), (a19, .inr (5, [.int 10, .int 0, .int (-1), .int 0, .int 0, .int 0])), (a20, dvC κ)] H := hR
  refine lv_iinc (v := 2) (lv' := [(1, .int 2), (0, .ref q)]) hx hb dX1_init_127 hl (k := 0) rfl (by decide) (by decide) rfl (fun ls hl => ?_)
  refine lv_goto (tgt := 101) hx hb dX1_init_130 (by decide) ?_
  refine W.eq (g2 := F0 m 101 ls []) rfl ?_
  refine lv_iload_n hx hb dX1_init_101 rfl (lv_at hl 0 rfl) ?_
  refine lv_iconst (v := 3) hx hb dX1_init_102 (by decide) ?_
  refine lv_icmp_ge (tgt := 133) hx hb dX1_init_103 (by decide) (fun c => absurd c (by decide)) (fun _ => ?_)
  refine W.eq (g2 := F0 m 106 ls []) rfl ?_
  refine lv_aload_n hx hb dX1_init_106 rfl (lv_at hl 1 rfl) ?_
  refine xa_get (T := TX1) (N := 16) (v := .ref a7) hx hb hts in_X1 hown hK.1 (hR.X (upX_self _ _ _)) rfl 3 (by decide) q250 rfl rfl dX1_init_107 ?_
  refine lv_iload_n hx hb dX1_init_110 rfl (lv_at hl 0 rfl) ?_
  refine xa_new (C := RX6) (T := TX6) (N := 6) (ci := 5) (fs := [.int 0, .int 0, .int 0, .int 0, .int 0, .int 0]) hx hb hts in_X6 tyX6 tyX6_ok hown q158 q205 q82 hK.1 hS rfl (fun j hj => by rcases (show j = 0 ∨ j = 1 ∨ j = 2 ∨ j = 3 ∨ j = 4 ∨ j = 5 by omega) with rfl | rfl | rfl | rfl | rfl | rfl <;> rfl) (Nat.le_of_ble_eq_true rfl) (Nat.le_of_ble_eq_true rfl) dX1_init_111 (fun a22 H1 hq h1 hz ho hS => ?_)
  have hR := hR.newL hq h1 (by omega) ho
  clear hq h1 hz ho
  generalize H1 = H at hR hS ⊢
  have hR : Rp κ w y (upX X q (.inr (0, [.ref a1, .ref a3, .ref a5, .ref a7, .ref a8, .ref a10, .ref a12, .ref a14, .int 0, .int 5, .int 0, .int 3, .int 0, .int 0, .int 0, .long 0]))) [(a1, eL 0 (kA κ 1) 0), (a3, eL 0 (kA κ 1) 0), (a5, eL 0 (kA κ 1) 0), (a7, .inl (kT κ 5, (3, .inr (.inr (.inr (.inr (va_up (va_up (fun _ => none) 0 (some a16)) 1 (some a19)))))))), (a8, .inr (2, [.int 0])), (a10, .inr (1, [.int 0])), (a12, .inr (3, [.ref u13, .int 0])), (u13, .inr (1, [.int 0])), (a14, .inr (4, [.int 0])), (a16, .inr (5, [.int 100, .int 0, .int (-1), .int 0, .int 0, .int 0])), (a17, dvC κ), (a19, .inr (5, [.int 10, .int 0, .int (-1), .int 0, .int 0, .int 0])), (a20, dvC κ), (a22, .inr (5, [.int 0, .int 0, .int 0, .int 0, .int 0, .int 0]))] H := hR
  refine lv_dup hx hb dX1_init_114 rfl ?_
  refine jr_values (rest := [.ref a22, .ref a22, .int 2, .ref a7]) ⟨hx, hb, hml, hown, hts⟩ hK hR hS q206 ⟨Nat.le_of_ble_eq_true rfl, Nat.le_of_ble_eq_true rfl⟩ hl.1 (Nat.le_of_ble_eq_true rfl) dX1_init_115 ⟨Nat.le_of_ble_eq_true rfl, Nat.le_of_ble_eq_true rfl⟩ (fun a23 H locs hR hS => ?_)
  have hR : Rp κ w y (upX X q (.inr (0, [.ref a1, .ref a3, .ref a5, .ref a7, .ref a8, .ref a10, .ref a12, .ref a14, .int 0, .int 5, .int 0, .int 3, .int 0, .int 0, .int 0, .long 0]))) [(a1, eL 0 (kA κ 1) 0), (a3, eL 0 (kA κ 1) 0), (a5, eL 0 (kA κ 1) 0), (a7, .inl (kT κ 5, (3, .inr (.inr (.inr (.inr (va_up (va_up (fun _ => none) 0 (some a16)) 1 (some a19)))))))), (a8, .inr (2, [.int 0])), (a10, .inr (1, [.int 0])), (a12, .inr (3, [.ref u13, .int 0])), (u13, .inr (1, [.int 0])), (a14, .inr (4, [.int 0])), (a16, .inr (5, [.int 100, .int 0, .int (-1), .int 0, .int 0, .int 0])), (a17, dvC κ), (a19, .inr (5, [.int 10, .int 0, .int (-1), .int 0, .int 0, .int 0])), (a20, dvC κ), (a22, .inr (5, [.int 0, .int 0, .int 0, .int 0, .int 0, .int 0])), (a23, dvC κ)] H := hR
  refine lv_iload_n hx hb dX1_init_118 rfl (lv_at hl 0 rfl) ?_
  refine xa_aald hx hb hK.1 (hR.L 14 _ rfl) 7 rfl (by unfold vp_in; decide) dX1_init_119 ?_
  refine jr_first (i := 2) hx hb hown hts hK hR (by decide) q2699 dX1_init_120 ?_
  refine va_callv (va_runI (As := [.int 2]) (rest := [.ref a22, .int 2, .ref a7]) ⟨hx, hb, hml, hown, hts⟩ (m_X6_init (X := xl (upX X q (.inr (0, [.ref a1, .ref a3, .ref a5, .ref a7, .ref a8, .ref a10, .ref a12, .ref a14, .int 0, .int 5, .int 0, .int 3, .int 0, .int 0, .int 0, .long 0]))) [(a1, eL 0 (kA κ 1) 0), (a3, eL 0 (kA κ 1) 0), (a5, eL 0 (kA κ 1) 0), (a7, .inl (kT κ 5, (3, .inr (.inr (.inr (.inr (va_up (va_up (fun _ => none) 0 (some a16)) 1 (some a19)))))))), (a8, .inr (2, [.int 0])), (a10, .inr (1, [.int 0])), (a12, .inr (3, [.ref u13, .int 0])), (u13, .inr (1, [.int 0])), (a14, .inr (4, [.int 0])), (a16, .inr (5, [.int 100, .int 0, .int (-1), .int 0, .int 0, .int 0])), (a17, dvC κ), (a19, .inr (5, [.int 10, .int 0, .int (-1), .int 0, .int 0, .int 0])), (a20, dvC κ), (a22, .inr (5, [.int 0, .int 0, .int 0, .int 0, .int 0, .int 0])), (a23, dvC κ)]) (Or.inr ⟨13, rfl⟩)) (cwI 1 hts (lw_meth q221) rfl rfl rfl (hts _ q82) (hts _ q219) (hts _ q220) rfl (by decide +kernel) ⟨Nat.le_of_ble_eq_true rfl, Nat.le_of_ble_eq_true rfl⟩) ⟨RC.blind, RC.pre hR hK⟩ rfl rfl hl.1 rfl (lv_room (Nat.le_of_ble_eq_true rfl)) dX1_init_123 ⟨Nat.le_of_ble_eq_true rfl, Nat.le_of_ble_eq_true rfl⟩) hS (fun _ _ h => h) (fun _ h => h) (fun u24 t9 H locs ht9 _ hp9 hB9 hz9 _ hS => ?_)
  rw [ht9] at hB9
  have hR := hR.wroteL (t := 13) rfl hB9
  clear hp9 hz9 hB9
  have hR : Rp κ w y (upX X q (.inr (0, [.ref a1, .ref a3, .ref a5, .ref a7, .ref a8, .ref a10, .ref a12, .ref a14, .int 0, .int 5, .int 0, .int 3, .int 0, .int 0, .int 0, .long 0]))) [(a1, eL 0 (kA κ 1) 0), (a3, eL 0 (kA κ 1) 0), (a5, eL 0 (kA κ 1) 0), (a7, .inl (kT κ 5, (3, .inr (.inr (.inr (.inr (va_up (va_up (fun _ => none) 0 (some a16)) 1 (some a19)))))))), (a8, .inr (2, [.int 0])), (a10, .inr (1, [.int 0])), (a12, .inr (3, [.ref u13, .int 0])), (u13, .inr (1, [.int 0])), (a14, .inr (4, [.int 0])), (a16, .inr (5, [.int 100, .int 0, .int (-1), .int 0, .int 0, .int 0])), (a17, dvC κ), (a19, .inr (5, [.int 10, .int 0, .int (-1), .int 0, .int 0, .int 0])), (a20, dvC κ), (a22, .inr (5, [.int 2, .int 0, .int (-1), .int 0, .int 0, .int 0])), (a23, dvC κ)] H := hR
  refine xa_aastS hx hb hK.1 hS (hR.LD.2 3 _ rfl) (hR.L 3 _ rfl) 5 rfl (hR.L 13 _ rfl) rfl (by unfold vp_in; decide) dX1_init_126 (fun H1 locs h1 hz ho hS => ?_)
  have hR := hR.putL (t := 3) rfl h1 hz ho
  clear h1 hz ho
  generalize H1 = H at hR hS ⊢
  have hR : Rp κ w y (upX X q (.inr (0, [.ref a1, .ref a3, .ref a5, .ref a7, .ref a8, .ref a10, .ref a12, .ref a14, .int 0, .int 5, .int 0, .int 3, .int 0, .int 0, .int 0, .long 0]))) [(a1, eL 0 (kA κ 1) 0), (a3, eL 0 (kA κ 1) 0), (a5, eL 0 (kA κ 1) 0), (a7, .inl (kT κ 5, (3, .inr (.inr (.inr (.inr (va_up (va_up (va_up (fun _ => none) 0 (some a16)) 1 (some a19)) 2 (some a22)))))))), (a8, .inr (2, [.int 0])), (a10, .inr (1, [.int 0])), (a12, .inr (3, [.ref u13, .int 0])), (u13, .inr (1, [.int 0])), (a14, .inr (4, [.int 0])), (a16, .inr (5, [.int 100, .int 0, .int (-1), .int 0, .int 0, .int 0])), (a17, dvC κ), (a19, .inr (5, [.int 10, .int 0, .int (-1), .int 0, .int 0, .int 0])), (a20, dvC κ), (a22, .inr (5, [.int 2, .int 0, .int (-1), .int 0, .int 0, .int 0])), (a23, dvC κ)] H := hR
  refine lv_iinc (v := 3) (lv' := [(1, .int 3), (0, .ref q)]) hx hb dX1_init_127 hl (k := 0) rfl (by decide) (by decide) rfl (fun ls hl => ?_)
  refine lv_goto (tgt := 101) hx hb dX1_init_130 (by decide) ?_
  refine W.eq (g2 := F0 m 101 ls []) rfl ?_
  refine lv_iload_n hx hb dX1_init_101 rfl (lv_at hl 0 rfl) ?_
  refine lv_iconst (v := 3) hx hb dX1_init_102 (by decide) ?_
  refine lv_icmp_ge (tgt := 133) hx hb dX1_init_103 (by decide) (fun _ => ?_) (fun c => absurd (by decide) c)
  refine W.eq (g2 := F0 m 133 ls []) rfl ?_
  have hR := hR.sub (L' := [(a1, eL 0 (kA κ 1) 0), (a3, eL 0 (kA κ 1) 0), (a5, eL 0 (kA κ 1) 0), (a7, .inl (kT κ 5, (3, .inr (.inr (.inr (.inr (va_up (va_up (va_up (fun _ => none) 0 (some a16)) 1 (some a19)) 2 (some a22)))))))), (a8, .inr (2, [.int 0])), (a10, .inr (1, [.int 0])), (a12, .inr (3, [.ref u13, .int 0])), (u13, .inr (1, [.int 0])), (a14, .inr (4, [.int 0])), (a16, .inr (5, [.int 100, .int 0, .int (-1), .int 0, .int 0, .int 0])), (a19, .inr (5, [.int 10, .int 0, .int (-1), .int 0, .int 0, .int 0])), (a22, .inr (5, [.int 2, .int 0, .int (-1), .int 0, .int 0, .int 0]))]) [0, 1, 2, 3, 4, 5, 6, 7, 8, 9, 11, 13] rfl rfl
  exact W.vret hx hb hr (fun t ht hW9 => ⟨⟨(a1, a3, a5, a7, a8, a10, a12, u13, a14, a16, a19, a22), rfl, trivial, rpt ht hR⟩, hS.F ht⟩) hS.2.2 dX1_init_133
theorem hd_X8_init : yX8_init.cls = RX8 ∧ yX8_init.cls ≠ "java/lang/invoke/MethodHandle" ∧ yX8_init.cls ≠ "java/lang/invoke/VarHandle" ∧ (parseMethodDescriptor yX8_init.desc).map (fun d => d.parameters.length) = some 0 := by decide +kernel
abbrev rm_X8_init : Room := { frames := 4, cells := 9, slots := 27, locals := 92 }
set_option maxHeartbeats 4000000 in
theorem m_X8_init {l : Launch} {κ : Kx} {w : Wd} {y : Ly} {X : XR} {q : Nat} (hX : X q (.inr (11, [.int 0, .int 0, .int 0, .null, .null, .null, .null, .null, .null, .null, .null, .null, .int 0, .int 0, .int 0, .int 0, .int 0, .int 0, .int 0, .int 0, .int 0, .int 0]))) : Met l yX8_init (ws_ yX8_init cX8_init 1 (Option.none : Option Jvm.ClassFile.FieldType)) rm_X8_init (va_Pc [.ref q] (RC κ w y X)) (va_Qv (fun _ : Nat × Nat × Nat × Nat × Nat × Nat × Nat × Nat × Nat => True) (fun u t => Rp κ w y (upX X q (.inr (11, [.int 0, .int 0, .int 5, .ref u.1, .ref u.2.1, .ref u.2.2.1, .ref u.2.2.2.1, .ref u.2.2.2.2.1, .ref u.2.2.2.2.2.1, .ref u.2.2.2.2.2.2.1, .ref u.2.2.2.2.2.2.2.1, .ref u.2.2.2.2.2.2.2.2, .int 0, .int 0, .int 0, .int 0, .int 0, .int 0, .int 0, .int 0, .int 3, .int 0]))) [(u.1, eL 0 (kA κ 1) 0), (u.2.1, eL 0 (kA κ 1) 0), (u.2.2.1, eL 0 (kA κ 1) 0), (u.2.2.2.1, .inl (kT κ 0, (3, .inl (upd (upd (upd (fun _ => 0) 0 100) 1 10) 2 2)))), (u.2.2.2.2.1, .inl (kT κ 0, (3, .inl (fun _ => 0)))), (u.2.2.2.2.2.1, .inl (kT κ 0, (3, .inl (upd (upd (upd (fun _ => 0) 0 (-1)) 1 (-1)) 2 (-1))))), (u.2.2.2.2.2.2.1, .inl (kT κ 0, (3, .inl (fun _ => 0)))), (u.2.2.2.2.2.2.2.1, .inl (kT κ 2, (3, .inl (fun _ => 0)))), (u.2.2.2.2.2.2.2.2, .inl (kT κ 0, (3, .inl (fun _ => 0))))] t.heap) (Af κ)) 9 27 (Af κ) := by
  refine Met.ofW (cc := cX8_init) (maxL := 1) (ret := (Option.none : Option Jvm.ClassFile.FieldType)) (by decide) rfl ?_
  intro p e s m args below meth c s₁ B hml hv
  obtain ⟨rfl, hR, hK⟩ := hv
  have hx := B.exec
  have hb := B.bytes
  have hr := B.returns
  have hts := atoms_spec (ws := ws_ yX8_init cX8_init 1 (Option.none : Option Jvm.ClassFile.FieldType)) B.pre
  have hts : ∀ w ∈ lw_all, w.before _ s = true := fun w h => hts w (List.mem_cons_of_mem _ h)
  have hown : s.vm.findClass RX8 = some m.cls := findClass_of_methodNamed B.named
  have hlocks := B.notSynchronized
  have hS : va_S (Af κ) s.heap s.heap [] := va_S.rf
  have hl := lv_entry ([.ref q]) (n := 1) (Nat.le_of_ble_eq_true rfl)
  rw [lg_entry_eq]
  generalize (lg_sl ([.ref q]) ++ List.replicate (1 - (lg_sl ([.ref q])).length) Slot.unset).toArray = ls at hl ⊢
  have hl : lv_has ls 1 [(0, .ref q)] := hl
  have hin : meth.name = "<init>" := (name_of_methodNamed B.named B.method).1
  have hR := hR.toUp hX
  refine lv_aload_n hx hb dX8_init_0 rfl (lv_at hl 0 rfl) ?_
  refine W.objInit hx hb hown (hts _ q1942) (hts _ q127) (hts _ q128) rfl (by rw [hml]; exact hl.1) rfl dX8_init_1 (Nat.le_of_ble_eq_true rfl) (Nat.le_of_ble_eq_true rfl) ?_
  refine W.eq (g2 := F0 m 4 ls []) rfl ?_
  refine lv_aload_n hx hb dX8_init_4 rfl (lv_at hl 0 rfl) ?_
  refine lv_iconst (v := 5) hx hb dX8_init_5 (by decide) ?_
  refine xa_put (T := TX8) (N := 22) hx hb hts in_X8 tyX8 tyX8_ok nmX8 hown hK.1 hS (hR.2.2.2.1 _ _ (upX_self _ _ _)).2.1 (hR.X (upX_self _ _ _)) rfl 2 (by decide) q1947 rfl rfl rfl rfl (Nat.le_of_ble_eq_true rfl) dX8_init_6 (fun H1 locs h1 hz ho hS => ?_)
  have hR := hR.putXL2 h1 hz ho
  clear h1 hz ho
  generalize H1 = H at hR hS ⊢
  have hR : Rp κ w y (upX X q (.inr (11, [.int 0, .int 0, .int 5, .null, .null, .null, .null, .null, .null, .null, .null, .null, .int 0, .int 0, .int 0, .int 0, .int 0, .int 0, .int 0, .int 0, .int 0, .int 0]))) [] H := hR
  refine lv_aload_n hx hb dX8_init_9 rfl (lv_at hl 0 rfl) ?_
  refine xa_new (C := RJ2) (T := TJ2) (N := 3) (ci := 16) (fs := [.int 0, .null, .int 0]) hx hb hts in_J2 tyJ2 tyJ2_ok hown q1943 q130 q77 hK.1 hS rfl (fun j hj => by rcases (show j = 0 ∨ j = 1 ∨ j = 2 by omega) with rfl | rfl | rfl <;> rfl) (Nat.le_of_ble_eq_true rfl) (Nat.le_of_ble_eq_true rfl) dX8_init_10 (fun a1 H1 hq h1 hz ho hS => ?_)
  have hR := hR.newL hq h1 (by omega) ho
  clear hq h1 hz ho
  generalize H1 = H at hR hS ⊢
  have hR : Rp κ w y (upX X q (.inr (11, [.int 0, .int 0, .int 5, .null, .null, .null, .null, .null, .null, .null, .null, .null, .int 0, .int 0, .int 0, .int 0, .int 0, .int 0, .int 0, .int 0, .int 0, .int 0]))) [(a1, .inr (16, [.int 0, .null, .int 0]))] H := hR
  refine lv_dup hx hb dX8_init_13 rfl ?_
  refine va_callv (va_runI (As := []) (rest := [.ref a1, .ref q]) ⟨hx, hb, hml, hown, hts⟩ (m_J2_init (X := xl (upX X q (.inr (11, [.int 0, .int 0, .int 5, .null, .null, .null, .null, .null, .null, .null, .null, .null, .int 0, .int 0, .int 0, .int 0, .int 0, .int 0, .int 0, .int 0, .int 0, .int 0]))) [(a1, .inr (16, [.int 0, .null, .int 0]))]) (Or.inr ⟨0, rfl⟩)) (cwI 0 hts (lw_meth q133) rfl rfl rfl (hts _ q77) (hts _ q1944) (hts _ q132) rfl (by decide +kernel) ⟨Nat.le_of_ble_eq_true rfl, Nat.le_of_ble_eq_true rfl⟩) ⟨RC.blind, RC.pre hR hK⟩ rfl rfl hl.1 rfl (lv_room (Nat.le_of_ble_eq_true rfl)) dX8_init_14 ⟨Nat.le_of_ble_eq_true rfl, Nat.le_of_ble_eq_true rfl⟩) hS (fun _ _ h => h) (fun _ h => h) (fun u2 t9 H locs ht9 _ hp9 hB9 hz9 _ hS => ?_)
  rw [ht9] at hB9
  have hR := hR.wroteL (t := 0) rfl hB9
  clear hp9 hz9 hB9
  have hR : Rp κ w y (upX X q (.inr (11, [.int 0, .int 0, .int 5, .null, .null, .null, .null, .null, .null, .null, .null, .null, .int 0, .int 0, .int 0, .int 0, .int 0, .int 0, .int 0, .int 0, .int 0, .int 0]))) [(a1, eL 0 (kA κ 1) 0)] H := hR
  refine xa_putF (T := TX8) (N := 22) hx hb hts in_X8 tyX8 tyX8_ok nmX8 hown hK.1 hS (hR.2.2.2.1 _ _ (upX_self _ _ _)).2.1 (hR.X (upX_self _ _ _)) rfl 3 (by decide) q1948 rfl rfl hin rfl rfl rfl (Nat.le_of_ble_eq_true rfl) dX8_init_17 (fun H1 locs h1 hz ho hS => ?_)
  have hR := hR.putXL2 h1 hz ho
  clear h1 hz ho
  generalize H1 = H at hR hS ⊢
  have hR : Rp κ w y (upX X q (.inr (11, [.int 0, .int 0, .int 5, .ref a1, .null, .null, .null, .null, .null, .null, .null, .null, .int 0, .int 0, .int 0, .int 0, .int 0, .int 0, .int 0, .int 0, .int 0, .int 0]))) [(a1, eL 0 (kA κ 1) 0)] H := hR
  refine lv_aload_n hx hb dX8_init_20 rfl (lv_at hl 0 rfl) ?_
  refine xa_new (C := RJ2) (T := TJ2) (N := 3) (ci := 16) (fs := [.int 0, .null, .int 0]) hx hb hts in_J2 tyJ2 tyJ2_ok hown q1943 q130 q77 hK.1 hS rfl (fun j hj => by rcases (show j = 0 ∨ j = 1 ∨ j = 2 by omega) with rfl | rfl | rfl <;> rfl) (Nat.le_of_ble_eq_true rfl) (Nat.le_of_ble_eq_true rfl) dX8_init_21 (fun a3 H1 hq h1 hz ho hS => ?_)
  have hR := hR.newL hq h1 (by omega) ho
  clear hq h1 hz ho
  generalize H1 = H at hR hS ⊢
  have hR : Rp κ w y (upX X q (.inr (11, [.int 0, .int 0, .int 5, .ref a1, .null, .null, .null, .null, .null, .null, .null, .null, .int 0, .int 0, .int 0, .int 0, .int 0, .int 0, .int 0, .int 0, .int 0, .int 0]))) [(a1, eL 0 (kA κ 1) 0), (a3, .inr (16, [.int 0, .null, .int 0]))] H := hR
  refine lv_dup hx hb dX8_init_24 rfl ?_
  refine va_callv (va_runI (As := []) (rest := [.ref a3, .ref q]) ⟨hx, hb, hml, hown, hts⟩ (m_J2_init (X := xl (upX X q (.inr (11, [.int 0, .int 0, .int 5, .ref a1, .null, .null, .null, .null, .null, .null, .null, .null, .int 0, .int 0, .int 0, .int 0, .int 0, .int 0, .int 0, .int 0, .int 0, .int 0]))) [(a1, eL 0 (kA κ 1) 0), (a3, .inr (16, [.int 0, .null, .int 0]))]) (Or.inr ⟨1, rfl⟩)) (cwI 0 hts (lw_meth q133) rfl rfl rfl (hts _ q77) (hts _ q1944) (hts _ q132) rfl (by decide +kernel) ⟨Nat.le_of_ble_eq_true rfl, Nat.le_of_ble_eq_true rfl⟩) ⟨RC.blind, RC.pre hR hK⟩ rfl rfl hl.1 rfl (lv_room (Nat.le_of_ble_eq_true rfl)) dX8_init_25 ⟨Nat.le_of_ble_eq_true rfl, Nat.le_of_ble_eq_true rfl⟩) hS (fun _ _ h => h) (fun _ h => h) (fun u4 t9 H locs ht9 _ hp9 hB9 hz9 _ hS => ?_)
  rw [ht9] at hB9
  have hR := hR.wroteL (t := 1) rfl hB9
  clear hp9 hz9 hB9
  have hR : Rp κ w y (upX X q (.inr (11, [.int 0, .int 0, .int 5, .ref a1, .null, .null, .null, .null, .null, .null, .null, .null, .int 0, .int 0, .int 0, .int 0, .int 0, .int 0, .int 0, .int 0, .int 0, .int 0]))) [(a1, eL 0 (kA κ 1) 0), (a3, eL 0 (kA κ 1) 0)] H := hR
  refine xa_putF (T := TX8) (N := 22) hx hb hts in_X8 tyX8 tyX8_ok nmX8 hown hK.1 hS (hR.2.2.2.1 _ _ (upX_self _ _ _)).2.1 (hR.X (upX_self _ _ _)) rfl 4 (by decide) q1949 rfl rfl hin rfl rfl rfl (Nat.le_of_ble_eq_true rfl) dX8_init_28 (fun H1 locs h1 hz ho hS => ?_)
  have hR := hR.putXL2 h1 hz ho
  clear h1 hz ho
  generalize H1 = H at hR hS ⊢
  have hR : Rp κ w y (upX X q (.inr (11, [.int 0, .int 0, .int 5, .ref a1, .ref a3, .null, .null, .null, .null, .null, .null, .null, .int 0, .int 0, .int 0, .int 0, .int 0, .int 0, .int 0, .int 0, .int 0, .int 0]))) [(a1, eL 0 (kA κ 1) 0), (a3, eL 0 (kA κ 1) 0)] H := hR
  refine lv_aload_n hx hb dX8_init_31 rfl (lv_at hl 0 rfl) ?_
  refine xa_new (C := RJ2) (T := TJ2) (N := 3) (ci := 16) (fs := [.int 0, .null, .int 0]) hx hb hts in_J2 tyJ2 tyJ2_ok hown q1943 q130 q77 hK.1 hS rfl (fun j hj => by rcases (show j = 0 ∨ j = 1 ∨ j = 2 by omega) with rfl | rfl | rfl <;> rfl) (Nat.le_of_ble_eq_true rfl) (Nat.le_of_ble_eq_true rfl) dX8_init_32 (fun a5 H1 hq h1 hz ho hS => ?_)
  have hR := hR.newL hq h1 (by omega) ho
  clear hq h1 hz ho
  generalize H1 = H at hR hS ⊢
  have hR : Rp κ w y (upX X q (.inr (11, [.int 0, .int 0, .int 5, .ref a1, .ref a3, .null, .null, .null, .null, .null, .null, .null, .int 0, .int 0, .int 0, .int 0, .int 0, .int 0, .int 0, .int 0, .int 0, .int 0]))) [(a1, eL 0 (kA κ 1) 0), (a3, eL 0 (kA κ 1) 0), (a5, .inr (16, [.int 0, .null, .int 0]))] H := hR
  refine lv_dup hx hb dX8_init_35 rfl ?_
  refine va_callv (va_runI (As := []) (rest := [.ref a5, .ref q]) ⟨hx, hb, hml, hown, hts⟩ (m_J2_init (X := xl (upX X q (.inr (11, [.int 0, .int 0, .int 5, .ref a1, .ref a3, .null, .null, .null, .null, .null, .null, .null, .int 0, .int 0, .int 0, .int 0, .int 0, .int 0, .int 0, .int 0, .int 0, .int 0]))) [(a1, eL 0 (kA κ 1) 0), (a3, eL 0 (kA κ 1) 0), (a5, .inr (16, [.int 0, .null, .int 0]))]) (Or.inr ⟨2, rfl⟩)) (cwI 0 hts (lw_meth q133) rfl rfl rfl (hts _ q77) (hts _ q1944) (hts _ q132) rfl (by decide +kernel) ⟨Nat.le_of_ble_eq_true rfl, Nat.le_of_ble_eq_true rfl⟩) ⟨RC.blind, RC.pre hR hK⟩ rfl rfl hl.1 rfl (lv_room (Nat.le_of_ble_eq_true rfl)) dX8_init_36 ⟨Nat.le_of_ble_eq_true rfl, Nat.le_of_ble_eq_true rfl⟩) hS (fun _ _ h => h) (fun _ h => h) (fun u6 t9 H locs ht9 _ hp9 hB9 hz9 _ hS => ?_)
  rw [ht9] at hB9
  have hR := hR.wroteL (t := 2) rfl hB9
  clear hp9 hz9 hB9
  have hR : Rp κ w y (upX X q (.inr (11, [.int 0, .int 0, .int 5, .ref a1, .ref a3, .null, .null, .null, .null, .null, .null, .null, .int 0, .int 0, .int 0, .int 0, .int 0, .int 0, .int 0, .int 0, .int 0, .int 0]))) [(a1, eL 0 (kA κ 1) 0), (a3, eL 0 (kA κ 1) 0), (a5, eL 0 (kA κ 1) 0)] H := hR
  refine xa_putF (T := TX8) (N := 22) hx hb hts in_X8 tyX8 tyX8_ok nmX8 hown hK.1 hS (hR.2.2.2.1 _ _ (upX_self _ _ _)).2.1 (hR.X (upX_self _ _ _)) rfl 5 (by decide) q1950 rfl rfl hin rfl rfl rfl (Nat.le_of_ble_eq_true rfl) dX8_init_39 (fun H1 locs h1 hz ho hS => ?_)
  have hR := hR.putXL2 h1 hz ho
  clear h1 hz ho
  generalize H1 = H at hR hS ⊢
  have hR : Rp κ w y (upX X q (.inr (11, [.int 0, .int 0, .int 5, .ref a1, .ref a3, .ref a5, .null, .null, .null, .null, .null, .null, .int 0, .int 0, .int 0, .int 0, .int 0, .int 0, .int 0, .int 0, .int 0, .int 0]))) [(a1, eL 0 (kA κ 1) 0), (a3, eL 0 (kA κ 1) 0), (a5, eL 0 (kA κ 1) 0)] H := hR
  refine lv_aload_n hx hb dX8_init_42 rfl (lv_at hl 0 rfl) ?_
  refine lv_iconst (v := 3) hx hb dX8_init_43 (by decide) ?_
  refine xa_newa (ty := .int) (N' := 3) (a0 := (3, .inl (fun _ => 0))) hx hb hts q995 rfl hK.1 0 rfl (by intro C h9; cases h9) hS rfl (by decide) (by decide) (by decide) (Nat.le_of_ble_eq_true rfl) (Nat.le_of_ble_eq_true rfl) dX8_init_44 (fun a7 H1 hq h1 hz ho hS => ?_)
  have hR := hR.newL hq h1 (by omega) ho
  clear hq h1 hz ho
  generalize H1 = H at hR hS ⊢
  have hR : Rp κ w y (upX X q (.inr (11, [.int 0, .int 0, .int 5, .ref a1, .ref a3, .ref a5, .null, .null, .null, .null, .null, .null, .int 0, .int 0, .int 0, .int 0, .int 0, .int 0, .int 0, .int 0, .int 0, .int 0]))) [(a1, eL 0 (kA κ 1) 0), (a3, eL 0 (kA κ 1) 0), (a5, eL 0 (kA κ 1) 0), (a7, .inl (kT κ 0, (3, .inl (fun _ => 0))))] H := hR
  refine lv_dup hx hb dX8_init_46 rfl ?_
  refine lv_iconst (v := 0) hx hb dX8_init_47 (by decide) ?_
  refine lv_bipush (v := 100) hx hb dX8_init_48 (by decide) ?_
  refine xa_iast hx hb hK.1 hS (hR.LD.2 3 _ rfl) (hR.L 3 _ rfl) 0 rfl (by unfold vp_in; decide) dX8_init_50 (fun H1 locs h1 hz ho hS => ?_)
  have hR := hR.putL (t := 3) rfl h1 hz ho
  clear h1 hz ho
  generalize H1 = H at hR hS ⊢
  have hR : Rp κ w y (upX X q (.inr (11, [.int 0, .int 0, .int 5, .ref a1, .ref a3, .ref a5, .null, .null, .null, .null, .null, .null, .int 0, .int 0, .int 0, .int 0, .int 0, .int 0, .int 0, .int 0, .int 0, .int 0]))) [(a1, eL 0 (kA κ 1) 0), (a3, eL 0 (kA κ 1) 0), (a5, eL 0 (kA κ 1) 0), (a7, .inl (kT κ 0, (3, .inl (upd (fun _ => 0) 0 100))))] H := hR
  refine lv_dup hx hb dX8_init_51 rfl ?_
  refine lv_iconst (v := 1) hx hb dX8_init_52 (by decide) ?_
  refine lv_bipush (v := 10) hx hb dX8_init_53 (by decide) ?_
  refine xa_iast hx hb hK.1 hS (hR.LD.2 3 _ rfl) (hR.L 3 _ rfl) 0 rfl (by unfold vp_in; decide) dX8_init_55 (fun H1 locs h1 hz ho hS => ?_)
  have hR := hR.putL (t := 3) rfl h1 hz ho
  clear h1 hz ho
  generalize H1 = H at hR hS ⊢
  have hR : Rp κ w y (upX X q (.inr (11, [.int 0, .int 0, .int 5, .ref a1, .ref a3, .ref a5, .null, .null, .null, .null, .null, .null, .int 0, .int 0, .int 0, .int 0, .int 0, .int 0, .int 0, .int 0, .int 0, .int 0]))) [(a1, eL 0 (kA κ 1) 0), (a3, eL 0 (kA κ 1) 0), (a5, eL 0 (kA κ 1) 0), (a7, .inl (kT κ 0, (3, .inl (upd (upd (fun _ => 0) 0 100) 1 10))))] H := hR
  refine lv_dup hx hb dX8_init_56 rfl ?_
  refine lv_iconst (v := 2) hx hb dX8_init_57 (by decide) ?_
  refine lv_iconst (v := 2) hx hb dX8_init_58 (by decide) ?_
  refine xa_iast hx hb hK.1 hS (hR.LD.2 3 _ rfl) (hR.L 3 _ rfl) 0 rfl (by unfold vp_in; decide) dX8_init_59 (fun H1 locs h1 hz ho hS => ?_)
  have hR := hR.putL (t := 3) rfl h1 hz ho
  clear h1 hz ho
  generalize H1 = H at hR hS ⊢
  have hR : Rp κ w y (upX X q (.inr (11, [.int 0, .int 0, .int 5, .ref a1, .ref a3, .ref a5, .null, .null, .null, .null, .null, .null, .int 0, .int 0, .int 0, .int 0, .int 0, .int 0, .int 0, .int 0, .int 0, .int 0]))) [(a1, eL 0 (kA κ 1) 0), (a3, eL 0 (kA κ 1) 0), (a5, eL 0 (kA κ 1) 0), (a7, .inl (kT κ 0, (3, .inl (upd (upd (upd (fun _ => 0) 0 100) 1 10) 2 2))))] H := hR
  refine xa_putF (T := TX8) (N := 22) hx hb hts in_X8 tyX8 tyX8_ok nmX8 hown hK.1 hS (hR.2.2.2.1 _ _ (upX_self _ _ _)).2.1 (hR.X (upX_self _ _ _)) rfl 6 (by decide) q1951 rfl rfl hin rfl rfl rfl (Nat.le_of_ble_eq_true rfl) dX8_init_60 (fun H1 locs h1 hz ho hS => ?_)
  have hR := hR.putXL2 h1 hz ho
  clear h1 hz ho
  generalize H1 = H at hR hS ⊢
  have hR : Rp κ w y (upX X q (.inr (11, [.int 0, .int 0, .int 5, .ref a1, .ref a3, .ref a5, .ref a7, .null, .null, .null, .null, .null, .int 0, .int 0, .int 0, .int 0, .int 0, .int 0, .int 0, .int 0, .int 0, .int 0]))) [(a1, eL 0 (kA κ 1) 0), (a3, eL 0 (kA κ 1) 0), (a5, eL 0 (kA κ 1) 0), (a7, .inl (kT κ 0, (3, .inl (upd (upd (upd (fun _ => 0) 0 100) 1 10) 2 2))))] H := hR
  refine lv_aload_n hx hb dX8_init_63 rfl (lv_at hl 0 rfl) ?_
  refine lv_iconst (v := 3) hx hb dX8_init_64 (by decide) ?_
  refine xa_newa (ty := .int) (N' := 3) (a0 := (3, .inl (fun _ => 0))) hx hb hts q995 rfl hK.1 0 rfl (by intro C h9; cases h9) hS rfl (by decide) (by decide) (by decide) (Nat.le_of_ble_eq_true rfl) (Nat.le_of_ble_eq_true rfl) dX8_init_65 (fun a8 H1 hq h1 hz ho hS => ?_)
  have hR := hR.newL hq h1 (by omega) ho
  clear hq h1 hz ho
  generalize H1 = H at hR hS ⊢
  have hR : Rp κ w y (upX X q (.inr (11, [.int 0, .int 0, .int 5, .ref a1, .ref a3, .ref a5, .ref a7, .null, .null, .null, .null, .null, .int 0, .int 0, .int 0, .int 0, .int 0, .int 0, .int 0, .int 0, .int 0, .int 0]))) [(a1, eL 0 (kA κ 1) 0), (a3, eL 0 (kA κ 1) 0), (a5, eL 0 (kA κ 1) 0), (a7, .inl (kT κ 0, (3, .inl (upd (upd (upd (fun _ => 0) 0 100) 1 10) 2 2)))), (a8, .inl (kT κ 0, (3, .inl (fun _ => 0))))] H := hR
  refine xa_putF (T := TX8) (N := 22) hx hb hts in_X8 tyX8 tyX8_ok nmX8 hown hK.1 hS (hR.2.2.2.1 _ _ (upX_self _ _ _)).2.1 (hR.X (upX_self _ _ _)) rfl 7 (by decide) q1952 rfl rfl hin rfl rfl rfl (Nat.le_of_ble_eq_true rfl) dX8_init_67 (fun H1 locs h1 hz ho hS => ?_)
  have hR := hR.putXL2 h1 hz ho
  clear h1 hz ho
  generalize H1 = H at hR hS ⊢
  have hR : Rp κ w y (upX X q (.inr (11, [.int 0, .int 0, .int 5, .ref a1, .ref a3, .ref a5, .ref a7, .ref a8, .null, .null, .null, .null, .int 0, .int 0, .int 0, .int 0, .int 0, .int 0, .int 0, .int 0, .int 0, .int 0]))) [(a1, eL 0 (kA κ 1) 0), (a3, eL 0 (kA κ 1) 0), (a5, eL 0 (kA κ 1) 0), (a7, .inl (kT κ 0, (3, .inl (upd (upd (upd (fun _ => 0) 0 100) 1 10) 2 2)))), (a8, .inl (kT κ 0, (3, .inl (fun _ => 0))))] H := hR
  refine lv_aload_n hx hb dX8_init_70 rfl (lv_at hl 0 rfl) ?_
  refine lv_iconst (v := 3) hx hb dX8_init_71 (by decide) ?_
  refine xa_newa (ty := .int) (N' := 3) (a0 := (3, .inl (fun _ => 0))) hx hb hts q995 rfl hK.1 0 rfl (by intro C h9; cases h9) hS rfl (by decide) (by decide) (by decide) (Nat.le_of_ble_eq_true rfl) (Nat.le_of_ble_eq_true rfl) dX8_init_72 (fun a9 H1 hq h1 hz ho hS => ?_)
  have hR := hR.newL hq h1 (by omega) ho
  clear hq h1 hz ho
  generalize H1 = H at hR hS ⊢
  have hR : Rp κ w y (upX X q (.inr (11, [.int 0, .int 0, .int 5, .ref a1, .ref a3, .ref a5, .ref a7, .ref a8, .null, .null, .null, .null, .int 0, .int 0, .int 0, .int 0, .int 0, .int 0, .int 0, .int 0, .int 0, .int 0]))) [(a1, eL 0 (kA κ 1) 0), (a3, eL 0 (kA κ 1) 0), (a5, eL 0 (kA κ 1) 0), (a7, .inl (kT κ 0, (3, .inl (upd (upd (upd (fun _ => 0) 0 100) 1 10) 2 2)))), (a8, .inl (kT κ 0, (3, .inl (fun _ => 0)))), (a9, .inl (kT κ 0, (3, .inl (fun _ => 0))))] H := hR
  refine lv_dup hx hb dX8_init_74 rfl ?_
  refine lv_iconst (v := 0) hx hb dX8_init_75 (by decide) ?_
  refine lv_iconst (v := (-1)) hx hb dX8_init_76 (by decide) ?_
  refine xa_iast hx hb hK.1 hS (hR.LD.2 5 _ rfl) (hR.L 5 _ rfl) 0 rfl (by unfold vp_in; decide) dX8_init_77 (fun H1 locs h1 hz ho hS => ?_)
  have hR := hR.putL (t := 5) rfl h1 hz ho
  clear h1 hz ho
  generalize H1 = H at hR hS ⊢
  have hR : Rp κ w y (upX X q (.inr (11, [.int 0, .int 0, .int 5, .ref a1, .ref a3, .ref a5, .ref a7, .ref a8, .null, .null, .null, .null, .int 0, .int 0, .int 0, .int 0, .int 0, .int 0, .int 0, .int 0, .int 0, .int 0]))) [(a1, eL 0 (kA κ 1) 0), (a3, eL 0 (kA κ 1) 0), (a5, eL 0 (kA κ 1) 0), (a7, .inl (kT κ 0, (3, .inl (upd (upd (upd (fun _ => 0) 0 100) 1 10) 2 2)))), (a8, .inl (kT κ 0, (3, .inl (fun _ => 0)))), (a9, .inl (kT κ 0, (3, .inl (upd (fun _ => 0) 0 (-1)))))] H := hR
  refine lv_dup hx hb dX8_init_78 rfl ?_
  refine lv_iconst (v := 1) hx hb dX8_init_79 (by decide) ?_
  refine lv_iconst (v := (-1)) hx hb dX8_init_80 (by decide) ?_
  refine xa_iast hx hb hK.1 hS (hR.LD.2 5 _ rfl) (hR.L 5 _ rfl) 0 rfl (by unfold vp_in; decide) dX8_init_81 (fun H1 locs h1 hz ho hS => ?_)
  have hR := hR.putL (t := 5) rfl h1 hz ho
  clear h1 hz ho
  generalize H1 = H at hR hS ⊢
  have hR : Rp κ w y (upX X q (.inr (11, [.int 0, .int 0, .int 5, .ref a1, .ref a3, .ref a5, .ref a7, .ref a8, .null, .null, .null, .null, .int 0, .int 0, .int 0, .int 0, .int 0, .int 0, .int 0, .int 0, .int 0, .int 0]))) [(a1, eL 0 (kA κ 1) 0), (a3, eL 0 (kA κ 1) 0), (a5, eL 0 (kA κ 1) 0), (a7, .inl (kT κ 0, (3, .inl (upd (upd (upd (fun _ => 0) 0 100) 1 10) 2 2)))), (a8, .inl (kT κ 0, (3, .inl (fun _ => 0)))), (a9, .inl (kT κ 0, (3, .inl (upd (upd (fun _ => 0) 0 (-1)) 1 (-1)))))] H := hR
  refine lv_dup hx hb dX8_init_82 rfl ?_
  refine lv_iconst (v := 2) hx hb dX8_init_83 (by decide) ?_
  refine lv_iconst (v := (-1)) hx hb dX8_init_84 (by decide) ?_
  refine xa_iast hx hb hK.1 hS (hR.LD.2 5 _ rfl) (hR.L 5 _ rfl) 0 rfl (by unfold vp_in; decide) dX8_init_85 (fun H1 locs h1 hz ho hS => ?_)
  have hR := hR.putL (t := 5) rfl h1 hz ho
  clear h1 hz ho
  generalize H1 = H at hR hS ⊢
  have hR : Rp κ w y (upX X q (.inr (11, [.int 0, .int 0, .int 5, .ref a1, .ref a3, .ref a5, .ref a7, .ref a8, .null, .null, .null, .null, .int 0, .int 0, .int 0, .int 0, .int 0, .int 0, .int 0, .int 0, .int 0, .int 0]))) [(a1, eL 0 (kA κ 1) 0), (a3, eL 0 (kA κ 1) 0), (a5, eL 0 (kA κ 1) 0), (a7, .inl (kT κ 0, (3, .inl (upd (upd (upd (fun _ => 0) 0 100) 1 10) 2 2)))), (a8, .inl (kT κ 0, (3, .inl (fun _ => 0)))), (a9, .inl (kT κ 0, (3, .inl (upd (upd (upd (fun _ => 0) 0 (-1)) 1 (-1)) 2 (-1)))))] H := hR
  refine xa_putF (T := TX8) (N := 22) hx hb hts in_X8 tyX8 tyX8_ok nmX8 hown hK.1 hS (hR.2.2.2.1 _ _ (upX_self _ _ _)).2.1 (hR.X (upX_self _ _ _)) rfl 8 (by decide) q1953 rfl rfl hin rfl rfl rfl (Nat.le_of_ble_eq_true rfl) dX8_init_86 (fun H1 locs h1 hz ho hS => ?_)
  have hR := hR.putXL2 h1 hz ho
  clear h1 hz ho
  generalize H1 = H at hR hS ⊢
  have hR : Rp κ w y (upX X q (.inr (11, [.int 0, .int 0, .int 5, .ref a1, .ref a3, .ref a5, .ref a7, .ref a8, .ref a9, .null, .null, .null, .int 0, .int 0, .int 0, .int 0, .int 0, .int 0, .int 0, .int 0, .int 0, .int 0]))) [(a1, eL 0 (kA κ 1) 0), (a3, eL 0 (kA κ 1) 0), (a5, eL 0 (kA κ 1) 0), (a7, .inl (kT κ 0, (3, .inl (upd (upd (upd (fun _ => 0) 0 100) 1 10) 2 2)))), (a8, .inl (kT κ 0, (3, .inl (fun _ => 0)))), (a9, .inl (kT κ 0, (3, .inl (upd (upd (upd (fun _ => 0) 0 (-1)) 1 (-1)) 2 (-1)))))] H := hR
  refine lv_aload_n hx hb dX8_init_89 rfl (lv_at hl 0 rfl) ?_
  refine lv_iconst (v := 3) hx hb dX8_init_90 (by decide) ?_
  refine xa_newa (ty := .int) (N' := 3) (a0 := (3, .inl (fun _ => 0))) hx hb hts q995 rfl hK.1 0 rfl (by intro C h9; cases h9) hS rfl (by decide) (by decide) (by decide) (Nat.le_of_ble_eq_true rfl) (Nat.le_of_ble_eq_true rfl) dX8_init_91 (fun a10 H1 hq h1 hz ho hS => ?_)
  have hR := hR.newL hq h1 (by omega) ho
  clear hq h1 hz ho
  generalize H1 = H at hR hS ⊢
  have hR : Rp κ w y (upX X q (.inr (11, [.int 0, .int 0, .int 5, .ref a1, .ref a3, .ref a5, .ref a7, .ref a8, .ref a9, .null, .null, .null, .int 0, .int 0, .int 0, .int 0, .int 0, .int 0, .int 0, .int 0, .int 0, .int 0]))) [(a1, eL 0 (kA κ 1) 0), (a3, eL 0 (kA κ 1) 0), (a5, eL 0 (kA κ 1) 0), (a7, .inl (kT κ 0, (3, .inl (upd (upd (upd (fun _ => 0) 0 100) 1 10) 2 2)))), (a8, .inl (kT κ 0, (3, .inl (fun _ => 0)))), (a9, .inl (kT κ 0, (3, .inl (upd (upd (upd (fun _ => 0) 0 (-1)) 1 (-1)) 2 (-1))))), (a10, .inl (kT κ 0, (3, .inl (fun _ => 0))))] H := hR
  refine xa_putF (T := TX8) (N := 22) hx hb hts in_X8 tyX8 tyX8_ok nmX8 hown hK.1 hS (hR.2.2.2.1 _ _ (upX_self _ _ _)).2.1 (hR.X (upX_self _ _ _)) rfl 9 (by decide) q1954 rfl rfl hin rfl rfl rfl (Nat.le_of_ble_eq_true rfl) dX8_init_93 (fun H1 locs h1 hz ho hS => ?_)
  have hR := hR.putXL2 h1 hz ho
  clear h1 hz ho
  generalize H1 = H at hR hS ⊢
  have hR : Rp κ w y (upX X q (.inr (11, [.int 0, .int 0, .int 5, .ref a1, .ref a3, .ref a5, .ref a7, .ref a8, .ref a9, .ref a10, .null, .null, .int 0, .int 0, .int 0, .int 0, .int 0, .int 0, .int 0, .int 0, .int 0, .int 0]))) [(a1, eL 0 (kA κ 1) 0), (a3, eL 0 (kA κ 1) 0), (a5, eL 0 (kA κ 1) 0), (a7, .inl (kT κ 0, (3, .inl (upd (upd (upd (fun _ => 0) 0 100) 1 10) 2 2)))), (a8, .inl (kT κ 0, (3, .inl (fun _ => 0)))), (a9, .inl (kT κ 0, (3, .inl (upd (upd (upd (fun _ => 0) 0 (-1)) 1 (-1)) 2 (-1))))), (a10, .inl (kT κ 0, (3, .inl (fun _ => 0))))] H := hR
  refine lv_aload_n hx hb dX8_init_96 rfl (lv_at hl 0 rfl) ?_
  refine lv_iconst (v := 3) hx hb dX8_init_97 (by decide) ?_
  refine xa_newa (ty := .boolean) (N' := 3) (a0 := (3, .inl (fun _ => 0))) hx hb hts q996 rfl hK.1 2 rfl (by intro C h9; cases h9) hS rfl (by decide) (by decide) (by decide) (Nat.le_of_ble_eq_true rfl) (Nat.le_of_ble_eq_true rfl) dX8_init_98 (fun a11 H1 hq h1 hz ho hS => ?_)
  have hR := hR.newL hq h1 (by omega) ho
  clear hq h1 hz ho
  generalize H1 = H at hR hS ⊢
  have hR : Rp κ w y (upX X q (.inr (11, [.int 0, .int 0, .int 5, .ref a1, .ref a3, .ref a5, .ref a7, .ref a8, .ref a9, .ref a10, .null, .null, .int 0, .int 0, .int 0, .int 0, .int 0, .int 0, .int 0, .int 0, .int 0, .int 0]))) [(a1, eL 0 (kA κ 1) 0), (a3, eL 0 (kA κ 1) 0), (a5, eL 0 (kA κ 1) 0), (a7, .inl (kT κ 0, (3, .inl (upd (upd (upd (fun _ => 0) 0 100) 1 10) 2 2)))), (a8, .inl (kT κ 0, (3, .inl (fun _ => 0)))), (a9, .inl (kT κ 0, (3, .inl (upd (upd (upd (fun _ => 0) 0 (-1)) 1 (-1)) 2 (-1))))), (a10, .inl (kT κ 0, (3, .inl (fun _ => 0)))), (a11, .inl (kT κ 2, (3, .inl (fun _ => 0))))] H := hR
  refine xa_putF (T := TX8) (N := 22) hx hb hts in_X8 tyX8 tyX8_ok nmX8 hown hK.1 hS (hR.2.2.2.1 _ _ (upX_self _ _ _)).2.1 (hR.X (upX_self _ _ _)) rfl 10 (by decide) q1955 rfl rfl hin rfl rfl rfl (Nat.le_of_ble_eq_true rfl) dX8_init_100 (fun H1 locs h1 hz ho hS => ?_)
  have hR := hR.putXL2 h1 hz ho
  clear h1 hz ho
  generalize H1 = H at hR hS ⊢
  have hR : Rp κ w y (upX X q (.inr (11, [.int 0, .int 0, .int 5, .ref a1, .ref a3, .ref a5, .ref a7, .ref a8, .ref a9, .ref a10, .ref a11, .null, .int 0, .int 0, .int 0, .int 0, .int 0, .int 0, .int 0, .int 0, .int 0, .int 0]))) [(a1, eL 0 (kA κ 1) 0), (a3, eL 0 (kA κ 1) 0), (a5, eL 0 (kA κ 1) 0), (a7, .inl (kT κ 0, (3, .inl (upd (upd (upd (fun _ => 0) 0 100) 1 10) 2 2)))), (a8, .inl (kT κ 0, (3, .inl (fun _ => 0)))), (a9, .inl (kT κ 0, (3, .inl (upd (upd (upd (fun _ => 0) 0 (-1)) 1 (-1)) 2 (-1))))), (a10, .inl (kT κ 0, (3, .inl (fun _ => 0)))), (a11, .inl (kT κ 2, (3, .inl (fun _ => 0))))] H := hR
  refine lv_aload_n hx hb dX8_init_103 rfl (lv_at hl 0 rfl) ?_
  refine lv_iconst (v := 3) hx hb dX8_init_104 (by decide) ?_
  refine xa_newa (ty := .int) (N' := 3) (a0 := (3, .inl (fun _ => 0))) hx hb hts q995 rfl hK.1 0 rfl (by intro C h9; cases h9) hS rfl (by decide) (by decide) (by decide) (Nat.le_of_ble_eq_true rfl) (Nat.le_of_ble_eq_true rfl) dX8_init_105 (fun a12 H1 hq h1 hz ho hS => ?_)
  have hR := hR.newL hq h1 (by omega) ho
  clear hq h1 hz ho
  generalize H1 = H at hR hS ⊢
  have hR : Rp κ w y (upX X q (.inr (11, [.int 0, .int 0, .int 5, .ref a1, .ref a3, .ref a5, .ref a7, .ref a8, .ref a9, .ref a10, .ref a11, .null, .int 0, .int 0, .int 0, .int 0, .int 0, .int 0, .int 0, .int 0, .int 0, .int 0]))) [(a1, eL 0 (kA κ 1) 0), (a3, eL 0 (kA κ 1) 0), (a5, eL 0 (kA κ 1) 0), (a7, .inl (kT κ 0, (3, .inl (upd (upd (upd (fun _ => 0) 0 100) 1 10) 2 2)))), (a8, .inl (kT κ 0, (3, .inl (fun _ => 0)))), (a9, .inl (kT κ 0, (3, .inl (upd (upd (upd (fun _ => 0) 0 (-1)) 1 (-1)) 2 (-1))))), (a10, .inl (kT κ 0, (3, .inl (fun _ => 0)))), (a11, .inl (kT κ 2, (3, .inl (fun _ => 0)))), (a12, .inl (kT κ 0, (3, .inl (fun _ => 0))))] H := hR
  refine xa_putF (T := TX8) (N := 22) hx hb hts in_X8 tyX8 tyX8_ok nmX8 hown hK.1 hS (hR.2.2.2.1 _ _ (upX_self _ _ _)).2.1 (hR.X (upX_self _ _ _)) rfl 11 (by decide) q1956 rfl rfl hin rfl rfl rfl (Nat.le_of_ble_eq_true rfl) dX8_init_107 (fun H1 locs h1 hz ho hS => ?_)
  have hR := hR.putXL2 h1 hz ho
  clear h1 hz ho
  generalize H1 = H at hR hS ⊢
  have hR : Rp κ w y (upX X q (.inr (11, [.int 0, .int 0, .int 5, .ref a1, .ref a3, .ref a5, .ref a7, .ref a8, .ref a9, .ref a10, .ref a11, .ref a12, .int 0, .int 0, .int 0, .int 0, .int 0, .int 0, .int 0, .int 0, .int 0, .int 0]))) [(a1, eL 0 (kA κ 1) 0), (a3, eL 0 (kA κ 1) 0), (a5, eL 0 (kA κ 1) 0), (a7, .inl (kT κ 0, (3, .inl (upd (upd (upd (fun _ => 0) 0 100) 1 10) 2 2)))), (a8, .inl (kT κ 0, (3, .inl (fun _ => 0)))), (a9, .inl (kT κ 0, (3, .inl (upd (upd (upd (fun _ => 0) 0 (-1)) 1 (-1)) 2 (-1))))), (a10, .inl (kT κ 0, (3, .inl (fun _ => 0)))), (a11, .inl (kT κ 2, (3, .inl (fun _ => 0)))), (a12, .inl (kT κ 0, (3, .inl (fun _ => 0))))] H := hR
  refine lv_aload_n hx hb dX8_init_110 rfl (lv_at hl 0 rfl) ?_
  refine lv_iconst (v := 3) hx hb dX8_init_111 (by decide) ?_
  refine xa_put (T := TX8) (N := 22) hx hb hts in_X8 tyX8 tyX8_ok nmX8 hown hK.1 hS (hR.2.2.2.1 _ _ (upX_self _ _ _)).2.1 (hR.X (upX_self _ _ _)) rfl 20 (by decide) q1965 rfl rfl rfl rfl (Nat.le_of_ble_eq_true rfl) dX8_init_112 (fun H1 locs h1 hz ho hS => ?_)
  have hR := hR.putXL2 h1 hz ho
  clear h1 hz ho
  generalize H1 = H at hR hS ⊢
  have hR : Rp κ w y (upX X q (.inr (11, [.int 0, .int 0, .int 5, .ref a1, .ref a3, .ref a5, .ref a7, .ref a8, .ref a9, .ref a10, .ref a11, .ref a12, .int 0, .int 0, .int 0, .int 0, .int 0, .int 0, .int 0, .int 0, .int 3, .int 0]))) [(a1, eL 0 (kA κ 1) 0), (a3, eL 0 (kA κ 1) 0), (a5, eL 0 (kA κ 1) 0), (a7, .inl (kT κ 0, (3, .inl (upd (upd (upd (fun _ => 0) 0 100) 1 10) 2 2)))), (a8, .inl (kT κ 0, (3, .inl (fun _ => 0)))), (a9, .inl (kT κ 0, (3, .inl (upd (upd (upd (fun _ => 0) 0 (-1)) 1 (-1)) 2 (-1))))), (a10, .inl (kT κ 0, (3, .inl (fun _ => 0)))), (a11, .inl (kT κ 2, (3, .inl (fun _ => 0)))), (a12, .inl (kT κ 0, (3, .inl (fun _ => 0))))] H := hR
  exact W.vret hx hb hr (fun t ht hW9 => ⟨⟨(a1, a3, a5, a7, a8, a9, a10, a11, a12), rfl, trivial, rpt ht hR⟩, hS.F ht⟩) hS.2.2 dX8_init_115
def yMkR (y : Ly) (_n : Nat) (q a1 a3 a5 a7 a8 a10 a12 u13 a14 a16 a19 a22 : Nat) : Ly := seA (seA (seA (seA (seA (seA (seA (seA (seA (seA (seA (seA (seA (seF (seF (seF (seF (seF (seF (seF (seF (seF (seF (seF (seF (seF (seF (seF (seF (seF (seF (seF (seF (seF (seF y 0 (0) 1) 40 (0) 1) 42 (0) 1) 44 (0) 1) 5 (0) 1) 1 (0) 1) 1 (1) 1) 2 (0) 1) 1 (2) 1) 3 (0) 1) 4 (0) 1) 4 (1) 1) 4 (2) 1) 41 (0) 0) 43 (0) 0) 45 (0) 0) 140 (0) 0) 142 (0) 0) 144 (0) 0) 240 (0) 0) 242 (0) 0) 244 (0) 0) 0 (0) (q)) 40 (0) (a1)) 42 (0) (a3)) 44 (0) (a5)) 5 (0) (a7)) 1 (0) (a8)) 1 (1) (a10)) 2 (0) (a12)) 1 (2) (u13)) 3 (0) (a14)) 4 (0) (a16)) 4 (1) (a19)) 4 (2) (a22)
def wMkR (w : Wd) (_n : Nat)  : Wd := sr (sr (sr (sr (sr (sr (sr (sr (sr w 0 (0) (fr [0, 0, 0, 0, 0, 0, 0, 0, 0, 5, 0, 3, 0, 0, 0])) 1 (0) (fr [0])) 1 (1) (fr [0])) 2 (0) (fr [0, 0])) 1 (2) (fr [0])) 3 (0) (fr [0])) 4 (0) (fr [100, 0, -1, 0, 0, 0])) 4 (1) (fr [10, 0, -1, 0, 0, 0])) 4 (2) (fr [2, 0, -1, 0, 0, 0])
theorem yMkR_1 {y : Ly} {_n q a1 a3 a5 a7 a8 a10 a12 u13 a14 a16 a19 a22 : Nat} {a b : Nat} (h : ¬ ((a = 0 ∧ b = 0) ∨ (a = 40 ∧ b = 0) ∨ (a = 42 ∧ b = 0) ∨ (a = 44 ∧ b = 0) ∨ (a = 5 ∧ b = 0) ∨ (a = 1 ∧ b = 0) ∨ (a = 1 ∧ b = 1) ∨ (a = 2 ∧ b = 0) ∨ (a = 1 ∧ b = 2) ∨ (a = 3 ∧ b = 0) ∨ (a = 4 ∧ b = 0) ∨ (a = 4 ∧ b = 1) ∨ (a = 4 ∧ b = 2) ∨ (a = 41 ∧ b = 0) ∨ (a = 43 ∧ b = 0) ∨ (a = 45 ∧ b = 0) ∨ (a = 140 ∧ b = 0) ∨ (a = 142 ∧ b = 0) ∨ (a = 144 ∧ b = 0) ∨ (a = 240 ∧ b = 0) ∨ (a = 242 ∧ b = 0) ∨ (a = 244 ∧ b = 0))) : (yMkR y _n q a1 a3 a5 a7 a8 a10 a12 u13 a14 a16 a19 a22).1 a b = y.1 a b := by
  show (seF (seF (seF (seF (seF (seF (seF (seF (seF (seF (seF (seF (seF (seF (seF (seF (seF (seF (seF (seF (seF (seF (y) 0 (0) 1) 40 (0) 1) 42 (0) 1) 44 (0) 1) 5 (0) 1) 1 (0) 1) 1 (1) 1) 2 (0) 1) 1 (2) 1) 3 (0) 1) 4 (0) 1) 4 (1) 1) 4 (2) 1) 41 (0) 0) 43 (0) 0) 45 (0) 0) 140 (0) 0) 142 (0) 0) 144 (0) 0) 240 (0) 0) 242 (0) 0) 244 (0) 0).1 a b = _
  rw [seF_ne (fun e => h (by omega)), seF_ne (fun e => h (by omega)), seF_ne (fun e => h (by omega)), seF_ne (fun e => h (by omega)), seF_ne (fun e => h (by omega)), seF_ne (fun e => h (by omega)), seF_ne (fun e => h (by omega)), seF_ne (fun e => h (by omega)), seF_ne (fun e => h (by omega)), seF_ne (fun e => h (by omega)), seF_ne (fun e => h (by omega)), seF_ne (fun e => h (by omega)), seF_ne (fun e => h (by omega)), seF_ne (fun e => h (by omega)), seF_ne (fun e => h (by omega)), seF_ne (fun e => h (by omega)), seF_ne (fun e => h (by omega)), seF_ne (fun e => h (by omega)), seF_ne (fun e => h (by omega)), seF_ne (fun e => h (by omega)), seF_ne (fun e => h (by omega)), seF_ne (fun e => h (by omega))]
theorem yMkR_2 {y : Ly} {_n q a1 a3 a5 a7 a8 a10 a12 u13 a14 a16 a19 a22 : Nat} {a b : Nat} (h : ¬ ((a = 0 ∧ b = 0) ∨ (a = 40 ∧ b = 0) ∨ (a = 42 ∧ b = 0) ∨ (a = 44 ∧ b = 0) ∨ (a = 5 ∧ b = 0) ∨ (a = 1 ∧ b = 0) ∨ (a = 1 ∧ b = 1) ∨ (a = 2 ∧ b = 0) ∨ (a = 1 ∧ b = 2) ∨ (a = 3 ∧ b = 0) ∨ (a = 4 ∧ b = 0) ∨ (a = 4 ∧ b = 1) ∨ (a = 4 ∧ b = 2))) : (yMkR y _n q a1 a3 a5 a7 a8 a10 a12 u13 a14 a16 a19 a22).2 a b = y.2 a b := by
  show (seA (seA (seA (seA (seA (seA (seA (seA (seA (seA (seA (seA (seA (y) 0 (0) (q)) 40 (0) (a1)) 42 (0) (a3)) 44 (0) (a5)) 5 (0) (a7)) 1 (0) (a8)) 1 (1) (a10)) 2 (0) (a12)) 1 (2) (u13)) 3 (0) (a14)) 4 (0) (a16)) 4 (1) (a19)) 4 (2) (a22)).2 a b = _
  rw [seA_ne (fun e => h (by omega)), seA_ne (fun e => h (by omega)), seA_ne (fun e => h (by omega)), seA_ne (fun e => h (by omega)), seA_ne (fun e => h (by omega)), seA_ne (fun e => h (by omega)), seA_ne (fun e => h (by omega)), seA_ne (fun e => h (by omega)), seA_ne (fun e => h (by omega)), seA_ne (fun e => h (by omega)), seA_ne (fun e => h (by omega)), seA_ne (fun e => h (by omega)), seA_ne (fun e => h (by omega))]
theorem yMkR_f0 {y : Ly} {_n q a1 a3 a5 a7 a8 a10 a12 u13 a14 a16 a19 a22 : Nat} : (yMkR y _n q a1 a3 a5 a7 a8 a10 a12 u13 a14 a16 a19 a22).1 0 (0) = 1 := by
  show (seF (seF (seF (seF (seF (seF (seF (seF (seF (seF (seF (seF (seF (seF (seF (seF (seF (seF (seF (seF (seF (seF (y) 0 (0) 1) 40 (0) 1) 42 (0) 1) 44 (0) 1) 5 (0) 1) 1 (0) 1) 1 (1) 1) 2 (0) 1) 1 (2) 1) 3 (0) 1) 4 (0) 1) 4 (1) 1) 4 (2) 1) 41 (0) 0) 43 (0) 0) 45 (0) 0) 140 (0) 0) 142 (0) 0) 144 (0) 0) 240 (0) 0) 242 (0) 0) 244 (0) 0).1 0 (0) = _
  rw [seF_ne (fun e => by omega), seF_ne (fun e => by omega), seF_ne (fun e => by omega), seF_ne (fun e => by omega), seF_ne (fun e => by omega), seF_ne (fun e => by omega), seF_ne (fun e => by omega), seF_ne (fun e => by omega), seF_ne (fun e => by omega), seF_ne (fun e => by omega), seF_ne (fun e => by omega), seF_ne (fun e => by omega), seF_ne (fun e => by omega), seF_ne (fun e => by omega), seF_ne (fun e => by omega), seF_ne (fun e => by omega), seF_ne (fun e => by omega), seF_ne (fun e => by omega), seF_ne (fun e => by omega), seF_ne (fun e => by omega), seF_ne (fun e => by omega), seF_eq]
theorem yMkR_f1 {y : Ly} {_n q a1 a3 a5 a7 a8 a10 a12 u13 a14 a16 a19 a22 : Nat} : (yMkR y _n q a1 a3 a5 a7 a8 a10 a12 u13 a14 a16 a19 a22).1 40 (0) = 1 := by
  show (seF (seF (seF (seF (seF (seF (seF (seF (seF (seF (seF (seF (seF (seF (seF (seF (seF (seF (seF (seF (seF (seF (y) 0 (0) 1) 40 (0) 1) 42 (0) 1) 44 (0) 1) 5 (0) 1) 1 (0) 1) 1 (1) 1) 2 (0) 1) 1 (2) 1) 3 (0) 1) 4 (0) 1) 4 (1) 1) 4 (2) 1) 41 (0) 0) 43 (0) 0) 45 (0) 0) 140 (0) 0) 142 (0) 0) 144 (0) 0) 240 (0) 0) 242 (0) 0) 244 (0) 0).1 40 (0) = _
  rw [seF_ne (fun e => by omega), seF_ne (fun e => by omega), seF_ne (fun e => by omega), seF_ne (fun e => by omega), seF_ne (fun e => by omega), seF_ne (fun e => by omega), seF_ne (fun e => by omega), seF_ne (fun e => by omega), seF_ne (fun e => by omega), seF_ne (fun e => by omega), seF_ne (fun e => by omega), seF_ne (fun e => by omega), seF_ne (fun e => by omega), seF_ne (fun e => by omega), seF_ne (fun e => by omega), seF_ne (fun e => by omega), seF_ne (fun e => by omega), seF_ne (fun e => by omega), seF_ne (fun e => by omega), seF_ne (fun e => by omega), seF_eq]
theorem yMkR_f2 {y : Ly} {_n q a1 a3 a5 a7 a8 a10 a12 u13 a14 a16 a19 a22 : Nat} : (yMkR y _n q a1 a3 a5 a7 a8 a10 a12 u13 a14 a16 a19 a22).1 42 (0) = 1 := by
  show (seF (seF (seF (seF (seF (seF (seF (seF (seF (seF (seF (seF (seF (seF (seF (seF (seF (seF (seF (seF (seF (seF (y) 0 (0) 1) 40 (0) 1) 42 (0) 1) 44 (0) 1) 5 (0) 1) 1 (0) 1) 1 (1) 1) 2 (0) 1) 1 (2) 1) 3 (0) 1) 4 (0) 1) 4 (1) 1) 4 (2) 1) 41 (0) 0) 43 (0) 0) 45 (0) 0) 140 (0) 0) 142 (0) 0) 144 (0) 0) 240 (0) 0) 242 (0) 0) 244 (0) 0).1 42 (0) = _
  rw [seF_ne (fun e => by omega), seF_ne (fun e => by omega), seF_ne (fun e => by omega), seF_ne (fun e => by omega), seF_ne (fun e => by omega), seF_ne (fun e => by omega), seF_ne (fun e => by omega), seF_ne (fun e => by omega), seF_ne (fun e => by omega), seF_ne (fun e => by omega), seF_ne (fun e => by omega), seF_ne (fun e => by omega), seF_ne (fun e => by omega), seF_ne (fun e => by omega), seF_ne (fun e => by omega), seF_ne (fun e => by omega), seF_ne (fun e => by omega), seF_ne (fun e => by omega), seF_ne (fun e => by omega), seF_eq]
theorem yMkR_f3 {y : Ly} {_n q a1 a3 a5 a7 a8 a10 a12 u13 a14 a16 a19 a22 : Nat} : (yMkR y _n q a1 a3 a5 a7 a8 a10 a12 u13 a14 a16 a19 a22).1 44 (0) = 1 := by
  show (seF (seF (seF (seF (seF (seF (seF (seF (seF (seF (seF (seF (seF (seF (seF (seF (seF (seF (seF (seF (seF (seF (y) 0 (0) 1) 40 (0) 1) 42 (0) 1) 44 (0) 1) 5 (0) 1) 1 (0) 1) 1 (1) 1) 2 (0) 1) 1 (2) 1) 3 (0) 1) 4 (0) 1) 4 (1) 1) 4 (2) 1) 41 (0) 0) 43 (0) 0) 45 (0) 0) 140 (0) 0) 142 (0) 0) 144 (0) 0) 240 (0) 0) 242 (0) 0) 244 (0) 0).1 44 (0) = _
  rw [seF_ne (fun e => by omega), seF_ne (fun e => by omega), seF_ne (fun e => by omega), seF_ne (fun e => by omega), seF_ne (fun e => by omega), seF_ne (fun e => by omega), seF_ne (fun e => by omega), seF_ne (fun e => by omega), seF_ne (fun e => by omega), seF_ne (fun e => by omega), seF_ne (fun e => by omega), seF_ne (fun e => by omega), seF_ne (fun e => by omega), seF_ne (fun e => by omega), seF_ne (fun e => by omega), seF_ne (fun e => by omega), seF_ne (fun e => by omega), seF_ne (fun e => by omega), seF_eq]
theorem yMkR_f4 {y : Ly} {_n q a1 a3 a5 a7 a8 a10 a12 u13 a14 a16 a19 a22 : Nat} : (yMkR y _n q a1 a3 a5 a7 a8 a10 a12 u13 a14 a16 a19 a22).1 5 (0) = 1 := by
  show (seF (seF (seF (seF (seF (seF (seF (seF (seF (seF (seF (seF (seF (seF (seF (seF (seF (seF (seF (seF (seF (seF (y) 0 (0) 1) 40 (0) 1) 42 (0) 1) 44 (0) 1) 5 (0) 1) 1 (0) 1) 1 (1) 1) 2 (0) 1) 1 (2) 1) 3 (0) 1) 4 (0) 1) 4 (1) 1) 4 (2) 1) 41 (0) 0) 43 (0) 0) 45 (0) 0) 140 (0) 0) 142 (0) 0) 144 (0) 0) 240 (0) 0) 242 (0) 0) 244 (0) 0).1 5 (0) = _
  rw [seF_ne (fun e => by omega), seF_ne (fun e => by omega), seF_ne (fun e => by omega), seF_ne (fun e => by omega), seF_ne (fun e => by omega), seF_ne (fun e => by omega), seF_ne (fun e => by omega), seF_ne (fun e => by omega), seF_ne (fun e => by omega), seF_ne (fun e => by omega), seF_ne (fun e => by omega), seF_ne (fun e => by omega), seF_ne (fun e => by omega), seF_ne (fun e => by omega), seF_ne (fun e => by omega), seF_ne (fun e => by omega), seF_ne (fun e => by omega), seF_eq]
theorem yMkR_f5 {y : Ly} {_n q a1 a3 a5 a7 a8 a10 a12 u13 a14 a16 a19 a22 : Nat} : (yMkR y _n q a1 a3 a5 a7 a8 a10 a12 u13 a14 a16 a19 a22).1 1 (0) = 1 := by
  show (seF (seF (seF (seF (seF (seF (seF (seF (seF (seF (seF (seF (seF (seF (seF (seF (seF (seF (seF (seF (seF (seF (y) 0 (0) 1) 40 (0) 1) 42 (0) 1) 44 (0) 1) 5 (0) 1) 1 (0) 1) 1 (1) 1) 2 (0) 1) 1 (2) 1) 3 (0) 1) 4 (0) 1) 4 (1) 1) 4 (2) 1) 41 (0) 0) 43 (0) 0) 45 (0) 0) 140 (0) 0) 142 (0) 0) 144 (0) 0) 240 (0) 0) 242 (0) 0) 244 (0) 0).1 1 (0) = _
  rw [seF_ne (fun e => by omega), seF_ne (fun e => by omega), seF_ne (fun e => by omega), seF_ne (fun e => by omega), seF_ne (fun e => by omega), seF_ne (fun e => by omega), seF_ne (fun e => by omega), seF_ne (fun e => by omega), seF_ne (fun e => by omega), seF_ne (fun e => by omega), seF_ne (fun e => by omega), seF_ne (fun e => by omega), seF_ne (fun e => by omega), seF_ne (fun e => by omega), seF_ne (fun e => by omega), seF_ne (fun e => by omega), seF_eq]
theorem yMkR_f6 {y : Ly} {_n q a1 a3 a5 a7 a8 a10 a12 u13 a14 a16 a19 a22 : Nat} : (yMkR y _n q a1 a3 a5 a7 a8 a10 a12 u13 a14 a16 a19 a22).1 1 (1) = 1 := by
  show (seF (seF (seF (seF (seF (seF (seF (seF (seF (seF (seF (seF (seF (seF (seF (seF (seF (seF (seF (seF (seF (seF (y) 0 (0) 1) 40 (0) 1) 42 (0) 1) 44 (0) 1) 5 (0) 1) 1 (0) 1) 1 (1) 1) 2 (0) 1) 1 (2) 1) 3 (0) 1) 4 (0) 1) 4 (1) 1) 4 (2) 1) 41 (0) 0) 43 (0) 0) 45 (0) 0) 140 (0) 0) 142 (0) 0) 144 (0) 0) 240 (0) 0) 242 (0) 0) 244 (0) 0).1 1 (1) = _
  rw [seF_ne (fun e => by omega), seF_ne (fun e => by omega), seF_ne (fun e => by omega), seF_ne (fun e => by omega), seF_ne (fun e => by omega), seF_ne (fun e => by omega), seF_ne (fun e => by omega), seF_ne (fun e => by omega), seF_ne (fun e => by omega), seF_ne (fun e => by omega), seF_ne (fun e => by omega), seF_ne (fun e => by omega), seF_ne (fun e => by omega), seF_ne (fun e => by omega), seF_ne (fun e => by omega), seF_eq]
theorem yMkR_f7 {y : Ly} {_n q a1 a3 a5 a7 a8 a10 a12 u13 a14 a16 a19 a22 : Nat} : (yMkR y _n q a1 a3 a5 a7 a8 a10 a12 u13 a14 a16 a19 a22).1 2 (0) = 1 := by
  show (seF (seF (seF (seF (seF (seF (seF (seF (seF (seF (seF (seF (seF (seF (seF (seF (seF (seF (seF (seF (seF (seF (y) 0 (0) 1) 40 (0) 1) 42 (0) 1) 44 (0) 1) 5 (0) 1) 1 (0) 1) 1 (1) 1) 2 (0) 1) 1 (2) 1) 3 (0) 1) 4 (0) 1) 4 (1) 1) 4 (2) 1) 41 (0) 0) 43 (0) 0) 45 (0) 0) 140 (0) 0) 142 (0) 0) 144 (0) 0) 240 (0) 0) 242 (0) 0) 244 (0) 0).1 2 (0) = _
  rw [seF_ne (fun e => by omega), seF_ne (fun e => by omega), seF_ne (fun e => by omega), seF_ne (fun e => by omega), seF_ne (fun e => by omega), seF_ne (fun e => by omega), seF_ne (fun e => by omega), seF_ne (fun e => by omega), seF_ne (fun e => by omega), seF_ne (fun e => by omega), seF_ne (fun e => by omega), seF_ne (fun e => by omega), seF_ne (fun e => by omega), seF_ne (fun e => by omega), seF_eq]
theorem yMkR_f8 {y : Ly} {_n q a1 a3 a5 a7 a8 a10 a12 u13 a14 a16 a19 a22 : Nat} : (yMkR y _n q a1 a3 a5 a7 a8 a10 a12 u13 a14 a16 a19 a22).1 1 (2) = 1 := by
  show (seF (seF (seF (seF (seF (seF (seF (seF (seF (seF (seF (seF (seF (seF (seF (seF (seF (seF (seF (seF (seF (seF (y) 0 (0) 1) 40 (0) 1) 42 (0) 1) 44 (0) 1) 5 (0) 1) 1 (0) 1) 1 (1) 1) 2 (0) 1) 1 (2) 1) 3 (0) 1) 4 (0) 1) 4 (1) 1) 4 (2) 1) 41 (0) 0) 43 (0) 0) 45 (0) 0) 140 (0) 0) 142 (0) 0) 144 (0) 0) 240 (0) 0) 242 (0) 0) 244 (0) 0).1 1 (2) = _
  rw [seF_ne (fun e => by omega), seF_ne (fun e => by omega), seF_ne (fun e => by omega), seF_ne (fun e => by omega), seF_ne (fun e => by omega), seF_ne (fun e => by omega), seF_ne (fun e => by omega), seF_ne (fun e => by omega), seF_ne (fun e => by omega), seF_ne (fun e => by omega), seF_ne (fun e => by omega), seF_ne (fun e => by omega), seF_ne (fun e => by omega), seF_eq]
theorem yMkR_f9 {y : Ly} {_n q a1 a3 a5 a7 a8 a10 a12 u13 a14 a16 a19 a22 : Nat} : (yMkR y _n q a1 a3 a5 a7 a8 a10 a12 u13 a14 a16 a19 a22).1 3 (0) = 1 := by
  show (seF (seF (seF (seF (seF (seF (seF (seF (seF (seF (seF (seF (seF (seF (seF (seF (seF (seF (seF (seF (seF (seF (y) 0 (0) 1) 40 (0) 1) 42 (0) 1) 44 (0) 1) 5 (0) 1) 1 (0) 1) 1 (1) 1) 2 (0) 1) 1 (2) 1) 3 (0) 1) 4 (0) 1) 4 (1) 1) 4 (2) 1) 41 (0) 0) 43 (0) 0) 45 (0) 0) 140 (0) 0) 142 (0) 0) 144 (0) 0) 240 (0) 0) 242 (0) 0) 244 (0) 0).1 3 (0) = _
  rw [seF_ne (fun e => by omega), seF_ne (fun e => by omega), seF_ne (fun e => by omega), seF_ne (fun e => by omega), seF_ne (fun e => by omega), seF_ne (fun e => by omega), seF_ne (fun e => by omega), seF_ne (fun e => by omega), seF_ne (fun e => by omega), seF_ne (fun e => by omega), seF_ne (fun e => by omega), seF_ne (fun e => by omega), seF_eq]
theorem yMkR_f10 {y : Ly} {_n q a1 a3 a5 a7 a8 a10 a12 u13 a14 a16 a19 a22 : Nat} : (yMkR y _n q a1 a3 a5 a7 a8 a10 a12 u13 a14 a16 a19 a22).1 4 (0) = 1 := by
  show (seF (seF (seF (seF (seF (seF (seF (seF (seF (seF (seF (seF (seF (seF (seF (seF (seF (seF (seF (seF (seF (seF (y) 0 (0) 1) 40 (0) 1) 42 (0) 1) 44 (0) 1) 5 (0) 1) 1 (0) 1) 1 (1) 1) 2 (0) 1) 1 (2) 1) 3 (0) 1) 4 (0) 1) 4 (1) 1) 4 (2) 1) 41 (0) 0) 43 (0) 0) 45 (0) 0) 140 (0) 0) 142 (0) 0) 144 (0) 0) 240 (0) 0) 242 (0) 0) 244 (0) 0).1 4 (0) = _
  rw [seF_ne (fun e => by omega), seF_ne (fun e => by omega), seF_ne (fun e => by omega), seF_ne (fun e => by omega), seF_ne (fun e => by omega), seF_ne (fun e => by omega), seF_ne (fun e => by omega), seF_ne (fun e => by omega), seF_ne (fun e => by omega), seF_ne (fun e => by omega), seF_ne (fun e => by omega), seF_eq]
theorem yMkR_f11 {y : Ly} {_n q a1 a3 a5 a7 a8 a10 a12 u13 a14 a16 a19 a22 : Nat} : (yMkR y _n q a1 a3 a5 a7 a8 a10 a12 u13 a14 a16 a19 a22).1 4 (1) = 1 := by
  show (seF (seF (seF (seF (seF (seF (seF (seF (seF (seF (seF (seF (seF (seF (seF (seF (seF (seF (seF (seF (seF (seF (y) 0 (0) 1) 40 (0) 1) 42 (0) 1) 44 (0) 1) 5 (0) 1) 1 (0) 1) 1 (1) 1) 2 (0) 1) 1 (2) 1) 3 (0) 1) 4 (0) 1) 4 (1) 1) 4 (2) 1) 41 (0) 0) 43 (0) 0) 45 (0) 0) 140 (0) 0) 142 (0) 0) 144 (0) 0) 240 (0) 0) 242 (0) 0) 244 (0) 0).1 4 (1) = _
  rw [seF_ne (fun e => by omega), seF_ne (fun e => by omega), seF_ne (fun e => by omega), seF_ne (fun e => by omega), seF_ne (fun e => by omega), seF_ne (fun e => by omega), seF_ne (fun e => by omega), seF_ne (fun e => by omega), seF_ne (fun e => by omega), seF_ne (fun e => by omega), seF_eq]
theorem yMkR_f12 {y : Ly} {_n q a1 a3 a5 a7 a8 a10 a12 u13 a14 a16 a19 a22 : Nat} : (yMkR y _n q a1 a3 a5 a7 a8 a10 a12 u13 a14 a16 a19 a22).1 4 (2) = 1 := by
  show (seF (seF (seF (seF (seF (seF (seF (seF (seF (seF (seF (seF (seF (seF (seF (seF (seF (seF (seF (seF (seF (seF (y) 0 (0) 1) 40 (0) 1) 42 (0) 1) 44 (0) 1) 5 (0) 1) 1 (0) 1) 1 (1) 1) 2 (0) 1) 1 (2) 1) 3 (0) 1) 4 (0) 1) 4 (1) 1) 4 (2) 1) 41 (0) 0) 43 (0) 0) 45 (0) 0) 140 (0) 0) 142 (0) 0) 144 (0) 0) 240 (0) 0) 242 (0) 0) 244 (0) 0).1 4 (2) = _
  rw [seF_ne (fun e => by omega), seF_ne (fun e => by omega), seF_ne (fun e => by omega), seF_ne (fun e => by omega), seF_ne (fun e => by omega), seF_ne (fun e => by omega), seF_ne (fun e => by omega), seF_ne (fun e => by omega), seF_ne (fun e => by omega), seF_eq]
theorem yMkR_f13 {y : Ly} {_n q a1 a3 a5 a7 a8 a10 a12 u13 a14 a16 a19 a22 : Nat} : (yMkR y _n q a1 a3 a5 a7 a8 a10 a12 u13 a14 a16 a19 a22).1 41 (0) = 0 := by
  show (seF (seF (seF (seF (seF (seF (seF (seF (seF (seF (seF (seF (seF (seF (seF (seF (seF (seF (seF (seF (seF (seF (y) 0 (0) 1) 40 (0) 1) 42 (0) 1) 44 (0) 1) 5 (0) 1) 1 (0) 1) 1 (1) 1) 2 (0) 1) 1 (2) 1) 3 (0) 1) 4 (0) 1) 4 (1) 1) 4 (2) 1) 41 (0) 0) 43 (0) 0) 45 (0) 0) 140 (0) 0) 142 (0) 0) 144 (0) 0) 240 (0) 0) 242 (0) 0) 244 (0) 0).1 41 (0) = _
  rw [seF_ne (fun e => by omega), seF_ne (fun e => by omega), seF_ne (fun e => by omega), seF_ne (fun e => by omega), seF_ne (fun e => by omega), seF_ne (fun e => by omega), seF_ne (fun e => by omega), seF_ne (fun e => by omega), seF_eq]
theorem yMkR_f14 {y : Ly} {_n q a1 a3 a5 a7 a8 a10 a12 u13 a14 a16 a19 a22 : Nat} : (yMkR y _n q a1 a3 a5 a7 a8 a10 a12 u13 a14 a16 a19 a22).1 43 (0) = 0 := by
  show (seF (seF (seF (seF (seF (seF (seF (seF (seF (seF (seF (seF (seF (seF (seF (seF (seF (seF (seF (seF (seF (seF (y) 0 (0) 1) 40 (0) 1) 42 (0) 1) 44 (0) 1) 5 (0) 1) 1 (0) 1) 1 (1) 1) 2 (0) 1) 1 (2) 1) 3 (0) 1) 4 (0) 1) 4 (1) 1) 4 (2) 1) 41 (0) 0) 43 (0) 0) 45 (0) 0) 140 (0) 0) 142 (0) 0) 144 (0) 0) 240 (0) 0) 242 (0) 0) 244 (0) 0).1 43 (0) = _
  rw [seF_ne (fun e => by omega), seF_ne (fun e => by omega), seF_ne (fun e => by omega), seF_ne (fun e => by omega), seF_ne (fun e => by omega), seF_ne (fun e => by omega), seF_ne (fun e => by omega), seF_eq]
theorem yMkR_f15 {y : Ly} {_n q a1 a3 a5 a7 a8 a10 a12 u13 a14 a16 a19 a22 : Nat} : (yMkR y _n q a1 a3 a5 a7 a8 a10 a12 u13 a14 a16 a19 a22).1 45 (0) = 0 := by
  show (seF (seF (seF (seF (seF (seF (seF (seF (seF (seF (seF (seF (seF (seF (seF (seF (seF (seF (seF (seF (seF (seF (y) 0 (0) 1) 40 (0) 1) 42 (0) 1) 44 (0) 1) 5 (0) 1) 1 (0) 1) 1 (1) 1) 2 (0) 1) 1 (2) 1) 3 (0) 1) 4 (0) 1) 4 (1) 1) 4 (2) 1) 41 (0) 0) 43 (0) 0) 45 (0) 0) 140 (0) 0) 142 (0) 0) 144 (0) 0) 240 (0) 0) 242 (0) 0) 244 (0) 0).1 45 (0) = _
  rw [seF_ne (fun e => by omega), seF_ne (fun e => by omega), seF_ne (fun e => by omega), seF_ne (fun e => by omega), seF_ne (fun e => by omega), seF_ne (fun e => by omega), seF_eq]
theorem yMkR_f16 {y : Ly} {_n q a1 a3 a5 a7 a8 a10 a12 u13 a14 a16 a19 a22 : Nat} : (yMkR y _n q a1 a3 a5 a7 a8 a10 a12 u13 a14 a16 a19 a22).1 140 (0) = 0 := by
  show (seF (seF (seF (seF (seF (seF (seF (seF (seF (seF (seF (seF (seF (seF (seF (seF (seF (seF (seF (seF (seF (seF (y) 0 (0) 1) 40 (0) 1) 42 (0) 1) 44 (0) 1) 5 (0) 1) 1 (0) 1) 1 (1) 1) 2 (0) 1) 1 (2) 1) 3 (0) 1) 4 (0) 1) 4 (1) 1) 4 (2) 1) 41 (0) 0) 43 (0) 0) 45 (0) 0) 140 (0) 0) 142 (0) 0) 144 (0) 0) 240 (0) 0) 242 (0) 0) 244 (0) 0).1 140 (0) = _
  rw [seF_ne (fun e => by omega), seF_ne (fun e => by omega), seF_ne (fun e => by omega), seF_ne (fun e => by omega), seF_ne (fun e => by omega), seF_eq]
theorem yMkR_f17 {y : Ly} {_n q a1 a3 a5 a7 a8 a10 a12 u13 a14 a16 a19 a22 : Nat} : (yMkR y _n q a1 a3 a5 a7 a8 a10 a12 u13 a14 a16 a19 a22).1 142 (0) = 0 := by
  show (seF (seF (seF (seF (seF (seF (seF (seF (seF (seF (seF (seF (seF (seF (seF (seF (seF (seF (seF (seF (seF (seF (y) 0 (0) 1) 40 (0) 1) 42 (0) 1) 44 (0) 1) 5 (0) 1) 1 (0) 1) 1 (1) 1) 2 (0) 1) 1 (2) 1) 3 (0) 1) 4 (0) 1) 4 (1) 1) 4 (2) 1) 41 (0) 0) 43 (0) 0) 45 (0) 0) 140 (0) 0) 142 (0) 0) 144 (0) 0) 240 (0) 0) 242 (0) 0) 244 (0) 0).1 142 (0) = _
  rw [seF_ne (fun e => by omega), seF_ne (fun e => by omega), seF_ne (fun e => by omega), seF_ne (fun e => by omega), seF_eq]
theorem yMkR_f18 {y : Ly} {_n q a1 a3 a5 a7 a8 a10 a12 u13 a14 a16 a19 a22 : Nat} : (yMkR y _n q a1 a3 a5 a7 a8 a10 a12 u13 a14 a16 a19 a22).1 144 (0) = 0 := by
  show (seF (seF (seF (seF (seF (seF (seF (seF (seF (seF (seF (seF (seF (seF (seF (seF (seF (seF (seF (seF (seF (seF (y) 0 (0) 1) 40 (0) 1) 42 (0) 1) 44 (0) 1) 5 (0) 1) 1 (0) 1) 1 (1) 1) 2 (0) 1) 1 (2) 1) 3 (0) 1) 4 (0) 1) 4 (1) 1) 4 (2) 1) 41 (0) 0) 43 (0) 0) 45 (0) 0) 140 (0) 0) 142 (0) 0) 144 (0) 0) 240 (0) 0) 242 (0) 0) 244 (0) 0).1 144 (0) = _
  rw [seF_ne (fun e => by omega), seF_ne (fun e => by omega), seF_ne (fun e => by omega), seF_eq]
theorem yMkR_f19 {y : Ly} {_n q a1 a3 a5 a7 a8 a10 a12 u13 a14 a16 a19 a22 : Nat} : (yMkR y _n q a1 a3 a5 a7 a8 a10 a12 u13 a14 a16 a19 a22).1 240 (0) = 0 := by
  show (seF (seF (seF (seF (seF (seF (seF (seF (seF (seF (seF (seF (seF (seF (seF (seF (seF (seF (seF (seF (seF (seF (y) 0 (0) 1) 40 (0) 1) 42 (0) 1) 44 (0) 1) 5 (0) 1) 1 (0) 1) 1 (1) 1) 2 (0) 1) 1 (2) 1) 3 (0) 1) 4 (0) 1) 4 (1) 1) 4 (2) 1) 41 (0) 0) 43 (0) 0) 45 (0) 0) 140 (0) 0) 142 (0) 0) 144 (0) 0) 240 (0) 0) 242 (0) 0) 244 (0) 0).1 240 (0) = _
  rw [seF_ne (fun e => by omega), seF_ne (fun e => by omega), seF_eq]
theorem yMkR_f20 {y : Ly} {_n q a1 a3 a5 a7 a8 a10 a12 u13 a14 a16 a19 a22 : Nat} : (yMkR y _n q a1 a3 a5 a7 a8 a10 a12 u13 a14 a16 a19 a22).1 242 (0) = 0 := by
  show (seF (seF (seF (seF (seF (seF (seF (seF (seF (seF (seF (seF (seF (seF (seF (seF (seF (seF (seF (seF (seF (seF (y) 0 (0) 1) 40 (0) 1) 42 (0) 1) 44 (0) 1) 5 (0) 1) 1 (0) 1) 1 (1) 1) 2 (0) 1) 1 (2) 1) 3 (0) 1) 4 (0) 1) 4 (1) 1) 4 (2) 1) 41 (0) 0) 43 (0) 0) 45 (0) 0) 140 (0) 0) 142 (0) 0) 144 (0) 0) 240 (0) 0) 242 (0) 0) 244 (0) 0).1 242 (0) = _
  rw [seF_ne (fun e => by omega), seF_eq]
theorem yMkR_f21 {y : Ly} {_n q a1 a3 a5 a7 a8 a10 a12 u13 a14 a16 a19 a22 : Nat} : (yMkR y _n q a1 a3 a5 a7 a8 a10 a12 u13 a14 a16 a19 a22).1 244 (0) = 0 := by
  show (seF (seF (seF (seF (seF (seF (seF (seF (seF (seF (seF (seF (seF (seF (seF (seF (seF (seF (seF (seF (seF (seF (y) 0 (0) 1) 40 (0) 1) 42 (0) 1) 44 (0) 1) 5 (0) 1) 1 (0) 1) 1 (1) 1) 2 (0) 1) 1 (2) 1) 3 (0) 1) 4 (0) 1) 4 (1) 1) 4 (2) 1) 41 (0) 0) 43 (0) 0) 45 (0) 0) 140 (0) 0) 142 (0) 0) 144 (0) 0) 240 (0) 0) 242 (0) 0) 244 (0) 0).1 244 (0) = _
  rw [seF_eq]
theorem yMkR_a0 {y : Ly} {_n q a1 a3 a5 a7 a8 a10 a12 u13 a14 a16 a19 a22 : Nat} : (yMkR y _n q a1 a3 a5 a7 a8 a10 a12 u13 a14 a16 a19 a22).2 0 (0) = q := by
  show (seA (seA (seA (seA (seA (seA (seA (seA (seA (seA (seA (seA (seA (y) 0 (0) (q)) 40 (0) (a1)) 42 (0) (a3)) 44 (0) (a5)) 5 (0) (a7)) 1 (0) (a8)) 1 (1) (a10)) 2 (0) (a12)) 1 (2) (u13)) 3 (0) (a14)) 4 (0) (a16)) 4 (1) (a19)) 4 (2) (a22)).2 0 (0) = _
  rw [seA_ne (fun e => by omega), seA_ne (fun e => by omega), seA_ne (fun e => by omega), seA_ne (fun e => by omega), seA_ne (fun e => by omega), seA_ne (fun e => by omega), seA_ne (fun e => by omega), seA_ne (fun e => by omega), seA_ne (fun e => by omega), seA_ne (fun e => by omega), seA_ne (fun e => by omega), seA_ne (fun e => by omega), seA_eq]
theorem yMkR_a1 {y : Ly} {_n q a1 a3 a5 a7 a8 a10 a12 u13 a14 a16 a19 a22 : Nat} : (yMkR y _n q a1 a3 a5 a7 a8 a10 a12 u13 a14 a16 a19 a22).2 40 (0) = a1 := by
  show (seA (seA (seA (seA (seA (seA (seA (seA (seA (seA (seA (seA (seA (y) 0 (0) (q)) 40 (0) (a1)) 42 (0) (a3)) 44 (0) (a5)) 5 (0) (a7)) 1 (0) (a8)) 1 (1) (a10)) 2 (0) (a12)) 1 (2) (u13)) 3 (0) (a14)) 4 (0) (a16)) 4 (1) (a19)) 4 (2) (a22)).2 40 (0) = _
  rw [seA_ne (fun e => by omega), seA_ne (fun e => by omega), seA_ne (fun e => by omega), seA_ne (fun e => by omega), seA_ne (fun e => by omega), seA_ne (fun e => by omega), seA_ne (fun e => by omega), seA_ne (fun e => by omega), seA_ne (fun e => by omega), seA_ne (fun e => by omega), seA_ne (fun e => by omega), seA_eq]
theorem yMkR_a2 {y : Ly} {_n q a1 a3 a5 a7 a8 a10 a12 u13 a14 a16 a19 a22 : Nat} : (yMkR y _n q a1 a3 a5 a7 a8 a10 a12 u13 a14 a16 a19 a22).2 42 (0) = a3 := by
  show (seA (seA (seA (seA (seA (seA (seA (seA (seA (seA (seA (seA (seA (y) 0 (0) (q)) 40 (0) (a1)) 42 (0) (a3)) 44 (0) (a5)) 5 (0) (a7)) 1 (0) (a8)) 1 (1) (a10)) 2 (0) (a12)) 1 (2) (u13)) 3 (0) (a14)) 4 (0) (a16)) 4 (1) (a19)) 4 (2) (a22)).2 42 (0) = _
  rw [seA_ne (fun e => by omega), seA_ne (fun e => by omega), seA_ne (fun e => by omega), seA_ne (fun e => by omega), seA_ne (fun e => by omega), seA_ne (fun e => by omega), seA_ne (fun e => by omega), seA_ne (fun e => by omega), seA_ne (fun e => by omega), seA_ne (fun e => by omega), seA_eq]
theorem yMkR_a3 {y : Ly} {_n q a1 a3 a5 a7 a8 a10 a12 u13 a14 a16 a19 a22 : Nat} : (yMkR y _n q a1 a3 a5 a7 a8 a10 a12 u13 a14 a16 a19 a22).2 44 (0) = a5 := by
  show (seA (seA (seA (seA (seA (seA (seA (seA (seA (seA (seA (seA (seA (y) 0 (0) (q)) 40 (0) (a1)) 42 (0) (a3)) 44 (0) (a5)) 5 (0) (a7)) 1 (0) (a8)) 1 (1) (a10)) 2 (0) (a12)) 1 (2) (u13)) 3 (0) (a14)) 4 (0) (a16)) 4 (1) (a19)) 4 (2) (a22)).2 44 (0) = _
  rw [seA_ne (fun e => by omega), seA_ne (fun e => by omega), seA_ne (fun e => by omega), seA_ne (fun e => by omega), seA_ne (fun e => by omega), seA_ne (fun e => by omega), seA_ne (fun e => by omega), seA_ne (fun e => by omega), seA_ne (fun e => by omega), seA_eq]
theorem yMkR_a4 {y : Ly} {_n q a1 a3 a5 a7 a8 a10 a12 u13 a14 a16 a19 a22 : Nat} : (yMkR y _n q a1 a3 a5 a7 a8 a10 a12 u13 a14 a16 a19 a22).2 5 (0) = a7 := by
  show (seA (seA (seA (seA (seA (seA (seA (seA (seA (seA (seA (seA (seA (y) 0 (0) (q)) 40 (0) (a1)) 42 (0) (a3)) 44 (0) (a5)) 5 (0) (a7)) 1 (0) (a8)) 1 (1) (a10)) 2 (0) (a12)) 1 (2) (u13)) 3 (0) (a14)) 4 (0) (a16)) 4 (1) (a19)) 4 (2) (a22)).2 5 (0) = _
  rw [seA_ne (fun e => by omega), seA_ne (fun e => by omega), seA_ne (fun e => by omega), seA_ne (fun e => by omega), seA_ne (fun e => by omega), seA_ne (fun e => by omega), seA_ne (fun e => by omega), seA_ne (fun e => by omega), seA_eq]
theorem yMkR_a5 {y : Ly} {_n q a1 a3 a5 a7 a8 a10 a12 u13 a14 a16 a19 a22 : Nat} : (yMkR y _n q a1 a3 a5 a7 a8 a10 a12 u13 a14 a16 a19 a22).2 1 (0) = a8 := by
  show (seA (seA (seA (seA (seA (seA (seA (seA (seA (seA (seA (seA (seA (y) 0 (0) (q)) 40 (0) (a1)) 42 (0) (a3)) 44 (0) (a5)) 5 (0) (a7)) 1 (0) (a8)) 1 (1) (a10)) 2 (0) (a12)) 1 (2) (u13)) 3 (0) (a14)) 4 (0) (a16)) 4 (1) (a19)) 4 (2) (a22)).2 1 (0) = _
  rw [seA_ne (fun e => by omega), seA_ne (fun e => by omega), seA_ne (fun e => by omega), seA_ne (fun e => by omega), seA_ne (fun e => by omega), seA_ne (fun e => by omega), seA_ne (fun e => by omega), seA_eq]
theorem yMkR_a6 {y : Ly} {_n q a1 a3 a5 a7 a8 a10 a12 u13 a14 a16 a19 a22 : Nat} : (yMkR y _n q a1 a3 a5 a7 a8 a10 a12 u13 a14 a16 a19 a22).2 1 (1) = a10 := by
  show (seA (seA (seA (seA (seA (seA (seA (seA (seA (seA (seA (seA (seA (y) 0 (0) (q)) 40 (0) (a1)) 42 (0) (a3)) 44 (0) (a5)) 5 (0) (a7)) 1 (0) (a8)) 1 (1) (a10)) 2 (0) (a12)) 1 (2) (u13)) 3 (0) (a14)) 4 (0) (a16)) 4 (1) (a19)) 4 (2) (a22)).2 1 (1) = _
  rw [seA_ne (fun e => by omega), seA_ne (fun e => by omega), seA_ne (fun e => by omega), seA_ne (fun e => by omega), seA_ne (fun e => by omega), seA_ne (fun e => by omega), seA_eq]
theorem yMkR_a7 {y : Ly} {_n q a1 a3 a5 a7 a8 a10 a12 u13 a14 a16 a19 a22 : Nat} : (yMkR y _n q a1 a3 a5 a7 a8 a10 a12 u13 a14 a16 a19 a22).2 2 (0) = a12 := by
  show (seA (seA (seA (seA (seA (seA (seA (seA (seA (seA (seA (seA (seA (y) 0 (0) (q)) 40 (0) (a1)) 42 (0) (a3)) 44 (0) (a5)) 5 (0) (a7)) 1 (0) (a8)) 1 (1) (a10)) 2 (0) (a12)) 1 (2) (u13)) 3 (0) (a14)) 4 (0) (a16)) 4 (1) (a19)) 4 (2) (a22)).2 2 (0) = _
  rw [seA_ne (fun e => by omega), seA_ne (fun e => by omega), seA_ne (fun e => by omega), seA_ne (fun e => by omega), seA_ne (fun e => by omega), seA_eq]
theorem yMkR_a8 {y : Ly} {_n q a1 a3 a5 a7 a8 a10 a12 u13 a14 a16 a19 a22 : Nat} : (yMkR y _n q a1 a3 a5 a7 a8 a10 a12 u13 a14 a16 a19 a22).2 1 (2) = u13 := by
  show (seA (seA (seA (seA (seA (seA (seA (seA (seA (seA (seA (seA (seA (y) 0 (0) (q)) 40 (0) (a1)) 42 (0) (a3)) 44 (0) (a5)) 5 (0) (a7)) 1 (0) (a8)) 1 (1) (a10)) 2 (0) (a12)) 1 (2) (u13)) 3 (0) (a14)) 4 (0) (a16)) 4 (1) (a19)) 4 (2) (a22)).2 1 (2) = _
  rw [seA_ne (fun e => by omega), seA_ne (fun e => by omega), seA_ne (fun e => by omega), seA_ne (fun e => by omega), seA_eq]
theorem yMkR_a9 {y : Ly} {_n q a1 a3 a5 a7 a8 a10 a12 u13 a14 a16 a19 a22 : Nat} : (yMkR y _n q a1 a3 a5 a7 a8 a10 a12 u13 a14 a16 a19 a22).2 3 (0) = a14 := by
  show (seA (seA (seA (seA (seA (seA (seA (seA (seA (seA (seA (seA (seA (y) 0 (0) (q)) 40 (0) (a1)) 42 (0) (a3)) 44 (0) (a5)) 5 (0) (a7)) 1 (0) (a8)) 1 (1) (a10)) 2 (0) (a12)) 1 (2) (u13)) 3 (0) (a14)) 4 (0) (a16)) 4 (1) (a19)) 4 (2) (a22)).2 3 (0) = _
  rw [seA_ne (fun e => by omega), seA_ne (fun e => by omega), seA_ne (fun e => by omega), seA_eq]
theorem yMkR_a10 {y : Ly} {_n q a1 a3 a5 a7 a8 a10 a12 u13 a14 a16 a19 a22 : Nat} : (yMkR y _n q a1 a3 a5 a7 a8 a10 a12 u13 a14 a16 a19 a22).2 4 (0) = a16 := by
  show (seA (seA (seA (seA (seA (seA (seA (seA (seA (seA (seA (seA (seA (y) 0 (0) (q)) 40 (0) (a1)) 42 (0) (a3)) 44 (0) (a5)) 5 (0) (a7)) 1 (0) (a8)) 1 (1) (a10)) 2 (0) (a12)) 1 (2) (u13)) 3 (0) (a14)) 4 (0) (a16)) 4 (1) (a19)) 4 (2) (a22)).2 4 (0) = _
  rw [seA_ne (fun e => by omega), seA_ne (fun e => by omega), seA_eq]
theorem yMkR_a11 {y : Ly} {_n q a1 a3 a5 a7 a8 a10 a12 u13 a14 a16 a19 a22 : Nat} : (yMkR y _n q a1 a3 a5 a7 a8 a10 a12 u13 a14 a16 a19 a22).2 4 (1) = a19 := by
  show (seA (seA (seA (seA (seA (seA (seA (seA (seA (seA (seA (seA (seA (y) 0 (0) (q)) 40 (0) (a1)) 42 (0) (a3)) 44 (0) (a5)) 5 (0) (a7)) 1 (0) (a8)) 1 (1) (a10)) 2 (0) (a12)) 1 (2) (u13)) 3 (0) (a14)) 4 (0) (a16)) 4 (1) (a19)) 4 (2) (a22)).2 4 (1) = _
  rw [seA_ne (fun e => by omega), seA_eq]
theorem yMkR_a12 {y : Ly} {_n q a1 a3 a5 a7 a8 a10 a12 u13 a14 a16 a19 a22 : Nat} : (yMkR y _n q a1 a3 a5 a7 a8 a10 a12 u13 a14 a16 a19 a22).2 4 (2) = a22 := by
  show (seA (seA (seA (seA (seA (seA (seA (seA (seA (seA (seA (seA (seA (y) 0 (0) (q)) 40 (0) (a1)) 42 (0) (a3)) 44 (0) (a5)) 5 (0) (a7)) 1 (0) (a8)) 1 (1) (a10)) 2 (0) (a12)) 1 (2) (u13)) 3 (0) (a14)) 4 (0) (a16)) 4 (1) (a19)) 4 (2) (a22)).2 4 (2) = _
  rw [seA_eq]
theorem wMkR_ne {w : Wd} {_n : Nat}  {a b : Nat} (h : ¬ ((a = 0 ∧ b = 0) ∨ (a = 40 ∧ b = 0) ∨ (a = 42 ∧ b = 0) ∨ (a = 44 ∧ b = 0) ∨ (a = 5 ∧ b = 0) ∨ (a = 1 ∧ b = 0) ∨ (a = 1 ∧ b = 1) ∨ (a = 2 ∧ b = 0) ∨ (a = 1 ∧ b = 2) ∨ (a = 3 ∧ b = 0) ∨ (a = 4 ∧ b = 0) ∨ (a = 4 ∧ b = 1) ∨ (a = 4 ∧ b = 2))) : (wMkR w _n ).1 a b = w.1 a b := by
  unfold wMkR
  rw [sr_ne (fun e => h (by omega)), sr_ne (fun e => h (by omega)), sr_ne (fun e => h (by omega)), sr_ne (fun e => h (by omega)), sr_ne (fun e => h (by omega)), sr_ne (fun e => h (by omega)), sr_ne (fun e => h (by omega)), sr_ne (fun e => h (by omega)), sr_ne (fun e => h (by omega))]
theorem wMkR_v0 {w : Wd} {_n : Nat}  : (wMkR w _n ).1 0 (0) = fr [0, 0, 0, 0, 0, 0, 0, 0, 0, 5, 0, 3, 0, 0, 0] := by
  unfold wMkR
  rw [sr_ne (fun e => by omega), sr_ne (fun e => by omega), sr_ne (fun e => by omega), sr_ne (fun e => by omega), sr_ne (fun e => by omega), sr_ne (fun e => by omega), sr_ne (fun e => by omega), sr_ne (fun e => by omega), sr_same]
theorem wMkR_v1 {w : Wd} {_n : Nat}  : (wMkR w _n ).1 1 (0) = fr [0] := by
  unfold wMkR
  rw [sr_ne (fun e => by omega), sr_ne (fun e => by omega), sr_ne (fun e => by omega), sr_ne (fun e => by omega), sr_ne (fun e => by omega), sr_ne (fun e => by omega), sr_ne (fun e => by omega), sr_same]
theorem wMkR_v2 {w : Wd} {_n : Nat}  : (wMkR w _n ).1 1 (1) = fr [0] := by
  unfold wMkR
  rw [sr_ne (fun e => by omega), sr_ne (fun e => by omega), sr_ne (fun e => by omega), sr_ne (fun e => by omega), sr_ne (fun e => by omega), sr_ne (fun e => by omega), sr_same]
theorem wMkR_v3 {w : Wd} {_n : Nat}  : (wMkR w _n ).1 2 (0) = fr [0, 0] := by
  unfold wMkR
  rw [sr_ne (fun e => by omega), sr_ne (fun e => by omega), sr_ne (fun e => by omega), sr_ne (fun e => by omega), sr_ne (fun e => by omega), sr_same]
theorem wMkR_v4 {w : Wd} {_n : Nat}  : (wMkR w _n ).1 1 (2) = fr [0] := by
  unfold wMkR
  rw [sr_ne (fun e => by omega), sr_ne (fun e => by omega), sr_ne (fun e => by omega), sr_ne (fun e => by omega), sr_same]
theorem wMkR_v5 {w : Wd} {_n : Nat}  : (wMkR w _n ).1 3 (0) = fr [0] := by
  unfold wMkR
  rw [sr_ne (fun e => by omega), sr_ne (fun e => by omega), sr_ne (fun e => by omega), sr_same]
theorem wMkR_v6 {w : Wd} {_n : Nat}  : (wMkR w _n ).1 4 (0) = fr [100, 0, -1, 0, 0, 0] := by
  unfold wMkR
  rw [sr_ne (fun e => by omega), sr_ne (fun e => by omega), sr_same]
theorem wMkR_v7 {w : Wd} {_n : Nat}  : (wMkR w _n ).1 4 (1) = fr [10, 0, -1, 0, 0, 0] := by
  unfold wMkR
  rw [sr_ne (fun e => by omega), sr_same]
theorem wMkR_v8 {w : Wd} {_n : Nat}  : (wMkR w _n ).1 4 (2) = fr [2, 0, -1, 0, 0, 0] := by
  unfold wMkR
  rw [sr_same]
theorem ce_mkR {κ : Kx} {y : Ly} {_n q a1 a3 a5 a7 a8 a10 a12 u13 a14 a16 a19 a22 : Nat} {a b : Nat} {g : Nat → Int32} {d : Int64} (hk : a < 100) (hA : ¬ ((a = 0 ∧ b = 0) ∨ (a = 40 ∧ b = 0) ∨ (a = 42 ∧ b = 0) ∨ (a = 44 ∧ b = 0) ∨ (a = 5 ∧ b = 0) ∨ (a = 1 ∧ b = 0) ∨ (a = 1 ∧ b = 1) ∨ (a = 2 ∧ b = 0) ∨ (a = 1 ∧ b = 2) ∨ (a = 3 ∧ b = 0) ∨ (a = 4 ∧ b = 0) ∨ (a = 4 ∧ b = 1) ∨ (a = 4 ∧ b = 2))) (hZ : ¬ ((a = 41 ∧ b = 0) ∨ (a = 43 ∧ b = 0) ∨ (a = 45 ∧ b = 0))) (hx0 : a ≠ 0) (hx2 : a ≠ 2) (hx5 : a ≠ 5) : ce κ (yMkR y _n q a1 a3 a5 a7 a8 a10 a12 u13 a14 a16 a19 a22) a b g d = ce κ y a b g d := by
  have m1 : ∀ a b, ¬ ((a = 0 ∧ b = 0) ∨ (a = 40 ∧ b = 0) ∨ (a = 42 ∧ b = 0) ∨ (a = 44 ∧ b = 0) ∨ (a = 5 ∧ b = 0) ∨ (a = 1 ∧ b = 0) ∨ (a = 1 ∧ b = 1) ∨ (a = 2 ∧ b = 0) ∨ (a = 1 ∧ b = 2) ∨ (a = 3 ∧ b = 0) ∨ (a = 4 ∧ b = 0) ∨ (a = 4 ∧ b = 1) ∨ (a = 4 ∧ b = 2) ∨ (a = 41 ∧ b = 0) ∨ (a = 43 ∧ b = 0) ∨ (a = 45 ∧ b = 0) ∨ (a = 140 ∧ b = 0) ∨ (a = 142 ∧ b = 0) ∨ (a = 144 ∧ b = 0) ∨ (a = 240 ∧ b = 0) ∨ (a = 242 ∧ b = 0) ∨ (a = 244 ∧ b = 0)) → (yMkR y _n q a1 a3 a5 a7 a8 a10 a12 u13 a14 a16 a19 a22).1 a b = y.1 a b := fun a b h => yMkR_1 h
  have m2 : ∀ a b, ¬ ((a = 0 ∧ b = 0) ∨ (a = 40 ∧ b = 0) ∨ (a = 42 ∧ b = 0) ∨ (a = 44 ∧ b = 0) ∨ (a = 5 ∧ b = 0) ∨ (a = 1 ∧ b = 0) ∨ (a = 1 ∧ b = 1) ∨ (a = 2 ∧ b = 0) ∨ (a = 1 ∧ b = 2) ∨ (a = 3 ∧ b = 0) ∨ (a = 4 ∧ b = 0) ∨ (a = 4 ∧ b = 1) ∨ (a = 4 ∧ b = 2)) → (yMkR y _n q a1 a3 a5 a7 a8 a10 a12 u13 a14 a16 a19 a22).2 a b = y.2 a b := fun a b h => yMkR_2 h
  generalize yMkR y _n q a1 a3 a5 a7 a8 a10 a12 u13 a14 a16 a19 a22 = y1 at m1 m2 ⊢
  have g2 : ∀ a, a ≠ 0 → a ≠ 1 → a ≠ 2 → a ≠ 3 → a ≠ 4 → a ≠ 5 → a ≠ 40 → a ≠ 42 → a ≠ 44 → y1.2 a = y.2 a := fun a _ _ _ _ _ _ _ _ _ => funext fun b => m2 a b (by omega)
  have g1 : ∀ a, a ≠ 0 → a ≠ 1 → a ≠ 2 → a ≠ 3 → a ≠ 4 → a ≠ 5 → a ≠ 40 → a ≠ 41 → a ≠ 42 → a ≠ 43 → a ≠ 44 → a ≠ 45 → a ≠ 140 → a ≠ 142 → a ≠ 144 → a ≠ 240 → a ≠ 242 → a ≠ 244 → y1.1 a = y.1 a := fun a _ _ _ _ _ _ _ _ _ _ _ _ _ _ _ _ _ _ => funext fun b => m1 a b (by omega)
  have p1 : ∀ b, b ≠ 0 → b ≠ 1 → b ≠ 2 → y1.2 1 b = y.2 1 b := fun b _ _ _ => m2 1 b (by omega)
  have p2 : ∀ b, b ≠ 0 → y1.2 2 b = y.2 2 b := fun b _ => m2 2 b (by omega)
  have p3 : ∀ b, b ≠ 0 → y1.2 3 b = y.2 3 b := fun b _ => m2 3 b (by omega)
  have p4 : ∀ b, b ≠ 0 → b ≠ 1 → b ≠ 2 → y1.2 4 b = y.2 4 b := fun b _ _ _ => m2 4 b (by omega)
  have p5 : ∀ b, b ≠ 0 → y1.2 5 b = y.2 5 b := fun b _ => m2 5 b (by omega)
  have p40 : ∀ b, b ≠ 0 → y1.2 40 b = y.2 40 b := fun b _ => m2 40 b (by omega)
  have p42 : ∀ b, b ≠ 0 → y1.2 42 b = y.2 42 b := fun b _ => m2 42 b (by omega)
  have p44 : ∀ b, b ≠ 0 → y1.2 44 b = y.2 44 b := fun b _ => m2 44 b (by omega)
  have hE : a % 2 = 0 → a ≠ 0 → a ≠ 1 → a ≠ 2 → a ≠ 3 → a ≠ 4 → a ≠ 5 → lsC κ y1 a b = lsC κ y a b := fun _ _ _ _ _ _ _ => lsC_eq (m1 _ _ (by omega)) (m1 _ _ (by omega)) (m1 _ _ (by omega)) (m2 _ _ (by omega))
  have hO : ¬ a % 2 = 0 → a ≠ 0 → a ≠ 1 → a ≠ 2 → a ≠ 3 → a ≠ 4 → a ≠ 5 → laC κ y1 (a - 1) b = laC κ y (a - 1) b := fun _ _ _ _ _ _ _ => laC_eq2 (m1 _ _ (by omega)) (fun t ht => m2 _ _ (by omega))
  unfold ce
  split
  all_goals try replace hx6 := hx6 rfl
  all_goals try replace hx14 := hx14 rfl
  all_goals first
    | rfl
    | (split
       · exact hE (by assumption) (by assumption) (by assumption) (by assumption) (by assumption) (by assumption) (by assumption)
       · exact hO (by assumption) (by assumption) (by assumption) (by assumption) (by assumption) (by assumption) (by assumption))
    | (simp (disch := omega) only [g1 14 (by decide) (by decide) (by decide) (by decide) (by decide) (by decide) (by decide) (by decide) (by decide) (by decide) (by decide) (by decide) (by decide) (by decide) (by decide) (by decide) (by decide) (by decide), g1 25 (by decide) (by decide) (by decide) (by decide) (by decide) (by decide) (by decide) (by decide) (by decide) (by decide) (by decide) (by decide) (by decide) (by decide) (by decide) (by decide) (by decide) (by decide), g2 7 (by decide) (by decide) (by decide) (by decide) (by decide) (by decide) (by decide) (by decide) (by decide), g2 8 (by decide) (by decide) (by decide) (by decide) (by decide) (by decide) (by decide) (by decide) (by decide), g2 9 (by decide) (by decide) (by decide) (by decide) (by decide) (by decide) (by decide) (by decide) (by decide), g2 12 (by decide) (by decide) (by decide) (by decide) (by decide) (by decide) (by decide) (by decide) (by decide), g2 13 (by decide) (by decide) (by decide) (by decide) (by decide) (by decide) (by decide) (by decide) (by decide), g2 14 (by decide) (by decide) (by decide) (by decide) (by decide) (by decide) (by decide) (by decide) (by decide), g2 16 (by decide) (by decide) (by decide) (by decide) (by decide) (by decide) (by decide) (by decide) (by decide), g2 22 (by decide) (by decide) (by decide) (by decide) (by decide) (by decide) (by decide) (by decide) (by decide), g2 23 (by decide) (by decide) (by decide) (by decide) (by decide) (by decide) (by decide) (by decide) (by decide), g2 24 (by decide) (by decide) (by decide) (by decide) (by decide) (by decide) (by decide) (by decide) (by decide), g2 25 (by decide) (by decide) (by decide) (by decide) (by decide) (by decide) (by decide) (by decide) (by decide), g2 28 (by decide) (by decide) (by decide) (by decide) (by decide) (by decide) (by decide) (by decide) (by decide), g2 29 (by decide) (by decide) (by decide) (by decide) (by decide) (by decide) (by decide) (by decide) (by decide), g2 30 (by decide) (by decide) (by decide) (by decide) (by decide) (by decide) (by decide) (by decide) (by decide), g2 31 (by decide) (by decide) (by decide) (by decide) (by decide) (by decide) (by decide) (by decide) (by decide), g2 32 (by decide) (by decide) (by decide) (by decide) (by decide) (by decide) (by decide) (by decide) (by decide), g2 33 (by decide) (by decide) (by decide) (by decide) (by decide) (by decide) (by decide) (by decide) (by decide), g2 34 (by decide) (by decide) (by decide) (by decide) (by decide) (by decide) (by decide) (by decide) (by decide), g2 35 (by decide) (by decide) (by decide) (by decide) (by decide) (by decide) (by decide) (by decide) (by decide), g2 46 (by decide) (by decide) (by decide) (by decide) (by decide) (by decide) (by decide) (by decide) (by decide), g2 48 (by decide) (by decide) (by decide) (by decide) (by decide) (by decide) (by decide) (by decide) (by decide), g2 50 (by decide) (by decide) (by decide) (by decide) (by decide) (by decide) (by decide) (by decide) (by decide), g2 52 (by decide) (by decide) (by decide) (by decide) (by decide) (by decide) (by decide) (by decide) (by decide), g2 54 (by decide) (by decide) (by decide) (by decide) (by decide) (by decide) (by decide) (by decide) (by decide), g2 56 (by decide) (by decide) (by decide) (by decide) (by decide) (by decide) (by decide) (by decide) (by decide), g2 58 (by decide) (by decide) (by decide) (by decide) (by decide) (by decide) (by decide) (by decide) (by decide), p1, p2, p3, p4, p5, p40, p42, p44]; done)
    | (simp (disch := omega) only [g1 14 (by decide) (by decide) (by decide) (by decide) (by decide) (by decide) (by decide) (by decide) (by decide) (by decide) (by decide) (by decide) (by decide) (by decide) (by decide) (by decide) (by decide) (by decide), g1 25 (by decide) (by decide) (by decide) (by decide) (by decide) (by decide) (by decide) (by decide) (by decide) (by decide) (by decide) (by decide) (by decide) (by decide) (by decide) (by decide) (by decide) (by decide), g2 7 (by decide) (by decide) (by decide) (by decide) (by decide) (by decide) (by decide) (by decide) (by decide), g2 8 (by decide) (by decide) (by decide) (by decide) (by decide) (by decide) (by decide) (by decide) (by decide), g2 9 (by decide) (by decide) (by decide) (by decide) (by decide) (by decide) (by decide) (by decide) (by decide), g2 12 (by decide) (by decide) (by decide) (by decide) (by decide) (by decide) (by decide) (by decide) (by decide), g2 13 (by decide) (by decide) (by decide) (by decide) (by decide) (by decide) (by decide) (by decide) (by decide), g2 14 (by decide) (by decide) (by decide) (by decide) (by decide) (by decide) (by decide) (by decide) (by decide), g2 16 (by decide) (by decide) (by decide) (by decide) (by decide) (by decide) (by decide) (by decide) (by decide), g2 22 (by decide) (by decide) (by decide) (by decide) (by decide) (by decide) (by decide) (by decide) (by decide), g2 23 (by decide) (by decide) (by decide) (by decide) (by decide) (by decide) (by decide) (by decide) (by decide), g2 24 (by decide) (by decide) (by decide) (by decide) (by decide) (by decide) (by decide) (by decide) (by decide), g2 25 (by decide) (by decide) (by decide) (by decide) (by decide) (by decide) (by decide) (by decide) (by decide), g2 28 (by decide) (by decide) (by decide) (by decide) (by decide) (by decide) (by decide) (by decide) (by decide), g2 29 (by decide) (by decide) (by decide) (by decide) (by decide) (by decide) (by decide) (by decide) (by decide), g2 30 (by decide) (by decide) (by decide) (by decide) (by decide) (by decide) (by decide) (by decide) (by decide), g2 31 (by decide) (by decide) (by decide) (by decide) (by decide) (by decide) (by decide) (by decide) (by decide), g2 32 (by decide) (by decide) (by decide) (by decide) (by decide) (by decide) (by decide) (by decide) (by decide), g2 33 (by decide) (by decide) (by decide) (by decide) (by decide) (by decide) (by decide) (by decide) (by decide), g2 34 (by decide) (by decide) (by decide) (by decide) (by decide) (by decide) (by decide) (by decide) (by decide), g2 35 (by decide) (by decide) (by decide) (by decide) (by decide) (by decide) (by decide) (by decide) (by decide), g2 46 (by decide) (by decide) (by decide) (by decide) (by decide) (by decide) (by decide) (by decide) (by decide), g2 48 (by decide) (by decide) (by decide) (by decide) (by decide) (by decide) (by decide) (by decide) (by decide), g2 50 (by decide) (by decide) (by decide) (by decide) (by decide) (by decide) (by decide) (by decide) (by decide), g2 52 (by decide) (by decide) (by decide) (by decide) (by decide) (by decide) (by decide) (by decide) (by decide), g2 54 (by decide) (by decide) (by decide) (by decide) (by decide) (by decide) (by decide) (by decide) (by decide), g2 56 (by decide) (by decide) (by decide) (by decide) (by decide) (by decide) (by decide) (by decide) (by decide), g2 58 (by decide) (by decide) (by decide) (by decide) (by decide) (by decide) (by decide) (by decide) (by decide), p1, p2, p3, p4, p5, p40, p42, p44]; rfl)
    | exact absurd rfl hx0
    | exact absurd rfl hx2
    | exact absurd rfl hx5
theorem Rp.mkR {κ : Kx} {w : Wd} {y : Ly} {X : XR} {H : Heap} {_n q a1 a3 a5 a7 a8 a10 a12 u13 a14 a16 a19 a22 : Nat}  (h : Rp κ w y X [(q, .inr (0, [.ref a1, .ref a3, .ref a5, .ref a7, .ref a8, .ref a10, .ref a12, .ref a14, .int 0, .int 5, .int 0, .int 3, .int 0, .int 0, .int 0, .long 0])), (a1, eL 0 (kA κ 1) 0), (a3, eL 0 (kA κ 1) 0), (a5, eL 0 (kA κ 1) 0), (a7, .inl (kT κ 5, (3, .inr (.inr (.inr (.inr (fun t => some ((yMkR y _n q a1 a3 a5 a7 a8 a10 a12 u13 a14 a16 a19 a22).2 4 t)))))))), (a8, .inr (2, [.int 0])), (a10, .inr (1, [.int 0])), (a12, .inr (3, [.ref u13, .int 0])), (u13, .inr (1, [.int 0])), (a14, .inr (4, [.int 0])), (a16, .inr (5, [.int 100, .int 0, .int (-1), .int 0, .int 0, .int 0])), (a19, .inr (5, [.int 10, .int 0, .int (-1), .int 0, .int 0, .int 0])), (a22, .inr (5, [.int 2, .int 0, .int (-1), .int 0, .int 0, .int 0]))] H) (hy0 : ∀ b, ¬ live y 0 b) (hy2 : ∀ b, ¬ live y 2 b) (hy5 : ∀ b, ¬ live y 5 b) (hd : w.2 = 0) : Rp κ (wMkR w _n ) (yMkR y _n q a1 a3 a5 a7 a8 a10 a12 u13 a14 a16 a19 a22) X [] H := by
  refine h.back (X := X) (w' := wMkR w _n ) (y' := yMkR y _n q a1 a3 a5 a7 a8 a10 a12 u13 a14 a16 a19 a22) (L' := []) (fun _ _ hx => hx) (fun a b => (a = 0 ∧ b = 0) ∨ (a = 40 ∧ b = 0) ∨ (a = 42 ∧ b = 0) ∨ (a = 44 ∧ b = 0) ∨ (a = 5 ∧ b = 0) ∨ (a = 1 ∧ b = 0) ∨ (a = 1 ∧ b = 1) ∨ (a = 2 ∧ b = 0) ∨ (a = 1 ∧ b = 2) ∨ (a = 3 ∧ b = 0) ∨ (a = 4 ∧ b = 0) ∨ (a = 4 ∧ b = 1) ∨ (a = 4 ∧ b = 2)) (fun a b hl hA => ?_) (fun a b hl hA => Or.inr ?_) (fun a b a' b' _ _ hA hA' e9 => ?_) (fun t q h => by simp at h) va_D0
  · have h9 := hl.1
    have hk := hl.2
    by_cases z13 : a = 41 ∧ b = 0
    · obtain ⟨rfl, rfl⟩ := z13
      rw [yMkR_f13] at h9
      cases h9
    by_cases z14 : a = 43 ∧ b = 0
    · obtain ⟨rfl, rfl⟩ := z14
      rw [yMkR_f14] at h9
      cases h9
    by_cases z15 : a = 45 ∧ b = 0
    · obtain ⟨rfl, rfl⟩ := z15
      rw [yMkR_f15] at h9
      cases h9
    rw [yMkR_1 (by omega)] at h9
    refine ⟨⟨h9, hk⟩, yMkR_2 (by omega), ?_⟩
    rw [wMkR_ne hA]
    exact ce_mkR hk hA (by omega) (fun e => hy0 b (by rw [← e]; exact ⟨h9, hk⟩)) (fun e => hy2 b (by rw [← e]; exact ⟨h9, hk⟩)) (fun e => hy5 b (by rw [← e]; exact ⟨h9, hk⟩))
  · rcases hA with ⟨rfl, hb⟩ | ⟨rfl, hb⟩ | ⟨rfl, hb⟩ | ⟨rfl, hb⟩ | ⟨rfl, hb⟩ | ⟨rfl, hb⟩ | ⟨rfl, hb⟩ | ⟨rfl, hb⟩ | ⟨rfl, hb⟩ | ⟨rfl, hb⟩ | ⟨rfl, hb⟩ | ⟨rfl, hb⟩ | ⟨rfl, hb⟩ <;> (have hb := hb.symm; subst hb)
    · exact ⟨0, by rw [yMkR_a0]; simp only [ce, yMkR_a0, yMkR_a1, yMkR_a2, yMkR_a3, yMkR_a4, yMkR_a5, yMkR_a6, yMkR_a7, yMkR_a8, yMkR_a9, yMkR_a10, yMkR_a11, yMkR_a12, wMkR_v0, wMkR_v1, wMkR_v2, wMkR_v3, wMkR_v4, wMkR_v5, wMkR_v6, wMkR_v7, wMkR_v8]; rw [show (wMkR w _n ).2 = 0 from hd]; rfl⟩
    · exact ⟨1, by rw [yMkR_a1]; show some (a1, eL 0 (kA κ 1) 0) = some (a1, Sum.inr (16, [Value.int (nI ((yMkR y _n q a1 a3 a5 a7 a8 a10 a12 u13 a14 a16 a19 a22).1 240 (0))), Value.ref (if (yMkR y _n q a1 a3 a5 a7 a8 a10 a12 u13 a14 a16 a19 a22).1 41 (0) = 1 then (yMkR y _n q a1 a3 a5 a7 a8 a10 a12 u13 a14 a16 a19 a22).2 41 (0) else kA κ 1), Value.int (nI ((yMkR y _n q a1 a3 a5 a7 a8 a10 a12 u13 a14 a16 a19 a22).1 140 (0)))])); rw [yMkR_f19, yMkR_f13, yMkR_f16, if_neg (by decide)]; rfl⟩
    · exact ⟨2, by rw [yMkR_a2]; show some (a3, eL 0 (kA κ 1) 0) = some (a3, Sum.inr (16, [Value.int (nI ((yMkR y _n q a1 a3 a5 a7 a8 a10 a12 u13 a14 a16 a19 a22).1 242 (0))), Value.ref (if (yMkR y _n q a1 a3 a5 a7 a8 a10 a12 u13 a14 a16 a19 a22).1 43 (0) = 1 then (yMkR y _n q a1 a3 a5 a7 a8 a10 a12 u13 a14 a16 a19 a22).2 43 (0) else kA κ 1), Value.int (nI ((yMkR y _n q a1 a3 a5 a7 a8 a10 a12 u13 a14 a16 a19 a22).1 142 (0)))])); rw [yMkR_f20, yMkR_f14, yMkR_f17, if_neg (by decide)]; rfl⟩
    · exact ⟨3, by rw [yMkR_a3]; show some (a5, eL 0 (kA κ 1) 0) = some (a5, Sum.inr (16, [Value.int (nI ((yMkR y _n q a1 a3 a5 a7 a8 a10 a12 u13 a14 a16 a19 a22).1 244 (0))), Value.ref (if (yMkR y _n q a1 a3 a5 a7 a8 a10 a12 u13 a14 a16 a19 a22).1 45 (0) = 1 then (yMkR y _n q a1 a3 a5 a7 a8 a10 a12 u13 a14 a16 a19 a22).2 45 (0) else kA κ 1), Value.int (nI ((yMkR y _n q a1 a3 a5 a7 a8 a10 a12 u13 a14 a16 a19 a22).1 144 (0)))])); rw [yMkR_f21, yMkR_f15, yMkR_f18, if_neg (by decide)]; rfl⟩
    · exact ⟨4, by rw [yMkR_a4]; rfl⟩
    · exact ⟨5, by rw [yMkR_a5]; simp only [ce, lsC, yMkR_a0, yMkR_a1, yMkR_a2, yMkR_a3, yMkR_a4, yMkR_a5, yMkR_a6, yMkR_a7, yMkR_a8, yMkR_a9, yMkR_a10, yMkR_a11, yMkR_a12, wMkR_v0, wMkR_v1, wMkR_v2, wMkR_v3, wMkR_v4, wMkR_v5, wMkR_v6, wMkR_v7, wMkR_v8, yMkR_f0, yMkR_f1, yMkR_f2, yMkR_f3, yMkR_f4, yMkR_f5, yMkR_f6, yMkR_f7, yMkR_f8, yMkR_f9, yMkR_f10, yMkR_f11, yMkR_f12, yMkR_f13, yMkR_f14, yMkR_f15, yMkR_f16, yMkR_f17, yMkR_f18, yMkR_f19, yMkR_f20, yMkR_f21]; rfl⟩
    · exact ⟨6, by rw [yMkR_a6]; simp only [ce, lsC, yMkR_a0, yMkR_a1, yMkR_a2, yMkR_a3, yMkR_a4, yMkR_a5, yMkR_a6, yMkR_a7, yMkR_a8, yMkR_a9, yMkR_a10, yMkR_a11, yMkR_a12, wMkR_v0, wMkR_v1, wMkR_v2, wMkR_v3, wMkR_v4, wMkR_v5, wMkR_v6, wMkR_v7, wMkR_v8, yMkR_f0, yMkR_f1, yMkR_f2, yMkR_f3, yMkR_f4, yMkR_f5, yMkR_f6, yMkR_f7, yMkR_f8, yMkR_f9, yMkR_f10, yMkR_f11, yMkR_f12, yMkR_f13, yMkR_f14, yMkR_f15, yMkR_f16, yMkR_f17, yMkR_f18, yMkR_f19, yMkR_f20, yMkR_f21]; rfl⟩
    · exact ⟨7, by rw [yMkR_a7]; simp only [ce, lsC, yMkR_a0, yMkR_a1, yMkR_a2, yMkR_a3, yMkR_a4, yMkR_a5, yMkR_a6, yMkR_a7, yMkR_a8, yMkR_a9, yMkR_a10, yMkR_a11, yMkR_a12, wMkR_v0, wMkR_v1, wMkR_v2, wMkR_v3, wMkR_v4, wMkR_v5, wMkR_v6, wMkR_v7, wMkR_v8, yMkR_f0, yMkR_f1, yMkR_f2, yMkR_f3, yMkR_f4, yMkR_f5, yMkR_f6, yMkR_f7, yMkR_f8, yMkR_f9, yMkR_f10, yMkR_f11, yMkR_f12, yMkR_f13, yMkR_f14, yMkR_f15, yMkR_f16, yMkR_f17, yMkR_f18, yMkR_f19, yMkR_f20, yMkR_f21]; rfl⟩
    · exact ⟨8, by rw [yMkR_a8]; simp only [ce, lsC, yMkR_a0, yMkR_a1, yMkR_a2, yMkR_a3, yMkR_a4, yMkR_a5, yMkR_a6, yMkR_a7, yMkR_a8, yMkR_a9, yMkR_a10, yMkR_a11, yMkR_a12, wMkR_v0, wMkR_v1, wMkR_v2, wMkR_v3, wMkR_v4, wMkR_v5, wMkR_v6, wMkR_v7, wMkR_v8, yMkR_f0, yMkR_f1, yMkR_f2, yMkR_f3, yMkR_f4, yMkR_f5, yMkR_f6, yMkR_f7, yMkR_f8, yMkR_f9, yMkR_f10, yMkR_f11, yMkR_f12, yMkR_f13, yMkR_f14, yMkR_f15, yMkR_f16, yMkR_f17, yMkR_f18, yMkR_f19, yMkR_f20, yMkR_f21]; rfl⟩
    · exact ⟨9, by rw [yMkR_a9]; simp only [ce, lsC, yMkR_a0, yMkR_a1, yMkR_a2, yMkR_a3, yMkR_a4, yMkR_a5, yMkR_a6, yMkR_a7, yMkR_a8, yMkR_a9, yMkR_a10, yMkR_a11, yMkR_a12, wMkR_v0, wMkR_v1, wMkR_v2, wMkR_v3, wMkR_v4, wMkR_v5, wMkR_v6, wMkR_v7, wMkR_v8, yMkR_f0, yMkR_f1, yMkR_f2, yMkR_f3, yMkR_f4, yMkR_f5, yMkR_f6, yMkR_f7, yMkR_f8, yMkR_f9, yMkR_f10, yMkR_f11, yMkR_f12, yMkR_f13, yMkR_f14, yMkR_f15, yMkR_f16, yMkR_f17, yMkR_f18, yMkR_f19, yMkR_f20, yMkR_f21]; rfl⟩
    · exact ⟨10, by rw [yMkR_a10]; simp only [ce, lsC, yMkR_a0, yMkR_a1, yMkR_a2, yMkR_a3, yMkR_a4, yMkR_a5, yMkR_a6, yMkR_a7, yMkR_a8, yMkR_a9, yMkR_a10, yMkR_a11, yMkR_a12, wMkR_v0, wMkR_v1, wMkR_v2, wMkR_v3, wMkR_v4, wMkR_v5, wMkR_v6, wMkR_v7, wMkR_v8, yMkR_f0, yMkR_f1, yMkR_f2, yMkR_f3, yMkR_f4, yMkR_f5, yMkR_f6, yMkR_f7, yMkR_f8, yMkR_f9, yMkR_f10, yMkR_f11, yMkR_f12, yMkR_f13, yMkR_f14, yMkR_f15, yMkR_f16, yMkR_f17, yMkR_f18, yMkR_f19, yMkR_f20, yMkR_f21]; rfl⟩
    · exact ⟨11, by rw [yMkR_a11]; simp only [ce, lsC, yMkR_a0, yMkR_a1, yMkR_a2, yMkR_a3, yMkR_a4, yMkR_a5, yMkR_a6, yMkR_a7, yMkR_a8, yMkR_a9, yMkR_a10, yMkR_a11, yMkR_a12, wMkR_v0, wMkR_v1, wMkR_v2, wMkR_v3, wMkR_v4, wMkR_v5, wMkR_v6, wMkR_v7, wMkR_v8, yMkR_f0, yMkR_f1, yMkR_f2, yMkR_f3, yMkR_f4, yMkR_f5, yMkR_f6, yMkR_f7, yMkR_f8, yMkR_f9, yMkR_f10, yMkR_f11, yMkR_f12, yMkR_f13, yMkR_f14, yMkR_f15, yMkR_f16, yMkR_f17, yMkR_f18, yMkR_f19, yMkR_f20, yMkR_f21]; rfl⟩
    · exact ⟨12, by rw [yMkR_a12]; simp only [ce, lsC, yMkR_a0, yMkR_a1, yMkR_a2, yMkR_a3, yMkR_a4, yMkR_a5, yMkR_a6, yMkR_a7, yMkR_a8, yMkR_a9, yMkR_a10, yMkR_a11, yMkR_a12, wMkR_v0, wMkR_v1, wMkR_v2, wMkR_v3, wMkR_v4, wMkR_v5, wMkR_v6, wMkR_v7, wMkR_v8, yMkR_f0, yMkR_f1, yMkR_f2, yMkR_f3, yMkR_f4, yMkR_f5, yMkR_f6, yMkR_f7, yMkR_f8, yMkR_f9, yMkR_f10, yMkR_f11, yMkR_f12, yMkR_f13, yMkR_f14, yMkR_f15, yMkR_f16, yMkR_f17, yMkR_f18, yMkR_f19, yMkR_f20, yMkR_f21]; rfl⟩
  · rcases hA with ⟨rfl, rfl⟩ | ⟨rfl, rfl⟩ | ⟨rfl, rfl⟩ | ⟨rfl, rfl⟩ | ⟨rfl, rfl⟩ | ⟨rfl, rfl⟩ | ⟨rfl, rfl⟩ | ⟨rfl, rfl⟩ | ⟨rfl, rfl⟩ | ⟨rfl, rfl⟩ | ⟨rfl, rfl⟩ | ⟨rfl, rfl⟩ | ⟨rfl, rfl⟩ <;> rcases hA' with ⟨rfl, rfl⟩ | ⟨rfl, rfl⟩ | ⟨rfl, rfl⟩ | ⟨rfl, rfl⟩ | ⟨rfl, rfl⟩ | ⟨rfl, rfl⟩ | ⟨rfl, rfl⟩ | ⟨rfl, rfl⟩ | ⟨rfl, rfl⟩ | ⟨rfl, rfl⟩ | ⟨rfl, rfl⟩ | ⟨rfl, rfl⟩ | ⟨rfl, rfl⟩
    · exact ⟨rfl, rfl⟩
    · rw [yMkR_a0, yMkR_a1] at e9; have := h.LD.1 0 1 _ _ rfl rfl e9; omega
    · rw [yMkR_a0, yMkR_a2] at e9; have := h.LD.1 0 2 _ _ rfl rfl e9; omega
    · rw [yMkR_a0, yMkR_a3] at e9; have := h.LD.1 0 3 _ _ rfl rfl e9; omega
    · rw [yMkR_a0, yMkR_a4] at e9; have := h.LD.1 0 4 _ _ rfl rfl e9; omega
    · rw [yMkR_a0, yMkR_a5] at e9; have := h.LD.1 0 5 _ _ rfl rfl e9; omega
    · rw [yMkR_a0, yMkR_a6] at e9; have := h.LD.1 0 6 _ _ rfl rfl e9; omega
    · rw [yMkR_a0, yMkR_a7] at e9; have := h.LD.1 0 7 _ _ rfl rfl e9; omega
    · rw [yMkR_a0, yMkR_a8] at e9; have := h.LD.1 0 8 _ _ rfl rfl e9; omega
    · rw [yMkR_a0, yMkR_a9] at e9; have := h.LD.1 0 9 _ _ rfl rfl e9; omega
    · rw [yMkR_a0, yMkR_a10] at e9; have := h.LD.1 0 10 _ _ rfl rfl e9; omega
    · rw [yMkR_a0, yMkR_a11] at e9; have := h.LD.1 0 11 _ _ rfl rfl e9; omega
    · rw [yMkR_a0, yMkR_a12] at e9; have := h.LD.1 0 12 _ _ rfl rfl e9; omega
    · rw [yMkR_a1, yMkR_a0] at e9; have := h.LD.1 1 0 _ _ rfl rfl e9; omega
    · exact ⟨rfl, rfl⟩
    · rw [yMkR_a1, yMkR_a2] at e9; have := h.LD.1 1 2 _ _ rfl rfl e9; omega
    · rw [yMkR_a1, yMkR_a3] at e9; have := h.LD.1 1 3 _ _ rfl rfl e9; omega
    · rw [yMkR_a1, yMkR_a4] at e9; have := h.LD.1 1 4 _ _ rfl rfl e9; omega
    · rw [yMkR_a1, yMkR_a5] at e9; have := h.LD.1 1 5 _ _ rfl rfl e9; omega
    · rw [yMkR_a1, yMkR_a6] at e9; have := h.LD.1 1 6 _ _ rfl rfl e9; omega
    · rw [yMkR_a1, yMkR_a7] at e9; have := h.LD.1 1 7 _ _ rfl rfl e9; omega
    · rw [yMkR_a1, yMkR_a8] at e9; have := h.LD.1 1 8 _ _ rfl rfl e9; omega
    · rw [yMkR_a1, yMkR_a9] at e9; have := h.LD.1 1 9 _ _ rfl rfl e9; omega
    · rw [yMkR_a1, yMkR_a10] at e9; have := h.LD.1 1 10 _ _ rfl rfl e9; omega
    · rw [yMkR_a1, yMkR_a11] at e9; have := h.LD.1 1 11 _ _ rfl rfl e9; omega
    · rw [yMkR_a1, yMkR_a12] at e9; have := h.LD.1 1 12 _ _ rfl rfl e9; omega
    · rw [yMkR_a2, yMkR_a0] at e9; have := h.LD.1 2 0 _ _ rfl rfl e9; omega
    · rw [yMkR_a2, yMkR_a1] at e9; have := h.LD.1 2 1 _ _ rfl rfl e9; omega
    · exact ⟨rfl, rfl⟩
    · rw [yMkR_a2, yMkR_a3] at e9; have := h.LD.1 2 3 _ _ rfl rfl e9; omega
    · rw [yMkR_a2, yMkR_a4] at e9; have := h.LD.1 2 4 _ _ rfl rfl e9; omega
    · rw [yMkR_a2, yMkR_a5] at e9; have := h.LD.1 2 5 _ _ rfl rfl e9; omega
    · rw [yMkR_a2, yMkR_a6] at e9; have := h.LD.1 2 6 _ _ rfl rfl e9; omega
    · rw [yMkR_a2, yMkR_a7] at e9; have := h.LD.1 2 7 _ _ rfl rfl e9; omega
    · rw [yMkR_a2, yMkR_a8] at e9; have := h.LD.1 2 8 _ _ rfl rfl e9; omega
    · rw [yMkR_a2, yMkR_a9] at e9; have := h.LD.1 2 9 _ _ rfl rfl e9; omega
    · rw [yMkR_a2, yMkR_a10] at e9; have := h.LD.1 2 10 _ _ rfl rfl e9; omega
    · rw [yMkR_a2, yMkR_a11] at e9; have := h.LD.1 2 11 _ _ rfl rfl e9; omega
    · rw [yMkR_a2, yMkR_a12] at e9; have := h.LD.1 2 12 _ _ rfl rfl e9; omega
    · rw [yMkR_a3, yMkR_a0] at e9; have := h.LD.1 3 0 _ _ rfl rfl e9; omega
    · rw [yMkR_a3, yMkR_a1] at e9; have := h.LD.1 3 1 _ _ rfl rfl e9; omega
    · rw [yMkR_a3, yMkR_a2] at e9; have := h.LD.1 3 2 _ _ rfl rfl e9; omega
    · exact ⟨rfl, rfl⟩
    · rw [yMkR_a3, yMkR_a4] at e9; have := h.LD.1 3 4 _ _ rfl rfl e9; omega
    · rw [yMkR_a3, yMkR_a5] at e9; have := h.LD.1 3 5 _ _ rfl rfl e9; omega
    · rw [yMkR_a3, yMkR_a6] at e9; have := h.LD.1 3 6 _ _ rfl rfl e9; omega
    · rw [yMkR_a3, yMkR_a7] at e9; have := h.LD.1 3 7 _ _ rfl rfl e9; omega
    · rw [yMkR_a3, yMkR_a8] at e9; have := h.LD.1 3 8 _ _ rfl rfl e9; omega
    · rw [yMkR_a3, yMkR_a9] at e9; have := h.LD.1 3 9 _ _ rfl rfl e9; omega
    · rw [yMkR_a3, yMkR_a10] at e9; have := h.LD.1 3 10 _ _ rfl rfl e9; omega
    · rw [yMkR_a3, yMkR_a11] at e9; have := h.LD.1 3 11 _ _ rfl rfl e9; omega
    · rw [yMkR_a3, yMkR_a12] at e9; have := h.LD.1 3 12 _ _ rfl rfl e9; omega
    · rw [yMkR_a4, yMkR_a0] at e9; have := h.LD.1 4 0 _ _ rfl rfl e9; omega
    · rw [yMkR_a4, yMkR_a1] at e9; have := h.LD.1 4 1 _ _ rfl rfl e9; omega
    · rw [yMkR_a4, yMkR_a2] at e9; have := h.LD.1 4 2 _ _ rfl rfl e9; omega
    · rw [yMkR_a4, yMkR_a3] at e9; have := h.LD.1 4 3 _ _ rfl rfl e9; omega
    · exact ⟨rfl, rfl⟩
    · rw [yMkR_a4, yMkR_a5] at e9; have := h.LD.1 4 5 _ _ rfl rfl e9; omega
    · rw [yMkR_a4, yMkR_a6] at e9; have := h.LD.1 4 6 _ _ rfl rfl e9; omega
    · rw [yMkR_a4, yMkR_a7] at e9; have := h.LD.1 4 7 _ _ rfl rfl e9; omega
    · rw [yMkR_a4, yMkR_a8] at e9; have := h.LD.1 4 8 _ _ rfl rfl e9; omega
    · rw [yMkR_a4, yMkR_a9] at e9; have := h.LD.1 4 9 _ _ rfl rfl e9; omega
    · rw [yMkR_a4, yMkR_a10] at e9; have := h.LD.1 4 10 _ _ rfl rfl e9; omega
    · rw [yMkR_a4, yMkR_a11] at e9; have := h.LD.1 4 11 _ _ rfl rfl e9; omega
    · rw [yMkR_a4, yMkR_a12] at e9; have := h.LD.1 4 12 _ _ rfl rfl e9; omega
    · rw [yMkR_a5, yMkR_a0] at e9; have := h.LD.1 5 0 _ _ rfl rfl e9; omega
    · rw [yMkR_a5, yMkR_a1] at e9; have := h.LD.1 5 1 _ _ rfl rfl e9; omega
    · rw [yMkR_a5, yMkR_a2] at e9; have := h.LD.1 5 2 _ _ rfl rfl e9; omega
    · rw [yMkR_a5, yMkR_a3] at e9; have := h.LD.1 5 3 _ _ rfl rfl e9; omega
    · rw [yMkR_a5, yMkR_a4] at e9; have := h.LD.1 5 4 _ _ rfl rfl e9; omega
    · exact ⟨rfl, rfl⟩
    · rw [yMkR_a5, yMkR_a6] at e9; have := h.LD.1 5 6 _ _ rfl rfl e9; omega
    · rw [yMkR_a5, yMkR_a7] at e9; have := h.LD.1 5 7 _ _ rfl rfl e9; omega
    · rw [yMkR_a5, yMkR_a8] at e9; have := h.LD.1 5 8 _ _ rfl rfl e9; omega
    · rw [yMkR_a5, yMkR_a9] at e9; have := h.LD.1 5 9 _ _ rfl rfl e9; omega
    · rw [yMkR_a5, yMkR_a10] at e9; have := h.LD.1 5 10 _ _ rfl rfl e9; omega
    · rw [yMkR_a5, yMkR_a11] at e9; have := h.LD.1 5 11 _ _ rfl rfl e9; omega
    · rw [yMkR_a5, yMkR_a12] at e9; have := h.LD.1 5 12 _ _ rfl rfl e9; omega
    · rw [yMkR_a6, yMkR_a0] at e9; have := h.LD.1 6 0 _ _ rfl rfl e9; omega
    · rw [yMkR_a6, yMkR_a1] at e9; have := h.LD.1 6 1 _ _ rfl rfl e9; omega
    · rw [yMkR_a6, yMkR_a2] at e9; have := h.LD.1 6 2 _ _ rfl rfl e9; omega
    · rw [yMkR_a6, yMkR_a3] at e9; have := h.LD.1 6 3 _ _ rfl rfl e9; omega
    · rw [yMkR_a6, yMkR_a4] at e9; have := h.LD.1 6 4 _ _ rfl rfl e9; omega
    · rw [yMkR_a6, yMkR_a5] at e9; have := h.LD.1 6 5 _ _ rfl rfl e9; omega
    · exact ⟨rfl, rfl⟩
    · rw [yMkR_a6, yMkR_a7] at e9; have := h.LD.1 6 7 _ _ rfl rfl e9; omega
    · rw [yMkR_a6, yMkR_a8] at e9; have := h.LD.1 6 8 _ _ rfl rfl e9; omega
    · rw [yMkR_a6, yMkR_a9] at e9; have := h.LD.1 6 9 _ _ rfl rfl e9; omega
    · rw [yMkR_a6, yMkR_a10] at e9; have := h.LD.1 6 10 _ _ rfl rfl e9; omega
    · rw [yMkR_a6, yMkR_a11] at e9; have := h.LD.1 6 11 _ _ rfl rfl e9; omega
    · rw [yMkR_a6, yMkR_a12] at e9; have := h.LD.1 6 12 _ _ rfl rfl e9; omega
    · rw [yMkR_a7, yMkR_a0] at e9; have := h.LD.1 7 0 _ _ rfl rfl e9; omega
    · rw [yMkR_a7, yMkR_a1] at e9; have := h.LD.1 7 1 _ _ rfl rfl e9; omega
    · rw [yMkR_a7, yMkR_a2] at e9; have := h.LD.1 7 2 _ _ rfl rfl e9; omega
    · rw [yMkR_a7, yMkR_a3] at e9; have := h.LD.1 7 3 _ _ rfl rfl e9; omega
    · rw [yMkR_a7, yMkR_a4] at e9; have := h.LD.1 7 4 _ _ rfl rfl e9; omega
    · rw [yMkR_a7, yMkR_a5] at e9; have := h.LD.1 7 5 _ _ rfl rfl e9; omega
    · rw [yMkR_a7, yMkR_a6] at e9; have := h.LD.1 7 6 _ _ rfl rfl e9; omega
    · exact ⟨rfl, rfl⟩
    · rw [yMkR_a7, yMkR_a8] at e9; have := h.LD.1 7 8 _ _ rfl rfl e9; omega
    · rw [yMkR_a7, yMkR_a9] at e9; have := h.LD.1 7 9 _ _ rfl rfl e9; omega
    · rw [yMkR_a7, yMkR_a10] at e9; have := h.LD.1 7 10 _ _ rfl rfl e9; omega
    · rw [yMkR_a7, yMkR_a11] at e9; have := h.LD.1 7 11 _ _ rfl rfl e9; omega
    · rw [yMkR_a7, yMkR_a12] at e9; have := h.LD.1 7 12 _ _ rfl rfl e9; omega
    · rw [yMkR_a8, yMkR_a0] at e9; have := h.LD.1 8 0 _ _ rfl rfl e9; omega
    · rw [yMkR_a8, yMkR_a1] at e9; have := h.LD.1 8 1 _ _ rfl rfl e9; omega
    · rw [yMkR_a8, yMkR_a2] at e9; have := h.LD.1 8 2 _ _ rfl rfl e9; omega
    · rw [yMkR_a8, yMkR_a3] at e9; have := h.LD.1 8 3 _ _ rfl rfl e9; omega
    · rw [yMkR_a8, yMkR_a4] at e9; have := h.LD.1 8 4 _ _ rfl rfl e9; omega
    · rw [yMkR_a8, yMkR_a5] at e9; have := h.LD.1 8 5 _ _ rfl rfl e9; omega
    · rw [yMkR_a8, yMkR_a6] at e9; have := h.LD.1 8 6 _ _ rfl rfl e9; omega
    · rw [yMkR_a8, yMkR_a7] at e9; have := h.LD.1 8 7 _ _ rfl rfl e9; omega
    · exact ⟨rfl, rfl⟩
    · rw [yMkR_a8, yMkR_a9] at e9; have := h.LD.1 8 9 _ _ rfl rfl e9; omega
    · rw [yMkR_a8, yMkR_a10] at e9; have := h.LD.1 8 10 _ _ rfl rfl e9; omega
    · rw [yMkR_a8, yMkR_a11] at e9; have := h.LD.1 8 11 _ _ rfl rfl e9; omega
    · rw [yMkR_a8, yMkR_a12] at e9; have := h.LD.1 8 12 _ _ rfl rfl e9; omega
    · rw [yMkR_a9, yMkR_a0] at e9; have := h.LD.1 9 0 _ _ rfl rfl e9; omega
    · rw [yMkR_a9, yMkR_a1] at e9; have := h.LD.1 9 1 _ _ rfl rfl e9; omega
    · rw [yMkR_a9, yMkR_a2] at e9; have := h.LD.1 9 2 _ _ rfl rfl e9; omega
    · rw [yMkR_a9, yMkR_a3] at e9; have := h.LD.1 9 3 _ _ rfl rfl e9; omega
    · rw [yMkR_a9, yMkR_a4] at e9; have := h.LD.1 9 4 _ _ rfl rfl e9; omega
    · rw [yMkR_a9, yMkR_a5] at e9; have := h.LD.1 9 5 _ _ rfl rfl e9; omega
    · rw [yMkR_a9, yMkR_a6] at e9; have := h.LD.1 9 6 _ _ rfl rfl e9; omega
    · rw [yMkR_a9, yMkR_a7] at e9; have := h.LD.1 9 7 _ _ rfl rfl e9; omega
    · rw [yMkR_a9, yMkR_a8] at e9; have := h.LD.1 9 8 _ _ rfl rfl e9; omega
    · exact ⟨rfl, rfl⟩
    · rw [yMkR_a9, yMkR_a10] at e9; have := h.LD.1 9 10 _ _ rfl rfl e9; omega
    · rw [yMkR_a9, yMkR_a11] at e9; have := h.LD.1 9 11 _ _ rfl rfl e9; omega
    · rw [yMkR_a9, yMkR_a12] at e9; have := h.LD.1 9 12 _ _ rfl rfl e9; omega
    · rw [yMkR_a10, yMkR_a0] at e9; have := h.LD.1 10 0 _ _ rfl rfl e9; omega
    · rw [yMkR_a10, yMkR_a1] at e9; have := h.LD.1 10 1 _ _ rfl rfl e9; omega
    · rw [yMkR_a10, yMkR_a2] at e9; have := h.LD.1 10 2 _ _ rfl rfl e9; omega
    · rw [yMkR_a10, yMkR_a3] at e9; have := h.LD.1 10 3 _ _ rfl rfl e9; omega
    · rw [yMkR_a10, yMkR_a4] at e9; have := h.LD.1 10 4 _ _ rfl rfl e9; omega
    · rw [yMkR_a10, yMkR_a5] at e9; have := h.LD.1 10 5 _ _ rfl rfl e9; omega
    · rw [yMkR_a10, yMkR_a6] at e9; have := h.LD.1 10 6 _ _ rfl rfl e9; omega
    · rw [yMkR_a10, yMkR_a7] at e9; have := h.LD.1 10 7 _ _ rfl rfl e9; omega
    · rw [yMkR_a10, yMkR_a8] at e9; have := h.LD.1 10 8 _ _ rfl rfl e9; omega
    · rw [yMkR_a10, yMkR_a9] at e9; have := h.LD.1 10 9 _ _ rfl rfl e9; omega
    · exact ⟨rfl, rfl⟩
    · rw [yMkR_a10, yMkR_a11] at e9; have := h.LD.1 10 11 _ _ rfl rfl e9; omega
    · rw [yMkR_a10, yMkR_a12] at e9; have := h.LD.1 10 12 _ _ rfl rfl e9; omega
    · rw [yMkR_a11, yMkR_a0] at e9; have := h.LD.1 11 0 _ _ rfl rfl e9; omega
    · rw [yMkR_a11, yMkR_a1] at e9; have := h.LD.1 11 1 _ _ rfl rfl e9; omega
    · rw [yMkR_a11, yMkR_a2] at e9; have := h.LD.1 11 2 _ _ rfl rfl e9; omega
    · rw [yMkR_a11, yMkR_a3] at e9; have := h.LD.1 11 3 _ _ rfl rfl e9; omega
    · rw [yMkR_a11, yMkR_a4] at e9; have := h.LD.1 11 4 _ _ rfl rfl e9; omega
    · rw [yMkR_a11, yMkR_a5] at e9; have := h.LD.1 11 5 _ _ rfl rfl e9; omega
    · rw [yMkR_a11, yMkR_a6] at e9; have := h.LD.1 11 6 _ _ rfl rfl e9; omega
    · rw [yMkR_a11, yMkR_a7] at e9; have := h.LD.1 11 7 _ _ rfl rfl e9; omega
    · rw [yMkR_a11, yMkR_a8] at e9; have := h.LD.1 11 8 _ _ rfl rfl e9; omega
    · rw [yMkR_a11, yMkR_a9] at e9; have := h.LD.1 11 9 _ _ rfl rfl e9; omega
    · rw [yMkR_a11, yMkR_a10] at e9; have := h.LD.1 11 10 _ _ rfl rfl e9; omega
    · exact ⟨rfl, rfl⟩
    · rw [yMkR_a11, yMkR_a12] at e9; have := h.LD.1 11 12 _ _ rfl rfl e9; omega
    · rw [yMkR_a12, yMkR_a0] at e9; have := h.LD.1 12 0 _ _ rfl rfl e9; omega
    · rw [yMkR_a12, yMkR_a1] at e9; have := h.LD.1 12 1 _ _ rfl rfl e9; omega
    · rw [yMkR_a12, yMkR_a2] at e9; have := h.LD.1 12 2 _ _ rfl rfl e9; omega
    · rw [yMkR_a12, yMkR_a3] at e9; have := h.LD.1 12 3 _ _ rfl rfl e9; omega
    · rw [yMkR_a12, yMkR_a4] at e9; have := h.LD.1 12 4 _ _ rfl rfl e9; omega
    · rw [yMkR_a12, yMkR_a5] at e9; have := h.LD.1 12 5 _ _ rfl rfl e9; omega
    · rw [yMkR_a12, yMkR_a6] at e9; have := h.LD.1 12 6 _ _ rfl rfl e9; omega
    · rw [yMkR_a12, yMkR_a7] at e9; have := h.LD.1 12 7 _ _ rfl rfl e9; omega
    · rw [yMkR_a12, yMkR_a8] at e9; have := h.LD.1 12 8 _ _ rfl rfl e9; omega
    · rw [yMkR_a12, yMkR_a9] at e9; have := h.LD.1 12 9 _ _ rfl rfl e9; omega
    · rw [yMkR_a12, yMkR_a10] at e9; have := h.LD.1 12 10 _ _ rfl rfl e9; omega
    · rw [yMkR_a12, yMkR_a11] at e9; have := h.LD.1 12 11 _ _ rfl rfl e9; omega
    · exact ⟨rfl, rfl⟩
def yMkQ (y : Ly) (_n : Nat) (q a1 a3 a5 a7 a8 a9 a10 a11 a12 : Nat) : Ly := seA (seA (seA (seA (seA (seA (seA (seA (seA (seA (seF (seF (seF (seF (seF (seF (seF (seF (seF (seF (seF (seF (seF (seF (seF (seF (seF (seF (seF y 20 (0) 1) 50 (0) 1) 52 (0) 1) 54 (0) 1) 30 (0) 1) 31 (0) 1) 32 (0) 1) 33 (0) 1) 34 (0) 1) 35 (0) 1) 51 (0) 0) 53 (0) 0) 55 (0) 0) 150 (0) 0) 152 (0) 0) 154 (0) 0) 250 (0) 0) 252 (0) 0) 254 (0) 0) 20 (0) (q)) 50 (0) (a1)) 52 (0) (a3)) 54 (0) (a5)) 30 (0) (a7)) 31 (0) (a8)) 32 (0) (a9)) 33 (0) (a10)) 34 (0) (a11)) 35 (0) (a12)
def wMkQ (w : Wd) (_n : Nat)  : Wd := sr (sr (sr (sr (sr (sr (sr w 20 (0) (fr [0, 0, 5, 0, 0, 0, 0, 0, 0, 0, 0, 0, 0, 0, 0, 0, 0, 0, 0, 0, 3, 0])) 30 (0) (upd (upd (upd (fun _ => 0) 0 100) 1 10) 2 2)) 31 (0) (fun _ => 0)) 32 (0) (upd (upd (upd (fun _ => 0) 0 (-1)) 1 (-1)) 2 (-1))) 33 (0) (fun _ => 0)) 34 (0) (fun _ => 0)) 35 (0) (fun _ => 0)
theorem yMkQ_1 {y : Ly} {_n q a1 a3 a5 a7 a8 a9 a10 a11 a12 : Nat} {a b : Nat} (h : ¬ ((a = 20 ∧ b = 0) ∨ (a = 50 ∧ b = 0) ∨ (a = 52 ∧ b = 0) ∨ (a = 54 ∧ b = 0) ∨ (a = 30 ∧ b = 0) ∨ (a = 31 ∧ b = 0) ∨ (a = 32 ∧ b = 0) ∨ (a = 33 ∧ b = 0) ∨ (a = 34 ∧ b = 0) ∨ (a = 35 ∧ b = 0) ∨ (a = 51 ∧ b = 0) ∨ (a = 53 ∧ b = 0) ∨ (a = 55 ∧ b = 0) ∨ (a = 150 ∧ b = 0) ∨ (a = 152 ∧ b = 0) ∨ (a = 154 ∧ b = 0) ∨ (a = 250 ∧ b = 0) ∨ (a = 252 ∧ b = 0) ∨ (a = 254 ∧ b = 0))) : (yMkQ y _n q a1 a3 a5 a7 a8 a9 a10 a11 a12).1 a b = y.1 a b := by
  show (seF (seF (seF (seF (seF (seF (seF (seF (seF (seF (seF (seF (seF (seF (seF (seF (seF (seF (seF (y) 20 (0) 1) 50 (0) 1) 52 (0) 1) 54 (0) 1) 30 (0) 1) 31 (0) 1) 32 (0) 1) 33 (0) 1) 34 (0) 1) 35 (0) 1) 51 (0) 0) 53 (0) 0) 55 (0) 0) 150 (0) 0) 152 (0) 0) 154 (0) 0) 250 (0) 0) 252 (0) 0) 254 (0) 0).1 a b = _
  rw [seF_ne (fun e => h (by omega)), seF_ne (fun e => h (by omega)), seF_ne (fun e => h (by omega)), seF_ne (fun e => h (by omega)), seF_ne (fun e => h (by omega)), seF_ne (fun e => h (by omega)), seF_ne (fun e => h (by omega)), seF_ne (fun e => h (by omega)), seF_ne (fun e => h (by omega)), seF_ne (fun e => h (by omega)), seF_ne (fun e => h (by omega)), seF_ne (fun e => h (by omega)), seF_ne (fun e => h (by omega)), seF_ne (fun e => h (by omega)), seF_ne (fun e => h (by omega)), seF_ne (fun e => h (by omega)), seF_ne (fun e => h (by omega)), seF_ne (fun e => h (by omega)), seF_ne (fun e => h (by omega))]
theorem yMkQ_2 {y : Ly} {_n q a1 a3 a5 a7 a8 a9 a10 a11 a12 : Nat} {a b : Nat} (h : ¬ ((a = 20 ∧ b = 0) ∨ (a = 50 ∧ b = 0) ∨ (a = 52 ∧ b = 0) ∨ (a = 54 ∧ b = 0) ∨ (a = 30 ∧ b = 0) ∨ (a = 31 ∧ b = 0) ∨ (a = 32 ∧ b = 0) ∨ (a = 33 ∧ b = 0) ∨ (a = 34 ∧ b = 0) ∨ (a = 35 ∧ b = 0))) : (yMkQ y _n q a1 a3 a5 a7 a8 a9 a10 a11 a12).2 a b = y.2 a b := by
  show (seA (seA (seA (seA (seA (seA (seA (seA (seA (seA (y) 20 (0) (q)) 50 (0) (a1)) 52 (0) (a3)) 54 (0) (a5)) 30 (0) (a7)) 31 (0) (a8)) 32 (0) (a9)) 33 (0) (a10)) 34 (0) (a11)) 35 (0) (a12)).2 a b = _
  rw [seA_ne (fun e => h (by omega)), seA_ne (fun e => h (by omega)), seA_ne (fun e => h (by omega)), seA_ne (fun e => h (by omega)), seA_ne (fun e => h (by omega)), seA_ne (fun e => h (by omega)), seA_ne (fun e => h (by omega)), seA_ne (fun e => h (by omega)), seA_ne (fun e => h (by omega)), seA_ne (fun e => h (by omega))]
theorem yMkQ_f0 {y : Ly} {_n q a1 a3 a5 a7 a8 a9 a10 a11 a12 : Nat} : (yMkQ y _n q a1 a3 a5 a7 a8 a9 a10 a11 a12).1 20 (0) = 1 := by
  show (seF (seF (seF (seF (seF (seF (seF (seF (seF (seF (seF (seF (seF (seF (seF (seF (seF (seF (seF (y) 20 (0) 1) 50 (0) 1) 52 (0) 1) 54 (0) 1) 30 (0) 1) 31 (0) 1) 32 (0) 1) 33 (0) 1) 34 (0) 1) 35 (0) 1) 51 (0) 0) 53 (0) 0) 55 (0) 0) 150 (0) 0) 152 (0) 0) 154 (0) 0) 250 (0) 0) 252 (0) 0) 254 (0) 0).1 20 (0) = _
  rw [seF_ne (fun e => by omega), seF_ne (fun e => by omega), seF_ne (fun e => by omega), seF_ne (fun e => by omega), seF_ne (fun e => by omega), seF_ne (fun e => by omega), seF_ne (fun e => by omega), seF_ne (fun e => by omega), seF_ne (fun e => by omega), seF_ne (fun e => by omega), seF_ne (fun e => by omega), seF_ne (fun e => by omega), seF_ne (fun e => by omega), seF_ne (fun e => by omega), seF_ne (fun e => by omega), seF_ne (fun e => by omega), seF_ne (fun e => by omega), seF_ne (fun e => by omega), seF_eq]
theorem yMkQ_f1 {y : Ly} {_n q a1 a3 a5 a7 a8 a9 a10 a11 a12 : Nat} : (yMkQ y _n q a1 a3 a5 a7 a8 a9 a10 a11 a12).1 50 (0) = 1 := by
  show (seF (seF (seF (seF (seF (seF (seF (seF (seF (seF (seF (seF (seF (seF (seF (seF (seF (seF (seF (y) 20 (0) 1) 50 (0) 1) 52 (0) 1) 54 (0) 1) 30 (0) 1) 31 (0) 1) 32 (0) 1) 33 (0) 1) 34 (0) 1) 35 (0) 1) 51 (0) 0) 53 (0) 0) 55 (0) 0) 150 (0) 0) 152 (0) 0) 154 (0) 0) 250 (0) 0) 252 (0) 0) 254 (0) 0).1 50 (0) = _
  rw [seF_ne (fun e => by omega), seF_ne (fun e => by omega), seF_ne (fun e => by omega), seF_ne (fun e => by omega), seF_ne (fun e => by omega), seF_ne (fun e => by omega), seF_ne (fun e => by omega), seF_ne (fun e => by omega), seF_ne (fun e => by omega), seF_ne (fun e => by omega), seF_ne (fun e => by omega), seF_ne (fun e => by omega), seF_ne (fun e => by omega), seF_ne (fun e => by omega), seF_ne (fun e => by omega), seF_ne (fun e => by omega), seF_ne (fun e => by omega), seF_eq]
theorem yMkQ_f2 {y : Ly} {_n q a1 a3 a5 a7 a8 a9 a10 a11 a12 : Nat} : (yMkQ y _n q a1 a3 a5 a7 a8 a9 a10 a11 a12).1 52 (0) = 1 := by
  show (seF (seF (seF (seF (seF (seF (seF (seF (seF (seF (seF (seF (seF (seF (seF (seF (seF (seF (seF (y) 20 (0) 1) 50 (0) 1) 52 (0) 1) 54 (0) 1) 30 (0) 1) 31 (0) 1) 32 (0) 1) 33 (0) 1) 34 (0) 1) 35 (0) 1) 51 (0) 0) 53 (0) 0) 55 (0) 0) 150 (0) 0) 152 (0) 0) 154 (0) 0) 250 (0) 0) 252 (0) 0) 254 (0) 0).1 52 (0) = _
  rw [seF_ne (fun e => by omega), seF_ne (fun e => by omega), seF_ne (fun e => by omega), seF_ne (fun e => by omega), seF_ne (fun e => by omega), seF_ne (fun e => by omega), seF_ne (fun e => by omega), seF_ne (fun e => by omega), seF_ne (fun e => by omega), seF_ne (fun e => by omega), seF_ne (fun e => by omega), seF_ne (fun e => by omega), seF_ne (fun e => by omega), seF_ne (fun e => by omega), seF_ne (fun e => by omega), seF_ne (fun e => by omega), seF_eq]
theorem yMkQ_f3 {y : Ly} {_n q a1 a3 a5 a7 a8 a9 a10 a11 a12 : Nat} : (yMkQ y _n q a1 a3 a5 a7 a8 a9 a10 a11 a12).1 54 (0) = 1 := by
  show (seF (seF (seF (seF (seF (seF (seF (seF (seF (seF (seF (seF (seF (seF (seF (seF (seF (seF (seF (y) 20 (0) 1) 50 (0) 1) 52 (0) 1) 54 (0) 1) 30 (0) 1) 31 (0) 1) 32 (0) 1) 33 (0) 1) 34 (0) 1) 35 (0) 1) 51 (0) 0) 53 (0) 0) 55 (0) 0) 150 (0) 0) 152 (0) 0) 154 (0) 0) 250 (0) 0) 252 (0) 0) 254 (0) 0).1 54 (0) = _
  rw [seF_ne (fun e => by omega), seF_ne (fun e => by omega), seF_ne (fun e => by omega), seF_ne (fun e => by omega), seF_ne (fun e => by omega), seF_ne (fun e => by omega), seF_ne (fun e => by omega), seF_ne (fun e => by omega), seF_ne (fun e => by omega), seF_ne (fun e => by omega), seF_ne (fun e => by omega), seF_ne (fun e => by omega), seF_ne (fun e => by omega), seF_ne (fun e => by omega), seF_ne (fun e => by omega), seF_eq]
theorem yMkQ_f4 {y : Ly} {_n q a1 a3 a5 a7 a8 a9 a10 a11 a12 : Nat} : (yMkQ y _n q a1 a3 a5 a7 a8 a9 a10 a11 a12).1 30 (0) = 1 := by
  show (seF (seF (seF (seF (seF (seF (seF (seF (seF (seF (seF (seF (seF (seF (seF (seF (seF (seF (seF (y) 20 (0) 1) 50 (0) 1) 52 (0) 1) 54 (0) 1) 30 (0) 1) 31 (0) 1) 32 (0) 1) 33 (0) 1) 34 (0) 1) 35 (0) 1) 51 (0) 0) 53 (0) 0) 55 (0) 0) 150 (0) 0) 152 (0) 0) 154 (0) 0) 250 (0) 0) 252 (0) 0) 254 (0) 0).1 30 (0) = _
  rw [seF_ne (fun e => by omega), seF_ne (fun e => by omega), seF_ne (fun e => by omega), seF_ne (fun e => by omega), seF_ne (fun e => by omega), seF_ne (fun e => by omega), seF_ne (fun e => by omega), seF_ne (fun e => by omega), seF_ne (fun e => by omega), seF_ne (fun e => by omega), seF_ne (fun e => by omega), seF_ne (fun e => by omega), seF_ne (fun e => by omega), seF_ne (fun e => by omega), seF_eq]
theorem yMkQ_f5 {y : Ly} {_n q a1 a3 a5 a7 a8 a9 a10 a11 a12 : Nat} : (yMkQ y _n q a1 a3 a5 a7 a8 a9 a10 a11 a12).1 31 (0) = 1 := by
  show (seF (seF (seF (seF (seF (seF (seF (seF (seF (seF (seF (seF (seF (seF (seF (seF (seF (seF (seF (y) 20 (0) 1) 50 (0) 1) 52 (0) 1) 54 (0) 1) 30 (0) 1) 31 (0) 1) 32 (0) 1) 33 (0) 1) 34 (0) 1) 35 (0) 1) 51 (0) 0) 53 (0) 0) 55 (0) 0) 150 (0) 0) 152 (0) 0) 154 (0) 0) 250 (0) 0) 252 (0) 0) 254 (0) 0).1 31 (0) = _
  rw [seF_ne (fun e => by omega), seF_ne (fun e => by omega), seF_ne (fun e => by omega), seF_ne (fun e => by omega), seF_ne (fun e => by omega), seF_ne (fun e => by omega), seF_ne (fun e => by omega), seF_ne (fun e => by omega), seF_ne (fun e => by omega), seF_ne (fun e => by omega), seF_ne (fun e => by omega), seF_ne (fun e => by omega), seF_ne (fun e => by omega), seF_eq]
theorem yMkQ_f6 {y : Ly} {_n q a1 a3 a5 a7 a8 a9 a10 a11 a12 : Nat} : (yMkQ y _n q a1 a3 a5 a7 a8 a9 a10 a11 a12).1 32 (0) = 1 := by
  show (seF (seF (seF (seF (seF (seF (seF (seF (seF (seF (seF (seF (seF (seF (seF (seF (seF (seF (seF (y) 20 (0) 1) 50 (0) 1) 52 (0) 1) 54 (0) 1) 30 (0) 1) 31 (0) 1) 32 (0) 1) 33 (0) 1) 34 (0) 1) 35 (0) 1) 51 (0) 0) 53 (0) 0) 55 (0) 0) 150 (0) 0) 152 (0) 0) 154 (0) 0) 250 (0) 0) 252 (0) 0) 254 (0) 0).1 32 (0) = _
  rw [seF_ne (fun e => by omega), seF_ne (fun e => by omega), seF_ne (fun e => by omega), seF_ne (fun e => by omega), seF_ne (fun e => by omega), seF_ne (fun e => by omega), seF_ne (fun e => by omega), seF_ne (fun e => by omega), seF_ne (fun e => by omega), seF_ne (fun e => by omega), seF_ne (fun e => by omega), seF_ne (fun e => by omega), seF_eq]
theorem yMkQ_f7 {y : Ly} {_n q a1 a3 a5 a7 a8 a9 a10 a11 a12 : Nat} : (yMkQ y _n q a1 a3 a5 a7 a8 a9 a10 a11 a12).1 33 (0) = 1 := by
  show (seF (seF (seF (seF (seF (seF (seF (seF (seF (seF (seF (seF (seF (seF (seF (seF (seF (seF (seF (y) 20 (0) 1) 50 (0) 1) 52 (0) 1) 54 (0) 1) 30 (0) 1) 31 (0) 1) 32 (0) 1) 33 (0) 1) 34 (0) 1) 35 (0) 1) 51 (0) 0) 53 (0) 0) 55 (0) 0) 150 (0) 0) 152 (0) 0) 154 (0) 0) 250 (0) 0) 252 (0) 0) 254 (0) 0).1 33 (0) = _
  rw [seF_ne (fun e => by omega), seF_ne (fun e => by omega), seF_ne (fun e => by omega), seF_ne (fun e => by omega), seF_ne (fun e => by omega), seF_ne (fun e => by omega), seF_ne (fun e => by omega), seF_ne (fun e => by omega), seF_ne (fun e => by omega), seF_ne (fun e => by omega), seF_ne (fun e => by omega), seF_eq]
theorem yMkQ_f8 {y : Ly} {_n q a1 a3 a5 a7 a8 a9 a10 a11 a12 : Nat} : (yMkQ y _n q a1 a3 a5 a7 a8 a9 a10 a11 a12).1 34 (0) = 1 := by
  show (seF (seF (seF (seF (seF (seF (seF (seF (seF (seF (seF (seF (seF (seF (seF (seF (seF (seF (seF (y) 20 (0) 1) 50 (0) 1) 52 (0) 1) 54 (0) 1) 30 (0) 1) 31 (0) 1) 32 (0) 1) 33 (0) 1) 34 (0) 1) 35 (0) 1) 51 (0) 0) 53 (0) 0) 55 (0) 0) 150 (0) 0) 152 (0) 0) 154 (0) 0) 250 (0) 0) 252 (0) 0) 254 (0) 0).1 34 (0) = _
  rw [seF_ne (fun e => by omega), seF_ne (fun e => by omega), seF_ne (fun e => by omega), seF_ne (fun e => by omega), seF_ne (fun e => by omega), seF_ne (fun e => by omega), seF_ne (fun e => by omega), seF_ne (fun e => by omega), seF_ne (fun e => by omega), seF_ne (fun e => by omega), seF_eq]
theorem yMkQ_f9 {y : Ly} {_n q a1 a3 a5 a7 a8 a9 a10 a11 a12 : Nat} : (yMkQ y _n q a1 a3 a5 a7 a8 a9 a10 a11 a12).1 35 (0) = 1 := by
  show (seF (seF (seF (seF (seF (seF (seF (seF (seF (seF (seF (seF (seF (seF (seF (seF (seF (seF (seF (y) 20 (0) 1) 50 (0) 1) 52 (0) 1) 54 (0) 1) 30 (0) 1) 31 (0) 1) 32 (0) 1) 33 (0) 1) 34 (0) 1) 35 (0) 1) 51 (0) 0) 53 (0) 0) 55 (0) 0) 150 (0) 0) 152 (0) 0) 154 (0) 0) 250 (0) 0) 252 (0) 0) 254 (0) 0).1 35 (0) = _
  rw [seF_ne (fun e => by omega), seF_ne (fun e => by omega), seF_ne (fun e => by omega), seF_ne (fun e => by omega), seF_ne (fun e => by omega), seF_ne (fun e => by omega), seF_ne (fun e => by omega), seF_ne (fun e => by omega), seF_ne (fun e => by omega), seF_eq]
theorem yMkQ_f10 {y : Ly} {_n q a1 a3 a5 a7 a8 a9 a10 a11 a12 : Nat} : (yMkQ y _n q a1 a3 a5 a7 a8 a9 a10 a11 a12).1 51 (0) = 0 := by
  show (seF (seF (seF (seF (seF (seF (seF (seF (seF (seF (seF (seF (seF (seF (seF (seF (seF (seF (seF (y) 20 (0) 1) 50 (0) 1) 52 (0) 1) 54 (0) 1) 30 (0) 1) 31 (0) 1) 32 (0) 1) 33 (0) 1) 34 (0) 1) 35 (0) 1) 51 (0) 0) 53 (0) 0) 55 (0) 0) 150 (0) 0) 152 (0) 0) 154 (0) 0) 250 (0) 0) 252 (0) 0) 254 (0) 0).1 51 (0) = _
  rw [seF_ne (fun e => by omega), seF_ne (fun e => by omega), seF_ne (fun e => by omega), seF_ne (fun e => by omega), seF_ne (fun e => by omega), seF_ne (fun e => by omega), seF_ne (fun e => by omega), seF_ne (fun e => by omega), seF_eq]
theorem yMkQ_f11 {y : Ly} {_n q a1 a3 a5 a7 a8 a9 a10 a11 a12 : Nat} : (yMkQ y _n q a1 a3 a5 a7 a8 a9 a10 a11 a12).1 53 (0) = 0 := by
  show (seF (seF (seF (seF (seF (seF (seF (seF (seF (seF (seF (seF (seF (seF (seF (seF (seF (seF (seF (y) 20 (0) 1) 50 (0) 1) 52 (0) 1) 54 (0) 1) 30 (0) 1) 31 (0) 1) 32 (0) 1) 33 (0) 1) 34 (0) 1) 35 (0) 1) 51 (0) 0) 53 (0) 0) 55 (0) 0) 150 (0) 0) 152 (0) 0) 154 (0) 0) 250 (0) 0) 252 (0) 0) 254 (0) 0).1 53 (0) = _
  rw [seF_ne (fun e => by omega), seF_ne (fun e => by omega), seF_ne (fun e => by omega), seF_ne (fun e => by omega), seF_ne (fun e => by omega), seF_ne (fun e => by omega), seF_ne (fun e => by omega), seF_eq]
theorem yMkQ_f12 {y : Ly} {_n q a1 a3 a5 a7 a8 a9 a10 a11 a12 : Nat} : (yMkQ y _n q a1 a3 a5 a7 a8 a9 a10 a11 a12).1 55 (0) = 0 := by
  show (seF (seF (seF (seF (seF (seF (seF (seF (seF (seF (seF (seF (seF (seF (seF (seF (seF (seF (seF (y) 20 (0) 1) 50 (0) 1) 52 (0) 1) 54 (0) 1) 30 (0) 1) 31 (0) 1) 32 (0) 1) 33 (0) 1) 34 (0) 1) 35 (0) 1) 51 (0) 0) 53 (0) 0) 55 (0) 0) 150 (0) 0) 152 (0) 0) 154 (0) 0) 250 (0) 0) 252 (0) 0) 254 (0) 0).1 55 (0) = _
  rw [seF_ne (fun e => by omega), seF_ne (fun e => by omega), seF_ne (fun e => by omega), seF_ne (fun e => by omega), seF_ne (fun e => by omega), seF_ne (fun e => by omega), seF_eq]
theorem yMkQ_f13 {y : Ly} {_n q a1 a3 a5 a7 a8 a9 a10 a11 a12 : Nat} : (yMkQ y _n q a1 a3 a5 a7 a8 a9 a10 a11 a12).1 150 (0) = 0 := by
  show (seF (seF (seF (seF (seF (seF (seF (seF (seF (seF (seF (seF (seF (seF (seF (seF (seF (seF (seF (y) 20 (0) 1) 50 (0) 1) 52 (0) 1) 54 (0) 1) 30 (0) 1) 31 (0) 1) 32 (0) 1) 33 (0) 1) 34 (0) 1) 35 (0) 1) 51 (0) 0) 53 (0) 0) 55 (0) 0) 150 (0) 0) 152 (0) 0) 154 (0) 0) 250 (0) 0) 252 (0) 0) 254 (0) 0).1 150 (0) = _
  rw [seF_ne (fun e => by omega), seF_ne (fun e => by omega), seF_ne (fun e => by omega), seF_ne (fun e => by omega), seF_ne (fun e => by omega), seF_eq]
theorem yMkQ_f14 {y : Ly} {_n q a1 a3 a5 a7 a8 a9 a10 a11 a12 : Nat} : (yMkQ y _n q a1 a3 a5 a7 a8 a9 a10 a11 a12).1 152 (0) = 0 := by
  show (seF (seF (seF (seF (seF (seF (seF (seF (seF (seF (seF (seF (seF (seF (seF (seF (seF (seF (seF (y) 20 (0) 1) 50 (0) 1) 52 (0) 1) 54 (0) 1) 30 (0) 1) 31 (0) 1) 32 (0) 1) 33 (0) 1) 34 (0) 1) 35 (0) 1) 51 (0) 0) 53 (0) 0) 55 (0) 0) 150 (0) 0) 152 (0) 0) 154 (0) 0) 250 (0) 0) 252 (0) 0) 254 (0) 0).1 152 (0) = _
  rw [seF_ne (fun e => by omega), seF_ne (fun e => by omega), seF_ne (fun e => by omega), seF_ne (fun e => by omega), seF_eq]
theorem yMkQ_f15 {y : Ly} {_n q a1 a3 a5 a7 a8 a9 a10 a11 a12 : Nat} : (yMkQ y _n q a1 a3 a5 a7 a8 a9 a10 a11 a12).1 154 (0) = 0 := by
  show (seF (seF (seF (seF (seF (seF (seF (seF (seF (seF (seF (seF (seF (seF (seF (seF (seF (seF (seF (y) 20 (0) 1) 50 (0) 1) 52 (0) 1) 54 (0) 1) 30 (0) 1) 31 (0) 1) 32 (0) 1) 33 (0) 1) 34 (0) 1) 35 (0) 1) 51 (0) 0) 53 (0) 0) 55 (0) 0) 150 (0) 0) 152 (0) 0) 154 (0) 0) 250 (0) 0) 252 (0) 0) 254 (0) 0).1 154 (0) = _
  rw [seF_ne (fun e => by omega), seF_ne (fun e => by omega), seF_ne (fun e => by omega), seF_eq]
theorem yMkQ_f16 {y : Ly} {_n q a1 a3 a5 a7 a8 a9 a10 a11 a12 : Nat} : (yMkQ y _n q a1 a3 a5 a7 a8 a9 a10 a11 a12).1 250 (0) = 0 := by
  show (seF (seF (seF (seF (seF (seF (seF (seF (seF (seF (seF (seF (seF (seF (seF (seF (seF (seF (seF (y) 20 (0) 1) 50 (0) 1) 52 (0) 1) 54 (0) 1) 30 (0) 1) 31 (0) 1) 32 (0) 1) 33 (0) 1) 34 (0) 1) 35 (0) 1) 51 (0) 0) 53 (0) 0) 55 (0) 0) 150 (0) 0) 152 (0) 0) 154 (0) 0) 250 (0) 0) 252 (0) 0) 254 (0) 0).1 250 (0) = _
  rw [seF_ne (fun e => by omega), seF_ne (fun e => by omega), seF_eq]
theorem yMkQ_f17 {y : Ly} {_n q a1 a3 a5 a7 a8 a9 a10 a11 a12 : Nat} : (yMkQ y _n q a1 a3 a5 a7 a8 a9 a10 a11 a12).1 252 (0) = 0 := by
  show (seF (seF (seF (seF (seF (seF (seF (seF (seF (seF (seF (seF (seF (seF (seF (seF (seF (seF (seF (y) 20 (0) 1) 50 (0) 1) 52 (0) 1) 54 (0) 1) 30 (0) 1) 31 (0) 1) 32 (0) 1) 33 (0) 1) 34 (0) 1) 35 (0) 1) 51 (0) 0) 53 (0) 0) 55 (0) 0) 150 (0) 0) 152 (0) 0) 154 (0) 0) 250 (0) 0) 252 (0) 0) 254 (0) 0).1 252 (0) = _
  rw [seF_ne (fun e => by omega), seF_eq]
theorem yMkQ_f18 {y : Ly} {_n q a1 a3 a5 a7 a8 a9 a10 a11 a12 : Nat} : (yMkQ y _n q a1 a3 a5 a7 a8 a9 a10 a11 a12).1 254 (0) = 0 := by
  show (seF (seF (seF (seF (seF (seF (seF (seF (seF (seF (seF (seF (seF (seF (seF (seF (seF (seF (seF (y) 20 (0) 1) 50 (0) 1) 52 (0) 1) 54 (0) 1) 30 (0) 1) 31 (0) 1) 32 (0) 1) 33 (0) 1) 34 (0) 1) 35 (0) 1) 51 (0) 0) 53 (0) 0) 55 (0) 0) 150 (0) 0) 152 (0) 0) 154 (0) 0) 250 (0) 0) 252 (0) 0) 254 (0) 0).1 254 (0) = _
  rw [seF_eq]
theorem yMkQ_a0 {y : Ly} {_n q a1 a3 a5 a7 a8 a9 a10 a11 a12 : Nat} : (yMkQ y _n q a1 a3 a5 a7 a8 a9 a10 a11 a12).2 20 (0) = q := by
  show (seA (seA (seA (seA (seA (seA (seA (seA (seA (seA (y) 20 (0) (q)) 50 (0) (a1)) 52 (0) (a3)) 54 (0) (a5)) 30 (0) (a7)) 31 (0) (a8)) 32 (0) (a9)) 33 (0) (a10)) 34 (0) (a11)) 35 (0) (a12)).2 20 (0) = _
  rw [seA_ne (fun e => by omega), seA_ne (fun e => by omega), seA_ne (fun e => by omega), seA_ne (fun e => by omega), seA_ne (fun e => by omega), seA_ne (fun e => by omega), seA_ne (fun e => by omega), seA_ne (fun e => by omega), seA_ne (fun e => by omega), seA_eq]
theorem yMkQ_a1 {y : Ly} {_n q a1 a3 a5 a7 a8 a9 a10 a11 a12 : Nat} : (yMkQ y _n q a1 a3 a5 a7 a8 a9 a10 a11 a12).2 50 (0) = a1 := by
  show (seA (seA (seA (seA (seA (seA (seA (seA (seA (seA (y) 20 (0) (q)) 50 (0) (a1)) 52 (0) (a3)) 54 (0) (a5)) 30 (0) (a7)) 31 (0) (a8)) 32 (0) (a9)) 33 (0) (a10)) 34 (0) (a11)) 35 (0) (a12)).2 50 (0) = _
  rw [seA_ne (fun e => by omega), seA_ne (fun e => by omega), seA_ne (fun e => by omega), seA_ne (fun e => by omega), seA_ne (fun e => by omega), seA_ne (fun e => by omega), seA_ne (fun e => by omega), seA_ne (fun e => by omega), seA_eq]
theorem yMkQ_a2 {y : Ly} {_n q a1 a3 a5 a7 a8 a9 a10 a11 a12 : Nat} : (yMkQ y _n q a1 a3 a5 a7 a8 a9 a10 a11 a12).2 52 (0) = a3 := by
  show (seA (seA (seA (seA (seA (seA (seA (seA (seA (seA (y) 20 (0) (q)) 50 (0) (a1)) 52 (0) (a3)) 54 (0) (a5)) 30 (0) (a7)) 31 (0) (a8)) 32 (0) (a9)) 33 (0) (a10)) 34 (0) (a11)) 35 (0) (a12)).2 52 (0) = _
  rw [seA_ne (fun e => by omega), seA_ne (fun e => by omega), seA_ne (fun e => by omega), seA_ne (fun e => by omega), seA_ne (fun e => by omega), seA_ne (fun e => by omega), seA_ne (fun e => by omega), seA_eq]
theorem yMkQ_a3 {y : Ly} {_n q a1 a3 a5 a7 a8 a9 a10 a11 a12 : Nat} : (yMkQ y _n q a1 a3 a5 a7 a8 a9 a10 a11 a12).2 54 (0) = a5 := by
  show (seA (seA (seA (seA (seA (seA (seA (seA (seA (seA (y) 20 (0) (q)) 50 (0) (a1)) 52 (0) (a3)) 54 (0) (a5)) 30 (0) (a7)) 31 (0) (a8)) 32 (0) (a9)) 33 (0) (a10)) 34 (0) (a11)) 35 (0) (a12)).2 54 (0) = _
  rw [seA_ne (fun e => by omega), seA_ne (fun e => by omega), seA_ne (fun e => by omega), seA_ne (fun e => by omega), seA_ne (fun e => by omega), seA_ne (fun e => by omega), seA_eq]
theorem yMkQ_a4 {y : Ly} {_n q a1 a3 a5 a7 a8 a9 a10 a11 a12 : Nat} : (yMkQ y _n q a1 a3 a5 a7 a8 a9 a10 a11 a12).2 30 (0) = a7 := by
  show (seA (seA (seA (seA (seA (seA (seA (seA (seA (seA (y) 20 (0) (q)) 50 (0) (a1)) 52 (0) (a3)) 54 (0) (a5)) 30 (0) (a7)) 31 (0) (a8)) 32 (0) (a9)) 33 (0) (a10)) 34 (0) (a11)) 35 (0) (a12)).2 30 (0) = _
  rw [seA_ne (fun e => by omega), seA_ne (fun e => by omega), seA_ne (fun e => by omega), seA_ne (fun e => by omega), seA_ne (fun e => by omega), seA_eq]
theorem yMkQ_a5 {y : Ly} {_n q a1 a3 a5 a7 a8 a9 a10 a11 a12 : Nat} : (yMkQ y _n q a1 a3 a5 a7 a8 a9 a10 a11 a12).2 31 (0) = a8 := by
  show (seA (seA (seA (seA (seA (seA (seA (seA (seA (seA (y) 20 (0) (q)) 50 (0) (a1)) 52 (0) (a3)) 54 (0) (a5)) 30 (0) (a7)) 31 (0) (a8)) 32 (0) (a9)) 33 (0) (a10)) 34 (0) (a11)) 35 (0) (a12)).2 31 (0) = _
  rw [seA_ne (fun e => by omega), seA_ne (fun e => by omega), seA_ne (fun e => by omega), seA_ne (fun e => by omega), seA_eq]
theorem yMkQ_a6 {y : Ly} {_n q a1 a3 a5 a7 a8 a9 a10 a11 a12 : Nat} : (yMkQ y _n q a1 a3 a5 a7 a8 a9 a10 a11 a12).2 32 (0) = a9 := by
  show (seA (seA (seA (seA (seA (seA (seA (seA (seA (seA (y) 20 (0) (q)) 50 (0) (a1)) 52 (0) (a3)) 54 (0) (a5)) 30 (0) (a7)) 31 (0) (a8)) 32 (0) (a9)) 33 (0) (a10)) 34 (0) (a11)) 35 (0) (a12)).2 32 (0) = _
  rw [seA_ne (fun e => by omega), seA_ne (fun e => by omega), seA_ne (fun e => by omega), seA_eq]
theorem yMkQ_a7 {y : Ly} {_n q a1 a3 a5 a7 a8 a9 a10 a11 a12 : Nat} : (yMkQ y _n q a1 a3 a5 a7 a8 a9 a10 a11 a12).2 33 (0) = a10 := by
  show (seA (seA (seA (seA (seA (seA (seA (seA (seA (seA (y) 20 (0) (q)) 50 (0) (a1)) 52 (0) (a3)) 54 (0) (a5)) 30 (0) (a7)) 31 (0) (a8)) 32 (0) (a9)) 33 (0) (a10)) 34 (0) (a11)) 35 (0) (a12)).2 33 (0) = _
  rw [seA_ne (fun e => by omega), seA_ne (fun e => by omega), seA_eq]
theorem yMkQ_a8 {y : Ly} {_n q a1 a3 a5 a7 a8 a9 a10 a11 a12 : Nat} : (yMkQ y _n q a1 a3 a5 a7 a8 a9 a10 a11 a12).2 34 (0) = a11 := by
  show (seA (seA (seA (seA (seA (seA (seA (seA (seA (seA (y) 20 (0) (q)) 50 (0) (a1)) 52 (0) (a3)) 54 (0) (a5)) 30 (0) (a7)) 31 (0) (a8)) 32 (0) (a9)) 33 (0) (a10)) 34 (0) (a11)) 35 (0) (a12)).2 34 (0) = _
  rw [seA_ne (fun e => by omega), seA_eq]
theorem yMkQ_a9 {y : Ly} {_n q a1 a3 a5 a7 a8 a9 a10 a11 a12 : Nat} : (yMkQ y _n q a1 a3 a5 a7 a8 a9 a10 a11 a12).2 35 (0) = a12 := by
  show (seA (seA (seA (seA (seA (seA (seA (seA (seA (seA (y) 20 (0) (q)) 50 (0) (a1)) 52 (0) (a3)) 54 (0) (a5)) 30 (0) (a7)) 31 (0) (a8)) 32 (0) (a9)) 33 (0) (a10)) 34 (0) (a11)) 35 (0) (a12)).2 35 (0) = _
  rw [seA_eq]
theorem wMkQ_ne {w : Wd} {_n : Nat}  {a b : Nat} (h : ¬ ((a = 20 ∧ b = 0) ∨ (a = 50 ∧ b = 0) ∨ (a = 52 ∧ b = 0) ∨ (a = 54 ∧ b = 0) ∨ (a = 30 ∧ b = 0) ∨ (a = 31 ∧ b = 0) ∨ (a = 32 ∧ b = 0) ∨ (a = 33 ∧ b = 0) ∨ (a = 34 ∧ b = 0) ∨ (a = 35 ∧ b = 0))) : (wMkQ w _n ).1 a b = w.1 a b := by
  unfold wMkQ
  rw [sr_ne (fun e => h (by omega)), sr_ne (fun e => h (by omega)), sr_ne (fun e => h (by omega)), sr_ne (fun e => h (by omega)), sr_ne (fun e => h (by omega)), sr_ne (fun e => h (by omega)), sr_ne (fun e => h (by omega))]
theorem wMkQ_v0 {w : Wd} {_n : Nat}  : (wMkQ w _n ).1 20 (0) = fr [0, 0, 5, 0, 0, 0, 0, 0, 0, 0, 0, 0, 0, 0, 0, 0, 0, 0, 0, 0, 3, 0] := by
  unfold wMkQ
  rw [sr_ne (fun e => by omega), sr_ne (fun e => by omega), sr_ne (fun e => by omega), sr_ne (fun e => by omega), sr_ne (fun e => by omega), sr_ne (fun e => by omega), sr_same]
theorem wMkQ_v1 {w : Wd} {_n : Nat}  : (wMkQ w _n ).1 30 (0) = upd (upd (upd (fun _ => 0) 0 100) 1 10) 2 2 := by
  unfold wMkQ
  rw [sr_ne (fun e => by omega), sr_ne (fun e => by omega), sr_ne (fun e => by omega), sr_ne (fun e => by omega), sr_ne (fun e => by omega), sr_same]
theorem wMkQ_v2 {w : Wd} {_n : Nat}  : (wMkQ w _n ).1 31 (0) = fun _ => 0 := by
  unfold wMkQ
  rw [sr_ne (fun e => by omega), sr_ne (fun e => by omega), sr_ne (fun e => by omega), sr_ne (fun e => by omega), sr_same]
theorem wMkQ_v3 {w : Wd} {_n : Nat}  : (wMkQ w _n ).1 32 (0) = upd (upd (upd (fun _ => 0) 0 (-1)) 1 (-1)) 2 (-1) := by
  unfold wMkQ
  rw [sr_ne (fun e => by omega), sr_ne (fun e => by omega), sr_ne (fun e => by omega), sr_same]
theorem wMkQ_v4 {w : Wd} {_n : Nat}  : (wMkQ w _n ).1 33 (0) = fun _ => 0 := by
  unfold wMkQ
  rw [sr_ne (fun e => by omega), sr_ne (fun e => by omega), sr_same]
theorem wMkQ_v5 {w : Wd} {_n : Nat}  : (wMkQ w _n ).1 34 (0) = fun _ => 0 := by
  unfold wMkQ
  rw [sr_ne (fun e => by omega), sr_same]
theorem wMkQ_v6 {w : Wd} {_n : Nat}  : (wMkQ w _n ).1 35 (0) = fun _ => 0 := by
  unfold wMkQ
  rw [sr_same]
theorem ce_mkQ {κ : Kx} {y : Ly} {_n q a1 a3 a5 a7 a8 a9 a10 a11 a12 : Nat} {a b : Nat} {g : Nat → Int32} {d : Int64} (hk : a < 100) (hA : ¬ ((a = 20 ∧ b = 0) ∨ (a = 50 ∧ b = 0) ∨ (a = 52 ∧ b = 0) ∨ (a = 54 ∧ b = 0) ∨ (a = 30 ∧ b = 0) ∨ (a = 31 ∧ b = 0) ∨ (a = 32 ∧ b = 0) ∨ (a = 33 ∧ b = 0) ∨ (a = 34 ∧ b = 0) ∨ (a = 35 ∧ b = 0))) (hZ : ¬ ((a = 51 ∧ b = 0) ∨ (a = 53 ∧ b = 0) ∨ (a = 55 ∧ b = 0))) (hx20 : a ≠ 20) : ce κ (yMkQ y _n q a1 a3 a5 a7 a8 a9 a10 a11 a12) a b g d = ce κ y a b g d := by
  have m1 : ∀ a b, ¬ ((a = 20 ∧ b = 0) ∨ (a = 50 ∧ b = 0) ∨ (a = 52 ∧ b = 0) ∨ (a = 54 ∧ b = 0) ∨ (a = 30 ∧ b = 0) ∨ (a = 31 ∧ b = 0) ∨ (a = 32 ∧ b = 0) ∨ (a = 33 ∧ b = 0) ∨ (a = 34 ∧ b = 0) ∨ (a = 35 ∧ b = 0) ∨ (a = 51 ∧ b = 0) ∨ (a = 53 ∧ b = 0) ∨ (a = 55 ∧ b = 0) ∨ (a = 150 ∧ b = 0) ∨ (a = 152 ∧ b = 0) ∨ (a = 154 ∧ b = 0) ∨ (a = 250 ∧ b = 0) ∨ (a = 252 ∧ b = 0) ∨ (a = 254 ∧ b = 0)) → (yMkQ y _n q a1 a3 a5 a7 a8 a9 a10 a11 a12).1 a b = y.1 a b := fun a b h => yMkQ_1 h
  have m2 : ∀ a b, ¬ ((a = 20 ∧ b = 0) ∨ (a = 50 ∧ b = 0) ∨ (a = 52 ∧ b = 0) ∨ (a = 54 ∧ b = 0) ∨ (a = 30 ∧ b = 0) ∨ (a = 31 ∧ b = 0) ∨ (a = 32 ∧ b = 0) ∨ (a = 33 ∧ b = 0) ∨ (a = 34 ∧ b = 0) ∨ (a = 35 ∧ b = 0)) → (yMkQ y _n q a1 a3 a5 a7 a8 a9 a10 a11 a12).2 a b = y.2 a b := fun a b h => yMkQ_2 h
  generalize yMkQ y _n q a1 a3 a5 a7 a8 a9 a10 a11 a12 = y1 at m1 m2 ⊢
  have g2 : ∀ a, a ≠ 20 → a ≠ 30 → a ≠ 31 → a ≠ 32 → a ≠ 33 → a ≠ 34 → a ≠ 35 → a ≠ 50 → a ≠ 52 → a ≠ 54 → y1.2 a = y.2 a := fun a _ _ _ _ _ _ _ _ _ _ => funext fun b => m2 a b (by omega)
  have g1 : ∀ a, a ≠ 20 → a ≠ 30 → a ≠ 31 → a ≠ 32 → a ≠ 33 → a ≠ 34 → a ≠ 35 → a ≠ 50 → a ≠ 51 → a ≠ 52 → a ≠ 53 → a ≠ 54 → a ≠ 55 → a ≠ 150 → a ≠ 152 → a ≠ 154 → a ≠ 250 → a ≠ 252 → a ≠ 254 → y1.1 a = y.1 a := fun a _ _ _ _ _ _ _ _ _ _ _ _ _ _ _ _ _ _ _ => funext fun b => m1 a b (by omega)
  have p30 : ∀ b, b ≠ 0 → y1.2 30 b = y.2 30 b := fun b _ => m2 30 b (by omega)
  have p31 : ∀ b, b ≠ 0 → y1.2 31 b = y.2 31 b := fun b _ => m2 31 b (by omega)
  have p32 : ∀ b, b ≠ 0 → y1.2 32 b = y.2 32 b := fun b _ => m2 32 b (by omega)
  have p33 : ∀ b, b ≠ 0 → y1.2 33 b = y.2 33 b := fun b _ => m2 33 b (by omega)
  have p34 : ∀ b, b ≠ 0 → y1.2 34 b = y.2 34 b := fun b _ => m2 34 b (by omega)
  have p35 : ∀ b, b ≠ 0 → y1.2 35 b = y.2 35 b := fun b _ => m2 35 b (by omega)
  have p50 : ∀ b, b ≠ 0 → y1.2 50 b = y.2 50 b := fun b _ => m2 50 b (by omega)
  have p52 : ∀ b, b ≠ 0 → y1.2 52 b = y.2 52 b := fun b _ => m2 52 b (by omega)
  have p54 : ∀ b, b ≠ 0 → y1.2 54 b = y.2 54 b := fun b _ => m2 54 b (by omega)
  have hE : a % 2 = 0 → a ≠ 20 → a ≠ 21 → a ≠ 30 → a ≠ 31 → a ≠ 32 → a ≠ 33 → a ≠ 34 → a ≠ 35 → lsC κ y1 a b = lsC κ y a b := fun _ _ _ _ _ _ _ _ _ => lsC_eq (m1 _ _ (by omega)) (m1 _ _ (by omega)) (m1 _ _ (by omega)) (m2 _ _ (by omega))
  have hO : ¬ a % 2 = 0 → a ≠ 20 → a ≠ 21 → a ≠ 30 → a ≠ 31 → a ≠ 32 → a ≠ 33 → a ≠ 34 → a ≠ 35 → laC κ y1 (a - 1) b = laC κ y (a - 1) b := fun _ _ _ _ _ _ _ _ _ => laC_eq2 (m1 _ _ (by omega)) (fun t ht => m2 _ _ (by omega))
  unfold ce
  split
  all_goals try replace hx6 := hx6 rfl
  all_goals try replace hx14 := hx14 rfl
  all_goals first
    | rfl
    | (split
       · exact hE (by assumption) (by assumption) (by assumption) (by assumption) (by assumption) (by assumption) (by assumption) (by assumption) (by assumption)
       · exact hO (by assumption) (by assumption) (by assumption) (by assumption) (by assumption) (by assumption) (by assumption) (by assumption) (by assumption))
    | (simp (disch := omega) only [g1 14 (by decide) (by decide) (by decide) (by decide) (by decide) (by decide) (by decide) (by decide) (by decide) (by decide) (by decide) (by decide) (by decide) (by decide) (by decide) (by decide) (by decide) (by decide) (by decide), g1 25 (by decide) (by decide) (by decide) (by decide) (by decide) (by decide) (by decide) (by decide) (by decide) (by decide) (by decide) (by decide) (by decide) (by decide) (by decide) (by decide) (by decide) (by decide) (by decide), g2 1 (by decide) (by decide) (by decide) (by decide) (by decide) (by decide) (by decide) (by decide) (by decide) (by decide), g2 2 (by decide) (by decide) (by decide) (by decide) (by decide) (by decide) (by decide) (by decide) (by decide) (by decide), g2 3 (by decide) (by decide) (by decide) (by decide) (by decide) (by decide) (by decide) (by decide) (by decide) (by decide), g2 4 (by decide) (by decide) (by decide) (by decide) (by decide) (by decide) (by decide) (by decide) (by decide) (by decide), g2 5 (by decide) (by decide) (by decide) (by decide) (by decide) (by decide) (by decide) (by decide) (by decide) (by decide), g2 7 (by decide) (by decide) (by decide) (by decide) (by decide) (by decide) (by decide) (by decide) (by decide) (by decide), g2 8 (by decide) (by decide) (by decide) (by decide) (by decide) (by decide) (by decide) (by decide) (by decide) (by decide), g2 9 (by decide) (by decide) (by decide) (by decide) (by decide) (by decide) (by decide) (by decide) (by decide) (by decide), g2 12 (by decide) (by decide) (by decide) (by decide) (by decide) (by decide) (by decide) (by decide) (by decide) (by decide), g2 13 (by decide) (by decide) (by decide) (by decide) (by decide) (by decide) (by decide) (by decide) (by decide) (by decide), g2 14 (by decide) (by decide) (by decide) (by decide) (by decide) (by decide) (by decide) (by decide) (by decide) (by decide), g2 16 (by decide) (by decide) (by decide) (by decide) (by decide) (by decide) (by decide) (by decide) (by decide) (by decide), g2 22 (by decide) (by decide) (by decide) (by decide) (by decide) (by decide) (by decide) (by decide) (by decide) (by decide), g2 23 (by decide) (by decide) (by decide) (by decide) (by decide) (by decide) (by decide) (by decide) (by decide) (by decide), g2 24 (by decide) (by decide) (by decide) (by decide) (by decide) (by decide) (by decide) (by decide) (by decide) (by decide), g2 25 (by decide) (by decide) (by decide) (by decide) (by decide) (by decide) (by decide) (by decide) (by decide) (by decide), g2 28 (by decide) (by decide) (by decide) (by decide) (by decide) (by decide) (by decide) (by decide) (by decide) (by decide), g2 29 (by decide) (by decide) (by decide) (by decide) (by decide) (by decide) (by decide) (by decide) (by decide) (by decide), g2 40 (by decide) (by decide) (by decide) (by decide) (by decide) (by decide) (by decide) (by decide) (by decide) (by decide), g2 42 (by decide) (by decide) (by decide) (by decide) (by decide) (by decide) (by decide) (by decide) (by decide) (by decide), g2 44 (by decide) (by decide) (by decide) (by decide) (by decide) (by decide) (by decide) (by decide) (by decide) (by decide), g2 46 (by decide) (by decide) (by decide) (by decide) (by decide) (by decide) (by decide) (by decide) (by decide) (by decide), g2 48 (by decide) (by decide) (by decide) (by decide) (by decide) (by decide) (by decide) (by decide) (by decide) (by decide), g2 56 (by decide) (by decide) (by decide) (by decide) (by decide) (by decide) (by decide) (by decide) (by decide) (by decide), g2 58 (by decide) (by decide) (by decide) (by decide) (by decide) (by decide) (by decide) (by decide) (by decide) (by decide), p30, p31, p32, p33, p34, p35, p50, p52, p54]; done)
    | (simp (disch := omega) only [g1 14 (by decide) (by decide) (by decide) (by decide) (by decide) (by decide) (by decide) (by decide) (by decide) (by decide) (by decide) (by decide) (by decide) (by decide) (by decide) (by decide) (by decide) (by decide) (by decide), g1 25 (by decide) (by decide) (by decide) (by decide) (by decide) (by decide) (by decide) (by decide) (by decide) (by decide) (by decide) (by decide) (by decide) (by decide) (by decide) (by decide) (by decide) (by decide) (by decide), g2 1 (by decide) (by decide) (by decide) (by decide) (by decide) (by decide) (by decide) (by decide) (by decide) (by decide), g2 2 (by decide) (by decide) (by decide) (by decide) (by decide) (by decide) (by decide) (by decide) (by decide) (by decide), g2 3 (by decide) (by decide) (by decide) (by decide) (by decide) (by decide) (by decide) (by decide) (by decide) (by decide), g2 4 (by decide) (by decide) (by decide) (by decide) (by decide) (by decide) (by decide) (by decide) (by decide) (by decide), g2 5 (by decide) (by decide) (by decide) (by decide) (by decide) (by decide) (by decide) (by decide) (by decide) (by decide), g2 7 (by decide) (by decide) (by decide) (by decide) (by decide) (by decide) (by decide) (by decide) (by decide) (by decide), g2 8 (by decide) (by decide) (by decide) (by decide) (by decide) (by decide) (by decide) (by decide) (by decide) (by decide), g2 9 (by decide) (by decide) (by decide) (by decide) (by decide) (by decide) (by decide) (by decide) (by decide) (by decide), g2 12 (by decide) (by decide) (by decide) (by decide) (by decide) (by decide) (by decide) (by decide) (by decide) (by decide), g2 13 (by decide) (by decide) (by decide) (by decide) (by decide) (by decide) (by decide) (by decide) (by decide) (by decide), g2 14 (by decide) (by decide) (by decide) (by decide) (by decide) (by decide) (by decide) (by decide) (by decide) (by decide), g2 16 (by decide) (by decide) (by decide) (by decide) (by decide) (by decide) (by decide) (by decide) (by decide) (by decide), g2 22 (by decide) (by decide) (by decide) (by decide) (by decide) (by decide) (by decide) (by decide) (by decide) (by decide), g2 23 (by decide) (by decide) (by decide) (by decide) (by decide) (by decide) (by decide) (by decide) (by decide) (by decide), g2 24 (by decide) (by decide) (by decide) (by decide) (by decide) (by decide) (by decide) (by decide) (by decide) (by decide), g2 25 (by decide) (by decide) (by decide) (by decide) (by decide) (by decide) (by decide) (by decide) (by decide) (by decide), g2 28 (by decide) (by decide) (by decide) (by decide) (by decide) (by decide) (by decide) (by decide) (by decide) (by decide), g2 29 (by decide) (by decide) (by decide) (by decide) (by decide) (by decide) (by decide) (by decide) (by decide) (by decide), g2 40 (by decide) (by decide) (by decide) (by decide) (by decide) (by decide) (by decide) (by decide) (by decide) (by decide), g2 42 (by decide) (by decide) (by decide) (by decide) (by decide) (by decide) (by decide) (by decide) (by decide) (by decide), g2 44 (by decide) (by decide) (by decide) (by decide) (by decide) (by decide) (by decide) (by decide) (by decide) (by decide), g2 46 (by decide) (by decide) (by decide) (by decide) (by decide) (by decide) (by decide) (by decide) (by decide) (by decide), g2 48 (by decide) (by decide) (by decide) (by decide) (by decide) (by decide) (by decide) (by decide) (by decide) (by decide), g2 56 (by decide) (by decide) (by decide) (by decide) (by decide) (by decide) (by decide) (by decide) (by decide) (by decide), g2 58 (by decide) (by decide) (by decide) (by decide) (by decide) (by decide) (by decide) (by decide) (by decide) (by decide), p30, p31, p32, p33, p34, p35, p50, p52, p54]; rfl)
    | exact absurd rfl hx20
theorem Rp.mkQ {κ : Kx} {w : Wd} {y : Ly} {X : XR} {H : Heap} {_n q a1 a3 a5 a7 a8 a9 a10 a11 a12 : Nat}  (h : Rp κ w y X [(q, .inr (11, [.int 0, .int 0, .int 5, .ref a1, .ref a3, .ref a5, .ref a7, .ref a8, .ref a9, .ref a10, .ref a11, .ref a12, .int 0, .int 0, .int 0, .int 0, .int 0, .int 0, .int 0, .int 0, .int 3, .int 0])), (a1, eL 0 (kA κ 1) 0), (a3, eL 0 (kA κ 1) 0), (a5, eL 0 (kA κ 1) 0), (a7, .inl (kT κ 0, (3, .inl (upd (upd (upd (fun _ => 0) 0 100) 1 10) 2 2)))), (a8, .inl (kT κ 0, (3, .inl (fun _ => 0)))), (a9, .inl (kT κ 0, (3, .inl (upd (upd (upd (fun _ => 0) 0 (-1)) 1 (-1)) 2 (-1))))), (a10, .inl (kT κ 0, (3, .inl (fun _ => 0)))), (a11, .inl (kT κ 2, (3, .inl (fun _ => 0)))), (a12, .inl (kT κ 0, (3, .inl (fun _ => 0))))] H) (hy20 : ∀ b, ¬ live y 20 b) : Rp κ (wMkQ w _n ) (yMkQ y _n q a1 a3 a5 a7 a8 a9 a10 a11 a12) X [] H := by
  refine h.back (X := X) (w' := wMkQ w _n ) (y' := yMkQ y _n q a1 a3 a5 a7 a8 a9 a10 a11 a12) (L' := []) (fun _ _ hx => hx) (fun a b => (a = 20 ∧ b = 0) ∨ (a = 50 ∧ b = 0) ∨ (a = 52 ∧ b = 0) ∨ (a = 54 ∧ b = 0) ∨ (a = 30 ∧ b = 0) ∨ (a = 31 ∧ b = 0) ∨ (a = 32 ∧ b = 0) ∨ (a = 33 ∧ b = 0) ∨ (a = 34 ∧ b = 0) ∨ (a = 35 ∧ b = 0)) (fun a b hl hA => ?_) (fun a b hl hA => Or.inr ?_) (fun a b a' b' _ _ hA hA' e9 => ?_) (fun t q h => by simp at h) va_D0
  · have h9 := hl.1
    have hk := hl.2
    by_cases z10 : a = 51 ∧ b = 0
    · obtain ⟨rfl, rfl⟩ := z10
      rw [yMkQ_f10] at h9
      cases h9
    by_cases z11 : a = 53 ∧ b = 0
    · obtain ⟨rfl, rfl⟩ := z11
      rw [yMkQ_f11] at h9
      cases h9
    by_cases z12 : a = 55 ∧ b = 0
    · obtain ⟨rfl, rfl⟩ := z12
      rw [yMkQ_f12] at h9
      cases h9
    rw [yMkQ_1 (by omega)] at h9
    refine ⟨⟨h9, hk⟩, yMkQ_2 (by omega), ?_⟩
    rw [wMkQ_ne hA]
    exact ce_mkQ hk hA (by omega) (fun e => hy20 b (by rw [← e]; exact ⟨h9, hk⟩))
  · rcases hA with ⟨rfl, hb⟩ | ⟨rfl, hb⟩ | ⟨rfl, hb⟩ | ⟨rfl, hb⟩ | ⟨rfl, hb⟩ | ⟨rfl, hb⟩ | ⟨rfl, hb⟩ | ⟨rfl, hb⟩ | ⟨rfl, hb⟩ | ⟨rfl, hb⟩ <;> (have hb := hb.symm; subst hb)
    · exact ⟨0, by rw [yMkQ_a0]; simp only [ce, lsC, yMkQ_a0, yMkQ_a1, yMkQ_a2, yMkQ_a3, yMkQ_a4, yMkQ_a5, yMkQ_a6, yMkQ_a7, yMkQ_a8, yMkQ_a9, wMkQ_v0, wMkQ_v1, wMkQ_v2, wMkQ_v3, wMkQ_v4, wMkQ_v5, wMkQ_v6, yMkQ_f0, yMkQ_f1, yMkQ_f2, yMkQ_f3, yMkQ_f4, yMkQ_f5, yMkQ_f6, yMkQ_f7, yMkQ_f8, yMkQ_f9, yMkQ_f10, yMkQ_f11, yMkQ_f12, yMkQ_f13, yMkQ_f14, yMkQ_f15, yMkQ_f16, yMkQ_f17, yMkQ_f18]; rfl⟩
    · exact ⟨1, by rw [yMkQ_a1]; show some (a1, eL 0 (kA κ 1) 0) = some (a1, Sum.inr (16, [Value.int (nI ((yMkQ y _n q a1 a3 a5 a7 a8 a9 a10 a11 a12).1 250 (0))), Value.ref (if (yMkQ y _n q a1 a3 a5 a7 a8 a9 a10 a11 a12).1 51 (0) = 1 then (yMkQ y _n q a1 a3 a5 a7 a8 a9 a10 a11 a12).2 51 (0) else kA κ 1), Value.int (nI ((yMkQ y _n q a1 a3 a5 a7 a8 a9 a10 a11 a12).1 150 (0)))])); rw [yMkQ_f16, yMkQ_f10, yMkQ_f13, if_neg (by decide)]; rfl⟩
    · exact ⟨2, by rw [yMkQ_a2]; show some (a3, eL 0 (kA κ 1) 0) = some (a3, Sum.inr (16, [Value.int (nI ((yMkQ y _n q a1 a3 a5 a7 a8 a9 a10 a11 a12).1 252 (0))), Value.ref (if (yMkQ y _n q a1 a3 a5 a7 a8 a9 a10 a11 a12).1 53 (0) = 1 then (yMkQ y _n q a1 a3 a5 a7 a8 a9 a10 a11 a12).2 53 (0) else kA κ 1), Value.int (nI ((yMkQ y _n q a1 a3 a5 a7 a8 a9 a10 a11 a12).1 152 (0)))])); rw [yMkQ_f17, yMkQ_f11, yMkQ_f14, if_neg (by decide)]; rfl⟩
    · exact ⟨3, by rw [yMkQ_a3]; show some (a5, eL 0 (kA κ 1) 0) = some (a5, Sum.inr (16, [Value.int (nI ((yMkQ y _n q a1 a3 a5 a7 a8 a9 a10 a11 a12).1 254 (0))), Value.ref (if (yMkQ y _n q a1 a3 a5 a7 a8 a9 a10 a11 a12).1 55 (0) = 1 then (yMkQ y _n q a1 a3 a5 a7 a8 a9 a10 a11 a12).2 55 (0) else kA κ 1), Value.int (nI ((yMkQ y _n q a1 a3 a5 a7 a8 a9 a10 a11 a12).1 154 (0)))])); rw [yMkQ_f18, yMkQ_f12, yMkQ_f15, if_neg (by decide)]; rfl⟩
    · exact ⟨4, by rw [yMkQ_a4]; simp only [ce, lsC, yMkQ_a0, yMkQ_a1, yMkQ_a2, yMkQ_a3, yMkQ_a4, yMkQ_a5, yMkQ_a6, yMkQ_a7, yMkQ_a8, yMkQ_a9, wMkQ_v0, wMkQ_v1, wMkQ_v2, wMkQ_v3, wMkQ_v4, wMkQ_v5, wMkQ_v6, yMkQ_f0, yMkQ_f1, yMkQ_f2, yMkQ_f3, yMkQ_f4, yMkQ_f5, yMkQ_f6, yMkQ_f7, yMkQ_f8, yMkQ_f9, yMkQ_f10, yMkQ_f11, yMkQ_f12, yMkQ_f13, yMkQ_f14, yMkQ_f15, yMkQ_f16, yMkQ_f17, yMkQ_f18]; rfl⟩
    · exact ⟨5, by rw [yMkQ_a5]; simp only [ce, lsC, yMkQ_a0, yMkQ_a1, yMkQ_a2, yMkQ_a3, yMkQ_a4, yMkQ_a5, yMkQ_a6, yMkQ_a7, yMkQ_a8, yMkQ_a9, wMkQ_v0, wMkQ_v1, wMkQ_v2, wMkQ_v3, wMkQ_v4, wMkQ_v5, wMkQ_v6, yMkQ_f0, yMkQ_f1, yMkQ_f2, yMkQ_f3, yMkQ_f4, yMkQ_f5, yMkQ_f6, yMkQ_f7, yMkQ_f8, yMkQ_f9, yMkQ_f10, yMkQ_f11, yMkQ_f12, yMkQ_f13, yMkQ_f14, yMkQ_f15, yMkQ_f16, yMkQ_f17, yMkQ_f18]; rfl⟩
    · exact ⟨6, by rw [yMkQ_a6]; simp only [ce, lsC, yMkQ_a0, yMkQ_a1, yMkQ_a2, yMkQ_a3, yMkQ_a4, yMkQ_a5, yMkQ_a6, yMkQ_a7, yMkQ_a8, yMkQ_a9, wMkQ_v0, wMkQ_v1, wMkQ_v2, wMkQ_v3, wMkQ_v4, wMkQ_v5, wMkQ_v6, yMkQ_f0, yMkQ_f1, yMkQ_f2, yMkQ_f3, yMkQ_f4, yMkQ_f5, yMkQ_f6, yMkQ_f7, yMkQ_f8, yMkQ_f9, yMkQ_f10, yMkQ_f11, yMkQ_f12, yMkQ_f13, yMkQ_f14, yMkQ_f15, yMkQ_f16, yMkQ_f17, yMkQ_f18]; rfl⟩
    · exact ⟨7, by rw [yMkQ_a7]; simp only [ce, lsC, yMkQ_a0, yMkQ_a1, yMkQ_a2, yMkQ_a3, yMkQ_a4, yMkQ_a5, yMkQ_a6, yMkQ_a7, yMkQ_a8, yMkQ_a9, wMkQ_v0, wMkQ_v1, wMkQ_v2, wMkQ_v3, wMkQ_v4, wMkQ_v5, wMkQ_v6, yMkQ_f0, yMkQ_f1, yMkQ_f2, yMkQ_f3, yMkQ_f4, yMkQ_f5, yMkQ_f6, yMkQ_f7, yMkQ_f8, yMkQ_f9, yMkQ_f10, yMkQ_f11, yMkQ_f12, yMkQ_f13, yMkQ_f14, yMkQ_f15, yMkQ_f16, yMkQ_f17, yMkQ_f18]; rfl⟩
    · exact ⟨8, by rw [yMkQ_a8]; simp only [ce, lsC, yMkQ_a0, yMkQ_a1, yMkQ_a2, yMkQ_a3, yMkQ_a4, yMkQ_a5, yMkQ_a6, yMkQ_a7, yMkQ_a8, yMkQ_a9, wMkQ_v0, wMkQ_v1, wMkQ_v2, wMkQ_v3, wMkQ_v4, wMkQ_v5, wMkQ_v6, yMkQ_f0, yMkQ_f1, yMkQ_f2, yMkQ_f3, yMkQ_f4, yMkQ_f5, yMkQ_f6, yMkQ_f7, yMkQ_f8, yMkQ_f9, yMkQ_f10, yMkQ_f11, yMkQ_f12, yMkQ_f13, yMkQ_f14, yMkQ_f15, yMkQ_f16, yMkQ_f17, yMkQ_f18]; rfl⟩
    · exact ⟨9, by rw [yMkQ_a9]; simp only [ce, lsC, yMkQ_a0, yMkQ_a1, yMkQ_a2, yMkQ_a3, yMkQ_a4, yMkQ_a5, yMkQ_a6, yMkQ_a7, yMkQ_a8, yMkQ_a9, wMkQ_v0, wMkQ_v1, wMkQ_v2, wMkQ_v3, wMkQ_v4, wMkQ_v5, wMkQ_v6, yMkQ_f0, yMkQ_f1, yMkQ_f2, yMkQ_f3, yMkQ_f4, yMkQ_f5, yMkQ_f6, yMkQ_f7, yMkQ_f8, yMkQ_f9, yMkQ_f10, yMkQ_f11, yMkQ_f12, yMkQ_f13, yMkQ_f14, yMkQ_f15, yMkQ_f16, yMkQ_f17, yMkQ_f18]; rfl⟩
  · rcases hA with ⟨rfl, rfl⟩ | ⟨rfl, rfl⟩ | ⟨rfl, rfl⟩ | ⟨rfl, rfl⟩ | ⟨rfl, rfl⟩ | ⟨rfl, rfl⟩ | ⟨rfl, rfl⟩ | ⟨rfl, rfl⟩ | ⟨rfl, rfl⟩ | ⟨rfl, rfl⟩ <;> rcases hA' with ⟨rfl, rfl⟩ | ⟨rfl, rfl⟩ | ⟨rfl, rfl⟩ | ⟨rfl, rfl⟩ | ⟨rfl, rfl⟩ | ⟨rfl, rfl⟩ | ⟨rfl, rfl⟩ | ⟨rfl, rfl⟩ | ⟨rfl, rfl⟩ | ⟨rfl, rfl⟩
    · exact ⟨rfl, rfl⟩
    · rw [yMkQ_a0, yMkQ_a1] at e9; have := h.LD.1 0 1 _ _ rfl rfl e9; omega
    · rw [yMkQ_a0, yMkQ_a2] at e9; have := h.LD.1 0 2 _ _ rfl rfl e9; omega
    · rw [yMkQ_a0, yMkQ_a3] at e9; have := h.LD.1 0 3 _ _ rfl rfl e9; omega
    · rw [yMkQ_a0, yMkQ_a4] at e9; have := h.LD.1 0 4 _ _ rfl rfl e9; omega
    · rw [yMkQ_a0, yMkQ_a5] at e9; have := h.LD.1 0 5 _ _ rfl rfl e9; omega
    · rw [yMkQ_a0, yMkQ_a6] at e9; have := h.LD.1 0 6 _ _ rfl rfl e9; omega
    · rw [yMkQ_a0, yMkQ_a7] at e9; have := h.LD.1 0 7 _ _ rfl rfl e9; omega
    · rw [yMkQ_a0, yMkQ_a8] at e9; have := h.LD.1 0 8 _ _ rfl rfl e9; omega
    · rw [yMkQ_a0, yMkQ_a9] at e9; have := h.LD.1 0 9 _ _ rfl rfl e9; omega
    · rw [yMkQ_a1, yMkQ_a0] at e9; have := h.LD.1 1 0 _ _ rfl rfl e9; omega
    · exact ⟨rfl, rfl⟩
    · rw [yMkQ_a1, yMkQ_a2] at e9; have := h.LD.1 1 2 _ _ rfl rfl e9; omega
    · rw [yMkQ_a1, yMkQ_a3] at e9; have := h.LD.1 1 3 _ _ rfl rfl e9; omega
    · rw [yMkQ_a1, yMkQ_a4] at e9; have := h.LD.1 1 4 _ _ rfl rfl e9; omega
    · rw [yMkQ_a1, yMkQ_a5] at e9; have := h.LD.1 1 5 _ _ rfl rfl e9; omega
    · rw [yMkQ_a1, yMkQ_a6] at e9; have := h.LD.1 1 6 _ _ rfl rfl e9; omega
    · rw [yMkQ_a1, yMkQ_a7] at e9; have := h.LD.1 1 7 _ _ rfl rfl e9; omega
    · rw [yMkQ_a1, yMkQ_a8] at e9; have := h.LD.1 1 8 _ _ rfl rfl e9; omega
    · rw [yMkQ_a1, yMkQ_a9] at e9; have := h.LD.1 1 9 _ _ rfl rfl e9; omega
    · rw [yMkQ_a2, yMkQ_a0] at e9; have := h.LD.1 2 0 _ _ rfl rfl e9; omega
    · rw [yMkQ_a2, yMkQ_a1] at e9; have := h.LD.1 2 1 _ _ rfl rfl e9; omega
    · exact ⟨rfl, rfl⟩
    · rw [yMkQ_a2, yMkQ_a3] at e9; have := h.LD.1 2 3 _ _ rfl rfl e9; omega
    · rw [yMkQ_a2, yMkQ_a4] at e9; have := h.LD.1 2 4 _ _ rfl rfl e9; omega
    · rw [yMkQ_a2, yMkQ_a5] at e9; have := h.LD.1 2 5 _ _ rfl rfl e9; omega
    · rw [yMkQ_a2, yMkQ_a6] at e9; have := h.LD.1 2 6 _ _ rfl rfl e9; omega
    · rw [yMkQ_a2, yMkQ_a7] at e9; have := h.LD.1 2 7 _ _ rfl rfl e9; omega
    · rw [yMkQ_a2, yMkQ_a8] at e9; have := h.LD.1 2 8 _ _ rfl rfl e9; omega
    · rw [yMkQ_a2, yMkQ_a9] at e9; have := h.LD.1 2 9 _ _ rfl rfl e9; omega
    · rw [yMkQ_a3, yMkQ_a0] at e9; have := h.LD.1 3 0 _ _ rfl rfl e9; omega
    · rw [yMkQ_a3, yMkQ_a1] at e9; have := h.LD.1 3 1 _ _ rfl rfl e9; omega
    · rw [yMkQ_a3, yMkQ_a2] at e9; have := h.LD.1 3 2 _ _ rfl rfl e9; omega
    · exact ⟨rfl, rfl⟩
    · rw [yMkQ_a3, yMkQ_a4] at e9; have := h.LD.1 3 4 _ _ rfl rfl e9; omega
    · rw [yMkQ_a3, yMkQ_a5] at e9; have := h.LD.1 3 5 _ _ rfl rfl e9; omega
    · rw [yMkQ_a3, yMkQ_a6] at e9; have := h.LD.1 3 6 _ _ rfl rfl e9; omega
    · rw [yMkQ_a3, yMkQ_a7] at e9; have := h.LD.1 3 7 _ _ rfl rfl e9; omega
    · rw [yMkQ_a3, yMkQ_a8] at e9; have := h.LD.1 3 8 _ _ rfl rfl e9; omega
    · rw [yMkQ_a3, yMkQ_a9] at e9; have := h.LD.1 3 9 _ _ rfl rfl e9; omega
    · rw [yMkQ_a4, yMkQ_a0] at e9; have := h.LD.1 4 0 _ _ rfl rfl e9; omega
    · rw [yMkQ_a4, yMkQ_a1] at e9; have := h.LD.1 4 1 _ _ rfl rfl e9; omega
    · rw [yMkQ_a4, yMkQ_a2] at e9; have := h.LD.1 4 2 _ _ rfl rfl e9; omega
    · rw [yMkQ_a4, yMkQ_a3] at e9; have := h.LD.1 4 3 _ _ rfl rfl e9; omega
    · exact ⟨rfl, rfl⟩
    · rw [yMkQ_a4, yMkQ_a5] at e9; have := h.LD.1 4 5 _ _ rfl rfl e9; omega
    · rw [yMkQ_a4, yMkQ_a6] at e9; have := h.LD.1 4 6 _ _ rfl rfl e9; omega
    · rw [yMkQ_a4, yMkQ_a7] at e9; have := h.LD.1 4 7 _ _ rfl rfl e9; omega
    · rw [yMkQ_a4, yMkQ_a8] at e9; have := h.LD.1 4 8 _ _ rfl rfl e9; omega
    · rw [yMkQ_a4, yMkQ_a9] at e9; have := h.LD.1 4 9 _ _ rfl rfl e9; omega
    · rw [yMkQ_a5, yMkQ_a0] at e9; have := h.LD.1 5 0 _ _ rfl rfl e9; omega
    · rw [yMkQ_a5, yMkQ_a1] at e9; have := h.LD.1 5 1 _ _ rfl rfl e9; omega
    · rw [yMkQ_a5, yMkQ_a2] at e9; have := h.LD.1 5 2 _ _ rfl rfl e9; omega
    · rw [yMkQ_a5, yMkQ_a3] at e9; have := h.LD.1 5 3 _ _ rfl rfl e9; omega
    · rw [yMkQ_a5, yMkQ_a4] at e9; have := h.LD.1 5 4 _ _ rfl rfl e9; omega
    · exact ⟨rfl, rfl⟩
    · rw [yMkQ_a5, yMkQ_a6] at e9; have := h.LD.1 5 6 _ _ rfl rfl e9; omega
    · rw [yMkQ_a5, yMkQ_a7] at e9; have := h.LD.1 5 7 _ _ rfl rfl e9; omega
    · rw [yMkQ_a5, yMkQ_a8] at e9; have := h.LD.1 5 8 _ _ rfl rfl e9; omega
    · rw [yMkQ_a5, yMkQ_a9] at e9; have := h.LD.1 5 9 _ _ rfl rfl e9; omega
    · rw [yMkQ_a6, yMkQ_a0] at e9; have := h.LD.1 6 0 _ _ rfl rfl e9; omega
    · rw [yMkQ_a6, yMkQ_a1] at e9; have := h.LD.1 6 1 _ _ rfl rfl e9; omega
    · rw [yMkQ_a6, yMkQ_a2] at e9; have := h.LD.1 6 2 _ _ rfl rfl e9; omega
    · rw [yMkQ_a6, yMkQ_a3] at e9; have := h.LD.1 6 3 _ _ rfl rfl e9; omega
    · rw [yMkQ_a6, yMkQ_a4] at e9; have := h.LD.1 6 4 _ _ rfl rfl e9; omega
    · rw [yMkQ_a6, yMkQ_a5] at e9; have := h.LD.1 6 5 _ _ rfl rfl e9; omega
    · exact ⟨rfl, rfl⟩
    · rw [yMkQ_a6, yMkQ_a7] at e9; have := h.LD.1 6 7 _ _ rfl rfl e9; omega
    · rw [yMkQ_a6, yMkQ_a8] at e9; have := h.LD.1 6 8 _ _ rfl rfl e9; omega
    · rw [yMkQ_a6, yMkQ_a9] at e9; have := h.LD.1 6 9 _ _ rfl rfl e9; omega
    · rw [yMkQ_a7, yMkQ_a0] at e9; have := h.LD.1 7 0 _ _ rfl rfl e9; omega
    · rw [yMkQ_a7, yMkQ_a1] at e9; have := h.LD.1 7 1 _ _ rfl rfl e9; omega
    · rw [yMkQ_a7, yMkQ_a2] at e9; have := h.LD.1 7 2 _ _ rfl rfl e9; omega
    · rw [yMkQ_a7, yMkQ_a3] at e9; have := h.LD.1 7 3 _ _ rfl rfl e9; omega
    · rw [yMkQ_a7, yMkQ_a4] at e9; have := h.LD.1 7 4 _ _ rfl rfl e9; omega
    · rw [yMkQ_a7, yMkQ_a5] at e9; have := h.LD.1 7 5 _ _ rfl rfl e9; omega
    · rw [yMkQ_a7, yMkQ_a6] at e9; have := h.LD.1 7 6 _ _ rfl rfl e9; omega
    · exact ⟨rfl, rfl⟩
    · rw [yMkQ_a7, yMkQ_a8] at e9; have := h.LD.1 7 8 _ _ rfl rfl e9; omega
    · rw [yMkQ_a7, yMkQ_a9] at e9; have := h.LD.1 7 9 _ _ rfl rfl e9; omega
    · rw [yMkQ_a8, yMkQ_a0] at e9; have := h.LD.1 8 0 _ _ rfl rfl e9; omega
    · rw [yMkQ_a8, yMkQ_a1] at e9; have := h.LD.1 8 1 _ _ rfl rfl e9; omega
    · rw [yMkQ_a8, yMkQ_a2] at e9; have := h.LD.1 8 2 _ _ rfl rfl e9; omega
    · rw [yMkQ_a8, yMkQ_a3] at e9; have := h.LD.1 8 3 _ _ rfl rfl e9; omega
    · rw [yMkQ_a8, yMkQ_a4] at e9; have := h.LD.1 8 4 _ _ rfl rfl e9; omega
    · rw [yMkQ_a8, yMkQ_a5] at e9; have := h.LD.1 8 5 _ _ rfl rfl e9; omega
    · rw [yMkQ_a8, yMkQ_a6] at e9; have := h.LD.1 8 6 _ _ rfl rfl e9; omega
    · rw [yMkQ_a8, yMkQ_a7] at e9; have := h.LD.1 8 7 _ _ rfl rfl e9; omega
    · exact ⟨rfl, rfl⟩
    · rw [yMkQ_a8, yMkQ_a9] at e9; have := h.LD.1 8 9 _ _ rfl rfl e9; omega
    · rw [yMkQ_a9, yMkQ_a0] at e9; have := h.LD.1 9 0 _ _ rfl rfl e9; omega
    · rw [yMkQ_a9, yMkQ_a1] at e9; have := h.LD.1 9 1 _ _ rfl rfl e9; omega
    · rw [yMkQ_a9, yMkQ_a2] at e9; have := h.LD.1 9 2 _ _ rfl rfl e9; omega
    · rw [yMkQ_a9, yMkQ_a3] at e9; have := h.LD.1 9 3 _ _ rfl rfl e9; omega
    · rw [yMkQ_a9, yMkQ_a4] at e9; have := h.LD.1 9 4 _ _ rfl rfl e9; omega
    · rw [yMkQ_a9, yMkQ_a5] at e9; have := h.LD.1 9 5 _ _ rfl rfl e9; omega
    · rw [yMkQ_a9, yMkQ_a6] at e9; have := h.LD.1 9 6 _ _ rfl rfl e9; omega
    · rw [yMkQ_a9, yMkQ_a7] at e9; have := h.LD.1 9 7 _ _ rfl rfl e9; omega
    · rw [yMkQ_a9, yMkQ_a8] at e9; have := h.LD.1 9 8 _ _ rfl rfl e9; omega
    · exact ⟨rfl, rfl⟩
