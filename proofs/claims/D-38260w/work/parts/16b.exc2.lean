/-! THROWS: new X; dup; aload_n; invokespecial; athrow (printed by wip gen/exc.py) -/
set_option maxRecDepth 100000
abbrev xnm : List String := ["java/lang/RuntimeException", "java/lang/Exception"]
theorem xg_iae : ∀ w ∈ (vx_atS "Publicanry" 85 "java/lang/IllegalArgumentException" xnm).filter goodWord, w ∈ lw_all := lw_in ((vx_atS "Publicanry" 85 "java/lang/IllegalArgumentException" xnm).filter goodWord) [87, 444, 399, 406, 409, 411, 445, 446, 127, 128, 393, 398, 407, 414, 438, 415, 439, 416, 440, 394, 396, 441, 391, 392, 413, 441, 807, 808, 809, 385, 385, 386, 387, 388, 388, 389, 390, 391, 806, 798, 800, 402, 801, 802, 803, 804, 412, 442, 805] (by decide +kernel) (by decide +kernel)
theorem xb_iae : (vx_atS "Publicanry" 85 "java/lang/IllegalArgumentException" xnm).filter (fun w => !goodWord w) = [Cond.declares (Bundle.initS "java/lang/RuntimeException"), Cond.declares (Bundle.initS "java/lang/Exception"), Cond.declares (Bundle.initS "java/lang/Throwable"), Cond.castable "java/lang/IllegalArgumentException" "java/lang/IllegalArgumentException"] := by decide +kernel
theorem xo_iae : (vx_atS "Publicanry" 85 "java/lang/IllegalArgumentException" xnm).all vx_ot = true := by decide +kernel
theorem xw_iae {κ : Kx} {s : State} {args : Array Value} (hK : KK κ s) (hts : ∀ w ∈ lw_all, w.before args s = true) : ∀ w ∈ vx_atS "Publicanry" 85 "java/lang/IllegalArgumentException" xnm, w.before args s = true :=
  vx_hat (fun w h => hts w (xg_iae w h)) (fun w h => by rw [xb_iae] at h; exact h) (vx_c (va_Nw.use rfl (hK.2.1.2.2.2.1 _ (List.mem_of_getElem? (i := 10) rfl))) (vx_c (va_Nw.use rfl (hK.2.1.2.2.2.1 _ (List.mem_of_getElem? (i := 8) rfl))) (vx_c (va_Nw.use rfl (hK.2.1.2.2.2.1 _ (List.mem_of_getElem? (i := 6) rfl))) (vx_c (va_Nw.use rfl (hK.2.1.2.2.1 _ (List.mem_of_getElem? (i := 14) rfl))) vx_n))))
theorem xg_ise : ∀ w ∈ (vx_atS "Publicanry" 90 "java/lang/IllegalStateException" xnm).filter goodWord, w ∈ lw_all := lw_in ((vx_atS "Publicanry" 90 "java/lang/IllegalStateException" xnm).filter goodWord) [87, 444, 399, 406, 409, 411, 445, 446, 127, 128, 393, 398, 407, 414, 438, 415, 439, 416, 440, 394, 396, 441, 391, 392, 413, 441, 826, 827, 828, 385, 385, 386, 387, 388, 388, 389, 390, 391, 825, 817, 819, 404, 820, 821, 822, 823, 412, 442, 824] (by decide +kernel) (by decide +kernel)
theorem xb_ise : (vx_atS "Publicanry" 90 "java/lang/IllegalStateException" xnm).filter (fun w => !goodWord w) = [Cond.declares (Bundle.initS "java/lang/RuntimeException"), Cond.declares (Bundle.initS "java/lang/Exception"), Cond.declares (Bundle.initS "java/lang/Throwable"), Cond.castable "java/lang/IllegalStateException" "java/lang/IllegalStateException"] := by decide +kernel
theorem xo_ise : (vx_atS "Publicanry" 90 "java/lang/IllegalStateException" xnm).all vx_ot = true := by decide +kernel
theorem xw_ise {κ : Kx} {s : State} {args : Array Value} (hK : KK κ s) (hts : ∀ w ∈ lw_all, w.before args s = true) : ∀ w ∈ vx_atS "Publicanry" 90 "java/lang/IllegalStateException" xnm, w.before args s = true :=
  vx_hat (fun w h => hts w (xg_ise w h)) (fun w h => by rw [xb_ise] at h; exact h) (vx_c (va_Nw.use rfl (hK.2.1.2.2.2.1 _ (List.mem_of_getElem? (i := 10) rfl))) (vx_c (va_Nw.use rfl (hK.2.1.2.2.2.1 _ (List.mem_of_getElem? (i := 8) rfl))) (vx_c (va_Nw.use rfl (hK.2.1.2.2.2.1 _ (List.mem_of_getElem? (i := 6) rfl))) (vx_c (va_Nw.use rfl (hK.2.1.2.2.1 _ (List.mem_of_getElem? (i := 16) rfl))) vx_n))))
theorem xg_ioobe : ∀ w ∈ (vx_atS "Publicanry" 93 "java/lang/IndexOutOfBoundsException" xnm).filter goodWord, w ∈ lw_all := lw_in ((vx_atS "Publicanry" 93 "java/lang/IndexOutOfBoundsException" xnm).filter goodWord) [87, 444, 399, 406, 409, 411, 445, 446, 127, 128, 393, 398, 407, 414, 438, 415, 439, 416, 440, 394, 396, 441, 391, 392, 413, 441, 1011, 1012, 1013, 385, 385, 386, 387, 388, 388, 389, 390, 391, 1045, 1037, 1039, 405, 1040, 1041, 1042, 1043, 412, 442, 1044] (by decide +kernel) (by decide +kernel)
theorem xb_ioobe : (vx_atS "Publicanry" 93 "java/lang/IndexOutOfBoundsException" xnm).filter (fun w => !goodWord w) = [Cond.declares (Bundle.initS "java/lang/RuntimeException"), Cond.declares (Bundle.initS "java/lang/Exception"), Cond.declares (Bundle.initS "java/lang/Throwable"), Cond.castable "java/lang/IndexOutOfBoundsException" "java/lang/IndexOutOfBoundsException"] := by decide +kernel
theorem xo_ioobe : (vx_atS "Publicanry" 93 "java/lang/IndexOutOfBoundsException" xnm).all vx_ot = true := by decide +kernel
theorem xw_ioobe {κ : Kx} {s : State} {args : Array Value} (hK : KK κ s) (hts : ∀ w ∈ lw_all, w.before args s = true) : ∀ w ∈ vx_atS "Publicanry" 93 "java/lang/IndexOutOfBoundsException" xnm, w.before args s = true :=
  vx_hat (fun w h => hts w (xg_ioobe w h)) (fun w h => by rw [xb_ioobe] at h; exact h) (vx_c (va_Nw.use rfl (hK.2.1.2.2.2.1 _ (List.mem_of_getElem? (i := 10) rfl))) (vx_c (va_Nw.use rfl (hK.2.1.2.2.2.1 _ (List.mem_of_getElem? (i := 8) rfl))) (vx_c (va_Nw.use rfl (hK.2.1.2.2.2.1 _ (List.mem_of_getElem? (i := 6) rfl))) (vx_c (va_Nw.use rfl (hK.2.1.2.2.1 _ (List.mem_of_getElem? (i := 0) rfl))) vx_n))))
section TA
variable {p : Program} {l : Launch} {e : Env} {R : Room} {s : State} {m : MethodId} {args : Array Value} {below : List Frame} {meth : Method} {c : Code} {H : Heap} {locs : List Loc} {cells slots : Nat}
variable {free : Addr → Prop} {ls : Array Slot} {rest : List Value} {Qc : Array Value → State → Outcome → State → Prop} {XC : String → State → State → Prop}
theorem vx_throwA {cc : ByteArray} {pc : Nat} (hexec : p.tables.exec = Jvm.exec) (hb : c.code = cc) (hl : l.stackTraces = false) {own cls : String} {names : List String} {ik ic mc ms sa : Nat} {k : Fin 4} {ki : Nat} {A : Nat → Prop}
    (hown : s.vm.findClass own = some m.cls) (hcls : Bundle.fit cls = true) (hnames : ∀ n ∈ names, Bundle.fit n = true)
    (hk : (Cond.classLink own ik cls).before args s = true) (hini : (Cond.initialized cls).before args s = true) (hki : (k : Nat) = ki) (hlk : ls[ki]? = some (.val (.ref sa))) (hat : ∀ w ∈ vx_atS own ic cls names, w.before args s = true)
    (hgood : ∀ w ∈ Cond.classLink own ik cls :: Cond.initialized cls :: vx_atS own ic cls names, vx_ot w = true)
    (hU : vx_Zq Bundle.tN "UNASSIGNED_STACK" Bundle.steD A s s.heap) (hN : vx_Zq Bundle.tN "SUPPRESSED_SENTINEL" Bundle.listD A s s.heap) (hS : va_S A s.heap H locs) (hsize : ls.size = c.maxLocals)
    (d0 : decode cc pc = .ok (.new ik, 3)) (d3 : decode cc (pc + 3) = .ok (.dup, 1)) (d4 : decode cc (pc + 4) = .ok (.aload_n k, 1)) (d5 : decode cc (pc + 5) = .ok (.invokespecial ic, 3)) (d8 : decode cc (pc + 8) = .ok (.athrow, 1))
    (hout : ∀ x ∈ c.exceptionTable.toList, covers x (pc + 8) = false)
    (hRframes : names.length + 3 < R.frames) (hRlocals : (rest.map fun v => v.category).sum + (13 * (names.length + 1) + 43) ≤ R.locals) (hRcells : cells + 1 ≤ R.cells) (hRslots : slots + 6 ≤ R.slots) (hlocks : meth.locks = false)
    (hx : ∀ t : State, s.vm.Alike t.vm → H.size ≤ t.heap.size → (∀ q : Nat, q < H.size → t.heap[q]? = H[q]?) → XC cls s t)
    (hf : ∀ z ∈ locs, free z.base) (hc : cells + 1 ≤ mc) (hs : slots + 6 ≤ ms) :
    W p l e R s m args below meth c H locs cells slots (vx_MQ below Qc XC args s mc ms free) (F0 m pc ls rest) := by
  intro T hT X
  have htr : e.platform.stackTraces = false := (show e.platform.stackTraces = l.stackTraces by rw [X.admits.platform]).trans hl
  have Y := vx_rebase X (R' := { frames := R.frames, locals := R.locals, cells := 1, slots := 6 }) (Nat.le_refl _) (Nat.le_refl _) hRcells hRslots
  obtain ⟨s', hA⟩ : ∃ z, z = (T.setVm s.vm).setFrames (.invoking m args :: below) := ⟨_, rfl⟩
  rw [← hA] at Y
  have hvm : s'.vm = s.vm := by rw [hA]; rfl
  have hhp : s'.heap = H := by rw [hA]; exact hT
  have hW0 : s.WarmedH s'.vm := by rw [hvm]; exact State.WarmedH.refl s
  have hat' : ∀ w ∈ vx_atS own ic cls names, w.before args s' = true := fun w hw => vx_ot_at hW0 hvm.symm (hgood w (List.mem_cons_of_mem _ (List.mem_cons_of_mem _ hw))) (hat w hw)
  have hk' : (Cond.classLink own ik cls).before args s' = true := vx_ot_at hW0 hvm.symm (hgood _ List.mem_cons_self) hk
  have hini' : (Cond.initialized cls).before args s' = true := vx_ot_at hW0 hvm.symm (hgood _ (List.mem_cons_of_mem _ List.mem_cons_self)) hini
  have hU' : vx_Zq Bundle.tN "UNASSIGNED_STACK" Bundle.steD A s' s'.heap := by rw [hhp]; exact vx_Zq.moved hW0.alike (hU.kept hS.2.1)
  have hN' : vx_Zq Bundle.tN "SUPPRESSED_SENTINEL" Bundle.listD A s' s'.heap := by rw [hhp]; exact vx_Zq.moved hW0.alike (hN.kept hS.2.1)
  have h : ∀ w ∈ Bundle.ownAtoms own ic cls names, w.before args s' = true := vx_own hat' (vx_isRefq hU'.1) (vx_isRefq hN'.1) hU'.2.word hN'.2.word
  have hown' : s'.vm.findClass own = some m.cls := by rw [hvm]; exact hown
  have hins : (Cond.instantiable cls 6).before args s' = true := h _ (by simp [Bundle.ownAtoms])
  obtain ⟨vm₁, cX, kX, hfX, hkX, -, -, X₁, st1⟩ := Y.newCold hexec (own := own) (C := cls) (index := ik) (n := 6) hown' hk' hins hini'
    (g := F0 m pc ls rest) rfl (by rw [hb]; exact d0) (Nat.le_refl _) (Nat.le_refl _)
  generalize hT1 : (T.setVm vm₁).pushCell { cls := cX, slots := kX.instanceTypes.map defaultValue, vm := .none } = T1 at X₁ st1
  have hcat : (Value.ref T.heap.size).category = 1 := rfl
  have hcellA : T1.heap[T.heap.size]? = some (freshCell cX kX) := by rw [← hT1]; exact State.heap_pushCell_size _ _
  have d3' : decode c.code (pc + 3) = .ok (.dup, 1) := by rw [hb]; exact d3
  have d4' : decode c.code (pc + 4) = .ok (.aload_n k, 1) := by rw [hb]; exact d4
  subst hki
  obtain ⟨U, hsteps, hrun, hend, hW, hsame, ce, hce, hO⟩ := X₁.ctorThrowS hexec htr (own := own) (cls := cls) (names := names) (ic := ic) hown' hcls hnames h (fun x hx => nomatch hx) hfX hkX hcellA (by rw [hhp, hT]; exact Nat.le_refl _) (msg := .ref sa) rfl
    (g := { method := m, pc := pc + 5, locals := ls, stack := .ref sa :: .ref T.heap.size :: .ref T.heap.size :: rest, locked := none }) rfl hsize rfl rfl (rest := rest) rfl
    (by rw [hb]; exact d5) (by rw [hb]; exact d8) hout hRframes (by simp only [List.map_cons, List.sum_cons, hcat]; omega) hlocks
  obtain ⟨f1, f2⟩ := vx_frame hsame
  rw [hhp] at f1 f2
  have hWs : s.WarmedH U.vm := State.WarmedH.trans hW0 hW
  have hcl : s.vm.findClass cls = some ce.cls := by
    have h9 := hO.cls
    rw [hvm] at h9
    exact h9
  have hall : s.sameButNew ({ U with vm := s.vm } : State) locs mc ms := by
    subst hA
    obtain ⟨e1, e2⟩ := hsame
    rw [State.setFrames_setFrames] at e1
    have h2 : (T.setVm s.vm).sameButNew ({ U with vm := s.vm } : State) [] (0 + 1) (0 + 6) := ⟨e1, e2⟩
    have h3 := X.same.trans h2
    rw [List.append_nil] at h3
    exact h3.mono hc hs
  refine ⟨U, ?_, .threw T.heap.size, hrun, hend, Or.inr ⟨T.heap.size, rfl, cls, ce, locs, hx U hWs.alike f1 (fun q hq => f2 q hq (fun z hz => nomatch hz)), hce, hO.vm, hcl, hWs, hall, hf⟩⟩
  refine st1 _ ?_
  show Steps p.tables e below (T1.setTop { method := m, pc := pc + 3, locals := ls, stack := .ref T.heap.size :: rest, locked := none }) _
  jvm_step X₁.here [X₁.here.top, hexec, d3', Value.category]
  have X4 : Steps p.tables e below (T1.setTop { method := m, pc := pc + 4, locals := ls, stack := .ref T.heap.size :: .ref T.heap.size :: rest, locked := none }) U := by
    jvm_step X₁.here [X₁.here.top, hexec, d4', hlk, Value.isRef]
    exact hsteps
  exact X4
theorem jr_castS {cc : ByteArray} {pc : Nat} {Q : State → Prop} {κ : Kx} (hx : p.tables.exec = Jvm.exec) (hb : c.code = cc) {own : String} {ci index a : Nat} {fs : List Value} {r : vw_C} (hown : s.vm.findClass own = some m.cls) (hK : KK κ s) (hts : ∀ w ∈ lw_all, w.before args s = true) (h : va_at (kD κ) Cl (a, .inr (ci, fs)) H) (hc : Cl[ci]? = some r) (hlink : Cond.classLink own index r.1 ∈ lw_all) (hdg : decode cc pc = .ok (.checkcast index, 3))
    (kk : W p l e R s m args below meth c H locs cells slots Q (F0 m (pc + 3) ls (.ref a :: rest))) : W p l e R s m args below meth c H locs cells slots Q (F0 m pc ls (.ref a :: rest)) := va_castS hx hb hown (hts _ hlink) (hK.1.1 ci _ hc).2 (rv_at hK h hc) hdg kk
end TA
