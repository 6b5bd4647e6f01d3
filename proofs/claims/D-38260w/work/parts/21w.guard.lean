/-! THE GUARD: notifyAll by one who does not own the monitor; a synchronized method (printed by wip gen/guard.py) -/
set_option maxRecDepth 100000
set_option maxHeartbeats 1000000 in
/-- a native of the JDK throws cls with the message text over the frame g, no traces kept (the kit's vx_vmAt turned to a native's frame) -/
theorem vx_vmAtN {p : Program} {l : Launch} {e : Env} {R : Room} {s : State} {m₀ : MethodId} {args : Array Value} {below : List Frame} {meth : Method} {c : Code} {W : State} {locs : List Loc} {cells slots : Nat}
    (X : Stand p l e R s m₀ args below meth c W locs cells slots) (hexec : p.tables.exec = Jvm.exec) (htr : e.platform.stackTraces = false) {cls : String} {names : List String} {text : String}
    (hcls : Bundle.fit cls = true) (hnames : ∀ n ∈ names, Bundle.fit n = true) (hsoe : (cls == "java/lang/StackOverflowError") = false) (hoom : (cls == "java/lang/OutOfMemoryError") = false)
    (h : ∀ a ∈ Bundle.messageArmAtoms cls names, a.before args s = true)
    (hlocs : ∀ x ∈ locs, ∀ cell, s.heap[x.base]? = some cell → cell.vm.isStatics = false)
    (htext : (text == notModelled) = false) (hlimit : ¬ (stringBytes (stringToUtf16 text)).size > e.platform.arrayLengthLimit) (hheap : ¬ (stringBytes (stringToUtf16 text)).size * componentBytes .byte > e.platform.maxHeapBytes)
    {g : JFrame} (hg : g.method = m₀) (hsize : g.locals.size = c.maxLocals)
    {nf : NFrame} (hnf : nf.words = 0) (hRframes : names.length + 5 < R.frames) (hRlocals : 2 * g.monitorRoom + (g.stack.map fun v => v.category).sum + 10240 ≤ R.locals) (hshort : 13 * names.length + 55 ≤ 10240)
    (hRcells : cells + 3 ≤ R.cells) (hRslots : slots + ((stringBytes (stringToUtf16 text)).size + 4 + 6) ≤ R.slots) :
    ∃ (S : State) (ce : Cell), Stand p l e R s m₀ args below meth c S locs (cells + 3) (slots + ((stringBytes (stringToUtf16 text)).size + 4 + 6)) ∧
      Steps p.tables e below (W.setFrames (.throwNew cls (some text) none :: .native nf :: .java g :: below)) (S.setFrames (.throwing (W.heap.size + 2) :: .native nf :: .java g :: below)) ∧
      (∀ a0, a0 < W.heap.size → S.heap[a0]? = W.heap[a0]?) ∧ W.heap.size ≤ S.heap.size ∧ S.heap[W.heap.size + 2]? = some ce ∧ s.vm.findClass cls = some ce.cls ∧ ce.vm = .none := by
  have howns : e.platform.frameOwnsMonitors = true := by rw [X.admits.platform]
  have hfin : e.platform.finalization = false := by rw [X.admits.platform]
  have hpl : e.platform.magicAccessors = ({} : Platform).magicAccessors := by rw [X.admits.platform]
  have a : ∀ x, x ∈ Bundle.messageArmAtoms cls names → x.holds args s none s [] = true := fun x hx => h x hx
  obtain ⟨T, Z0, L, -, Y⟩ := ThrowableC.of_atoms (args := args) howns hfin hpl (fun x hx => h x (by simp [Bundle.messageArmAtoms, hx]))
  obtain ⟨Z, M, LZ, LM, hnZ⟩ := Init0T.ofS_atoms (args := args) hpl L Y (fun x hx => h x (by simp [Bundle.messageArmAtoms, hx]))
  obtain ⟨P1, Ps, hlen, L1, hL, hP1m, hlink1, hlink⟩ := Bundle.chainS (args := args) hpl hnZ names cls hcls hnames (fun x hx => h x (by simp [Bundle.messageArmAtoms, hx]))
  obtain ⟨Zs, LZs, hn4, hfitv, hfitc⟩ := StringT.of_atoms (args := args) (fun x hx => h x (by simp [Bundle.messageArmAtoms, hx]))
  have hfound : s.vm.findClass cls = some P1.m.cls := findClass_of_methodNamed hP1m
  obtain ⟨c1, kX, hc1, hk, hord, -, -, hn6⟩ := Cond.instantiable_spec (a (.instantiable cls 6) (by simp [Bundle.messageArmAtoms]))
  cases Option.some.inj (hc1.symm.trans hfound)
  have hinit := Cond.initialized_spec hfound hk (a (.initialized cls) (by simp [Bundle.messageArmAtoms]))
  have hctor : kX.findMethod "<init>" "(Ljava/lang/String;)V" = some P1.m.idx := findMethod_of_methodNamed hP1m hk
  have hsel0 : selectMethod e.platform s.vm P1.m.cls T.fill0 = .method T.fill0 := by
    obtain ⟨c2, r2, m2, q1, q2, q3, q4, -⟩ := Cond.selects_spec (a (.selects cls Bundle.tFill0 Bundle.tFill0) (by simp [Bundle.messageArmAtoms]))
    cases Option.some.inj (q1.symm.trans hfound)
    cases Option.some.inj (q2.symm.trans (State.methodFound?_of_named Y.fill0 (by decide)))
    cases Option.some.inj (q3.symm.trans Y.fill0)
    rw [Launch.admits_selectMethod X.admits]; exact q4
  have hselF : selectMethod e.platform s.vm P1.m.cls T.fill = .method T.fill := by
    obtain ⟨c2, r2, m2, q1, q2, q3, q4, -⟩ := Cond.selects_spec (a (.selects cls Bundle.tFill Bundle.tFill) (by simp [Bundle.messageArmAtoms]))
    cases Option.some.inj (q1.symm.trans hfound)
    cases Option.some.inj (q2.symm.trans (State.methodFound?_of_named Y.fill (by decide)))
    cases Option.some.inj (q3.symm.trans Y.fill)
    rw [Launch.admits_selectMethod X.admits]; exact q4
  obtain ⟨cellS0, hcS0, hiss⟩ := Y.statics
  obtain ⟨u0, hu0⟩ := Cond.staticRefV Y.unassigned L.unassignedStatic L.statics hcS0 hiss (a (.isRef (.static Bundle.tN "UNASSIGNED_STACK" Bundle.steD)) (by simp [Bundle.messageArmAtoms]))
  obtain ⟨sen, hsen⟩ := Cond.staticRefV Y.sentinel L.sentinelStatic L.statics hcS0 hiss (a (.isRef (.static Bundle.tN "SUPPRESSED_SENTINEL" Bundle.listD)) (by simp [Bundle.messageArmAtoms]))
  obtain ⟨ci198, i198, fB, hk198, hg198, ha198, hsB, -, hnB, htB, hffB⟩ := Cond.ownField (t := .object "java/lang/Object") Y.found L.cls (by decide +kernel) (a (.fieldLink Bundle.tN 198 Bundle.tN "backtrace" "Ljava/lang/Object;") (by simp [Bundle.messageArmAtoms])) (a (.lays Bundle.tN Bundle.tN "backtrace" "Ljava/lang/Object;") (by simp [Bundle.messageArmAtoms])) e.platform hpl
  obtain ⟨cellS, hcS', heS, -, hkeep⟩ := X.same.2.2.2.2.2 T.aS cellS0 hcS0
  have hcellS : W.heap[T.aS]? = some cellS := hcS'
  have hout' : ∀ i, (⟨T.aS, i⟩ : Loc) ∉ locs := fun i hmem => by
    have := hlocs _ hmem cellS0 hcS0
    rw [hiss] at this; cases this
  have hknownS : cellS.vm ≠ .unknown := by
    rw [heS]; intro hu
    rw [show cellS0.vm = .unknown from hu] at hiss
    cases hiss
  have hvU : cellS.slots[T.fUnassigned.slot]? = some u0.v := by rw [hkeep _ (hout' _)]; exact hu0
  have hvSen : cellS.slots[T.fSentinel.slot]? = some sen.v := by rw [hkeep _ (hout' _)]; exact hsen
  obtain ⟨iM, hffM⟩ := Y.msg
  obtain ⟨tyC, dC, hdC, hdnC⟩ := Cond.laysAt hfound hk Y.cause (a (.lays cls Bundle.tN "cause" "Ljava/lang/Throwable;") (by simp [Bundle.messageArmAtoms]))
  obtain ⟨tyS, dS, hdS, hdnS⟩ := Cond.laysAt hfound hk Y.stack (a (.lays cls Bundle.tN "stackTrace" Bundle.steD) (by simp [Bundle.messageArmAtoms]))
  obtain ⟨tyP, dP, hdP, hdnP⟩ := Cond.laysAt hfound hk Y.supp (a (.lays cls Bundle.tN "suppressedExceptions" Bundle.listD) (by simp [Bundle.messageArmAtoms]))
  obtain ⟨tyM, dM, hdM, hdnM⟩ := Cond.laysAt hfound hk hffM (a (.lays cls Bundle.tN "detailMessage" "Ljava/lang/String;") (by simp [Bundle.messageArmAtoms]))
  obtain ⟨tyB, dB, hdB, hdnB⟩ := Cond.laysAt hfound hk hffB (a (.lays cls Bundle.tN "backtrace" "Ljava/lang/Object;") (by simp [Bundle.messageArmAtoms]))
  have bC := Cond.laysApart hdB hdC hdnB hdnC (by rw [hnB, Y.causeName]; decide)
  have bS := Cond.laysApart hdB hdS hdnB hdnS (by rw [hnB, Y.stackName]; decide)
  have bP := Cond.laysApart hdB hdP hdnB hdnP (by rw [hnB, Y.suppName]; decide)
  have hbk : ((preparedCellV T.toThrowableT (freshCell P1.m.cls kX) (W.heap.size + 2) u0 sen).withEntry W.cur).slots[fB.slot]? = some .null := by
    have := fresh_default (c := P1.m.cls) tyB
    rw [htB] at this
    simpa [preparedCellV, Cell.setSlot, Cell.withEntry, Array.getElem?_setIfInBounds, bC, bS, bP, bC.symm, bS.symm, bP.symm, defaultValue] using this
  have tkC := Takes.of_laid (v := .ref (W.heap.size + 2)) hk hord tyC (by rw [Y.causeType]; rfl)
  have tkS := Takes.of_laid (v := u0.v) hk hord tyS (by rw [Y.stackType]; exact fits_refV_array _ u0)
  have tkP := Takes.of_laid (v := sen.v) hk hord tyP (by rw [Y.suppType]; exact fits_refV_object _ sen)
  have tkM := Takes.of_laid (v := .ref (W.heap.size + 1)) hk hord tyM (by rw [Y.msgType]; rfl)
  have hskip : SkipFacts T e.platform s (fun u => u) u0 ((preparedCellV T.toThrowableT (freshCell P1.m.cls kX) (W.heap.size + 2) u0 sen).withEntry W.cur) := ⟨{ ci198 := ci198, i198 := i198, fBack := fB }, ⟨hk198, hg198, ha198, hsB⟩, hbk, fun _ _ => rfl⟩
  obtain ⟨vm', X5, h1, hkept⟩ := X.nativeThrowsMessageColdBareV hexec hsize hnf T L Z LZ M LM Zs LZs P1 L1 Ps hL hlink1 hlink hsoe hoom hfound hk hinit hord hctor htext hlimit hheap
    (hfitv _) (hfitc _) hsel0 hselF hcellS hknownS hvU hvSen tkC tkS tkP tkM Y.objLocals hskip (fun _ _ hA hW _ hroom _ hrest => L.nativeOff p htr hA hW hroom hrest)
    (by rw [hlen]; exact hRframes) hRlocals (by rw [hlen]; exact hshort) hRcells (by rw [hn4, hn6]; omega)
  have b1 : (bytesOf Zs.cB (stringToUtf16 text)).slots.size = (stringBytes (stringToUtf16 text)).size := by
    rw [(Cell.writeAll_facts _ _).2.2]; simp [bytes0]
  have b2 : (stringAt Zs.cS Zs.kS Zs.fv Zs.fc (stringToUtf16 text) W.heap.size).slots.size = 4 := by simp [string0, Cell.setSlot, hn4]
  have b3 : (freshCell P1.m.cls kX).slots.size = 6 := by simp [hn6]
  have hlt : W.heap.size + 2 < ((withThrown W Zs text P1.m.cls kX).setVm vm').heap.size := by
    show W.heap.size + 2 < (withThrown W Zs text P1.m.cls kX).heap.size
    rw [(withThrown_facts e.platform W Zs text P1.m.cls kX).2.2.1]; omega
  rw [b1, b2, b3] at X5
  have e9 : slots + (stringBytes (stringToUtf16 text)).size + 4 + 6 = slots + ((stringBytes (stringToUtf16 text)).size + 4 + 6) := by omega
  rw [e9] at X5
  generalize (withThrown W Zs text P1.m.cls kX) = WT at X5 h1 hlt hkept
  refine ⟨_, _, X5.forget (fun y hy => ?_), h1, hkept, ?_, heapAt_setCell_self _ hlt, hfound, rfl⟩
  · simp only [List.mem_cons, List.not_mem_nil, or_false] at hy
    have hge : s.heap.size ≤ W.heap.size := X.same.2.1
    rcases hy with rfl | rfl | rfl | rfl | rfl <;> exact Nat.le_trans hge (Nat.le_add_right _ 2)
  · have h9 : (WT.setVm vm').heap.size ≤ ((WT.setVm vm').setCell (W.heap.size + 2) (plainBareV T.toThrowableT (freshCell P1.m.cls kX) (W.heap.size + 2) u0 sen (.ref (W.heap.size + 1)))).heap.size := by simp [State.setCell]
    omega
/-- nobody holds the monitor, nobody waits -/
def mon (H : Heap) (q : Nat) : Prop := ∃ c : Cell, H[q]? = some c ∧ c.monitor.owner = none ∧ c.monitor.count = 0 ∧ c.monitor.waitSet = []
def RCm (κ : Kx) (w : Wd) (y : Ly) (X : XR) (U : State) : Prop := RC κ w y X U ∧ mon U.heap (y.2 3 0)
theorem RCm.blind {κ : Kx} {w : Wd} {y : Ly} {X : XR} {av : List Value} : FrameBlind (va_Pc av (RCm κ w y X)) := fun a U g mk q => ⟨q.1, (RC.blind a U g mk ⟨q.1, q.2.1⟩).2, q.2.2⟩
theorem RCm.pre {κ : Kx} {w : Wd} {y : Ly} {X : XR} {L : va_W} {H : Heap} {s : State} {av : List Value} (hR : Rp κ w y X L H) (hK : KK κ s) (hm : mon H (y.2 3 0)) : ∀ U : State, U.heap = H → s.WarmedH U.vm → va_Pc av (RCm κ w y (xl X L)) av.toArray U := fun U hU hW => ⟨rfl, (RC.pre (av := av) hR hK U hU hW).2, by rw [hU]; exact hm⟩
def nqA : NativeRow := (Native.java_lang_Object.monitor.rows.drop 2).head (by decide)
def nq1 : NativeRow := (Native.java_lang_Object.monitor.rows.drop 1).head (by decide)
def nAll : MethodName := ⟨"java/lang/Object", "notifyAll", "()V"⟩
def nOne : MethodName := ⟨"java/lang/Object", "notify", "()V"⟩
def imseN : String := "java/lang/IllegalMonitorStateException"
theorem nqA_row (p : Program) : NativeRow.find? p.tables.natives "java/lang/Object" "notifyAll" "()V" = some nqA := by
  cases p <;> rfl
theorem nq1_row (p : Program) : NativeRow.find? p.tables.natives "java/lang/Object" "notify" "()V" = some nq1 := by
  cases p <;> rfl
theorem seen1 {x : Method} {v : Addr} (hst : x.isStatic = false) (hps : x.sig.parameters = []) : seenByNative x #[.ref v] = #[.ref v] := by simp [seenByNative, hst, hps]
theorem nqA_ref (a : Addr) : nqA.sem #[.ref a] = (do
        if !(← sync (.holds a)) then Native.java_lang_Object.monitor.notOwner "nat.java_lang_Object.notifyAll/not-owner"
        for t in ← sync (.waitSet a) do wakeWaiter a t
        mark "nat.java_lang_Object.notifyAll"
        Pure.pure none) := rfl
theorem nq1_ref (a : Addr) : nq1.sem #[.ref a] = (do
        if !(← sync (.holds a)) then Native.java_lang_Object.monitor.notOwner "nat.java_lang_Object.notify/not-owner"
        match ← sync (.waitSet a) with
        | [] => mark "nat.java_lang_Object.notify/nobody"
        | ts@(t :: _) =>
          let pick ← choose .notify
          let u := ts.getD (pick.toNat % ts.length) t
          wakeWaiter a u (ts.filter (· != u))
          mark "nat.java_lang_Object.notify"
        Pure.pure none) := rfl
theorem nqA_wp {E : CtlPost} {e : Env} {d : Bool} {acts : List Action} {s : State} {Q : Option Value → Pre} {a : Addr} {cell : Cell} (hcell : s.heap[a]? = some cell) (hown : cell.monitor.owner ≠ some s.cur) (hE : ∀ acts', E (.throwNew imseN (some "current thread is not owner")) acts' s) : wp (nqA.sem #[.ref a]) Q E e d acts s := by
  rw [nqA_ref]
  simp [W.sync, SyncOp.full, SyncOp.run, SyncOp.acts, hcell, hown, Native.java_lang_Object.monitor.notOwner, W.throwNew]
  exact hE _
theorem nq1_wp {E : CtlPost} {e : Env} {d : Bool} {acts : List Action} {s : State} {Q : Option Value → Pre} {a : Addr} {cell : Cell} (hcell : s.heap[a]? = some cell) (hown : cell.monitor.owner = some s.cur) (hws : cell.monitor.waitSet = []) (hq : ∀ d' acts', Q none d' acts' s) : wp (nq1.sem #[.ref a]) Q E e d acts s := by
  rw [nq1_ref]
  simp [W.sync, SyncOp.full, SyncOp.run, SyncOp.acts, hcell, hown, hws]
  exact hq _ _
theorem descU : parseMethodDescriptor "()V" = some { parameters := [], returnType := none } := by decide +kernel
section GU
variable {p : Program} {l : Launch} {e : Env} {R : Room} {s : State} {m : MethodId} {args : Array Value} {below : List Frame} {meth : Method} {c : Code} {H : Heap} {locs : List Loc} {cells slots : Nat} {Q : State → Prop}
variable {cc : ByteArray} {pc nL mc ms n index maxL : Nat} {ls : Array Slot} {rest As st0 : List Value} {κ : Kx} {w : Wd} {y : Ly} {X : XR} {L : va_W} {own C : String} {Y : MethodName} {bytes : ByteArray} {ret : Option FieldType} {rm : Room} {Qc : Array Value → State → Outcome → State → Prop} {b : Addr} {g : JFrame} {free : Addr → Prop}
theorem W.mon {q : Nat} (h : mon s.heap q) (k : mon H q → W p l e R s m args below meth c H locs cells slots Q g) : W p l e R s m args below meth c H locs cells slots Q g := by
  intro T hT X
  obtain ⟨c0, h1, h2, h3, h4⟩ := h
  obtain ⟨c', x1, x2, -⟩ := X.same.2.2.2.2.2 q c0 h1
  have x1 : T.heap[q]? = some c' := x1
  exact k ⟨c', by rw [← hT]; exact x1, by rw [x2]; exact h2, by rw [x2]; exact h3, by rw [x2]; exact h4⟩ T hT X
/-- an invokevirtual up to its 'doInvoke' -/
theorem gu_inv {T : State} (X : Stand p l e R s m args below meth c T locs cells slots) (hexec : p.tables.exec = Jvm.exec) (hown : s.vm.findClass own = some m.cls) (hlink : (Cond.methodLink own index Y).before args s = true) (hinst : (Cond.instanceMethod Y).before args s = true) (hsel : (Cond.selects C Y Y).before args s = true)
    (hy : Y.cls ≠ "java/lang/invoke/MethodHandle" ∧ Y.cls ≠ "java/lang/invoke/VarHandle") (hsig : ∀ mk methM, s.methodNamed? Y = some mk → s.vm.method? mk = some methM → methM.sig.parameters = [])
    {cellB : Cell} (hcell : T.heap[b]? = some cellB) (hobj : cellB.vm.isStatics = false) (hcls : s.vm.findClass C = some cellB.cls)
    (hg : g.method = m) (hstack : g.stack = .ref b :: rest) (hdg : decode c.code g.pc = .ok (.invokevirtual index, 3)) :
    ∃ (mk : MethodId) (vm₁ : Vm), s.WarmedH vm₁ ∧ Stand p l e R s m args below meth c (T.setVm vm₁) locs cells slots ∧ (T.setVm vm₁).methodNamed? Y = some mk ∧ ∀ target, Steps p.tables e below (doInvoke e ((T.setVm vm₁).setTop { g with stack := rest }) [] mk #[.ref b]).1 target → Steps p.tables e below (T.setTop g) target := by
  obtain ⟨mk, methM, hnamed, hmethM, hstM, habM⟩ := Cond.instanceMethod_spec hinst
  obtain ⟨c2, r2, m2, q1, q2, q3, q4, kP, hkP, hkPi⟩ := Cond.selects_spec hsel
  cases hcls.symm.trans q1
  cases (State.methodFound?_of_named hnamed hy).symm.trans q2
  cases hnamed.symm.trans q3
  have hselP : selectMethod e.platform s.vm cellB.cls mk = .method mk := by rw [Launch.admits_selectMethod X.admits]; exact q4
  obtain ⟨vm₁, X₁, hstep₁⟩ := X.invokevirtual hexec hown hlink hnamed hmethM hstM hkP hkPi hy (a := b) (cell := cellB) hcell
    (fun z h => by rw [h] at hobj; cases hobj) hselP hmethM habM hkP hkPi (g := g) hg (argsL := []) (rest := rest) (by rw [hsig _ _ hnamed hmethM]; rfl) hstack hdg
  exact ⟨mk, vm₁, X₁.warmed, X₁, X₁.named hnamed, fun target h => hstep₁ _ fun acts => by rw [doInvoke_state]; exact h⟩
theorem nat_sig {Y : MethodName} {args : Array Value} (hnat : (Cond.native Y).before args s = true) (hinst : (Cond.instanceMethod Y).before args s = true) (hd : parseMethodDescriptor Y.desc = some { parameters := [], returnType := none }) :
    ∀ mk methM, s.methodNamed? Y = some mk → s.vm.method? mk = some methM → methM.sig.parameters = [] := by
  intro mk methM h1 h2
  obtain ⟨r, k, x, h3, N⟩ := nativeInstance hnat hinst hd
  cases h1.symm.trans h3
  have h4 : s.vm.method? mk = some x := by simp [Vm.method?, N.cls, N.meth]
  cases h2.symm.trans h4
  exact N.sig

abbrev imA : List Cond := (Bundle.messageArmAtoms imseN xnm).filter vx_no
theorem xg_im : ∀ w ∈ imA.filter goodWord, w ∈ lw_all := lw_in (imA.filter goodWord) [87, 444, 399, 406, 409, 411, 445, 446, 127, 128, 393, 398, 407, 414, 438, 415, 439, 416, 440, 394, 396, 441, 391, 392, 413, 441, 382, 383, 384, 385, 385, 386, 387, 388, 388, 389, 390, 391, 104, 447, 448, 449, 451, 450, 452, 117, 381, 437, 403, 421, 423, 427, 419, 412, 442, 417] (by decide +kernel) (by decide +kernel)
theorem xb_im : imA.filter (fun w => !goodWord w) = [Cond.declares (Bundle.initS "java/lang/RuntimeException"), Cond.declares (Bundle.initS "java/lang/Exception"), Cond.declares (Bundle.initS "java/lang/Throwable"), Cond.castable imseN imseN] := by decide +kernel
theorem xw_im {κ : Kx} {s : State} {args : Array Value} (hK : KK κ s) (hts : ∀ w ∈ lw_all, w.before args s = true) : ∀ w ∈ imA, w.before args s = true :=
  vx_hat (fun w h => hts w (xg_im w h)) (fun w h => by rw [xb_im] at h; exact h) (vx_c (va_Nw.use rfl (hK.2.1.2.2.2.1 _ (List.mem_of_getElem? (i := 10) rfl))) (vx_c (va_Nw.use rfl (hK.2.1.2.2.2.1 _ (List.mem_of_getElem? (i := 8) rfl))) (vx_c (va_Nw.use rfl (hK.2.1.2.2.2.1 _ (List.mem_of_getElem? (i := 6) rfl))) (vx_c (va_Nw.use rfl (hK.2.1.2.2.1 _ (List.mem_of_getElem? (i := 10) rfl))) vx_n))))
/-- notifyAll by one who does not own the monitor -/
theorem jg_notifyAll (hx : p.tables.exec = Jvm.exec) (hb : c.code = cc) (hfl : l.stackTraces = false) (hown : s.vm.findClass "Publicanry$Guard" = some m.cls) (hK : KK κ s) (hts : ∀ w ∈ lw_all, w.before args s = true) (hR : Rp κ w y X [] s.heap) (l0 : live y 3 0) (hm : mon s.heap (y.2 3 0)) (hsize : ls.size = c.maxLocals)
    (hdg : decode cc pc = .ok (.invokevirtual 7, 3)) (hRf : 8 ≤ R.frames) (hRl : (rest.map fun v => v.category).sum + 10240 ≤ R.locals) (hRc : 3 ≤ R.cells) (hRs : 37 ≤ R.slots)
    (kk : ∀ (H1 : Heap) (q9 : Addr) (ce : Cell), H1[q9]? = some ce → ce.vm = .none → s.vm.findClass imseN = some ce.cls → s.heap.size ≤ H1.size → (∀ q : Nat, q < s.heap.size → H1[q]? = s.heap[q]?) → vx_W p l e R s m args below meth c H1 [] 3 37 Q (F0 m pc ls rest) q9) :
    W p l e R s m args below meth c s.heap [] 0 0 Q (F0 m pc ls (.ref (y.2 3 0) :: rest)) := by
  intro T hT X9
  have htr : e.platform.stackTraces = false := (show e.platform.stackTraces = l.stackTraces by rw [X9.admits.platform]).trans hfl
  have z1 := zq_at (s := s) hR hK.2.1.2.2.2.2.2.2.2.2.2.2.2.1
  have z2 := zq_at (s := s) hR hK.2.1.2.2.2.2.2.2.2.2.2.2.2.2.1
  have hat : ∀ a ∈ Bundle.messageArmAtoms imseN xnm, a.before args s = true := vx_own (xw_im hK hts) (vx_isRefq z1.1) (vx_isRefq z2.1) z1.2.word z2.2.word
  obtain ⟨cellB, hcB, hoB, hclB⟩ := rv hK hR l0 (ci := 4) rfl rfl
  have hbt : (stringBytes (stringToUtf16 "current thread is not owner")).size = 27 := by decide +kernel
  obtain ⟨mk, vm₁, hW₁, X₁, hn, hst⟩ := gu_inv (C := "Publicanry$Guard") X9 hx hown (hts _ q453) (hts _ q454) (hts _ q463) (by decide) (nat_sig (hts _ q487) (hts _ q454) descU) (b := y.2 3 0) (by rw [hT]; exact hcB) hoB hclB (g := F0 m pc ls (.ref (y.2 3 0) :: rest)) rfl (rest := rest) rfl (by rw [hb]; exact hdg)
  have hBT : BackT l R p e below s args nAll 3 ((rest.map fun v => v.category).sum) (fun A a => a = #[.ref (y.2 3 0)] ∧ mon A.U.heap (y.2 3 0) ∧ A.U.heap = s.heap ∧ A.locs = [] ∧ A.cells = 0 ∧ A.slots = 0)
      (fun A a t B => B.locs = [] ∧ B.cells = 3 ∧ B.slots = 37 ∧ ∃ ce, B.U.heap[t]? = some ce ∧ ce.vm = .none ∧ s.vm.findClass imseN = some ce.cls ∧ s.heap.size ≤ B.U.heap.size ∧ ∀ q : Nat, q < s.heap.size → B.U.heap[q]? = s.heap[q]?) := by
    refine BackT.of_native (words := 1) (nqA_row p) (nativeInstance (hts _ q487) (hts _ q454) descU) (by omega) (by rw [nativeFrameWords_plain 1 (by decide)]; omega) fun m1 meth1 c1 A a x g mk X hg hsize hW hn hst hps hA => ?_
    obtain ⟨U, lo, ce, sl⟩ := A
    obtain ⟨rfl, hm, hH, h1, h2, h3⟩ := hA
    dsimp only [Pt.U, Pt.locs, Pt.cells, Pt.slots] at hm hH h1 h2 h3 X hn
    subst h1; subst h2; subst h3
    obtain ⟨c9, m1, m2, -, -⟩ := hm
    refine ⟨rfl, seen1 hst hps, imseN, some "current thread is not owner", id, fun _ => rfl, rfl, fun fs E hE => nqA_wp (s := U.setFrames fs) m1 (by rw [m2]; simp) hE, ?_⟩
    obtain ⟨S, ce, XS, st, k1, k2, k3, k4, k5⟩ := vx_vmAtN X hx htr (cls := imseN) (names := xnm) (text := "current thread is not owner") (by decide) (by decide) (by decide) (by decide) hat (fun x hx => nomatch hx) (by decide +kernel)
      (by rw [Launch.admits_arrayLengthLimit X.admits, hbt]; omega) (by rw [Launch.admits_maxHeapBytes X.admits, hbt]; simp only [componentBytes]; omega) hg hsize (nf := { method := mk, args := #[.ref (y.2 3 0)], locked := none }) rfl (by show 2 + 5 < R.frames; omega) (by omega) (by decide) (by omega) (by rw [hbt]; omega)
    rw [hbt] at XS
    exact ⟨_, ⟨S, [], 3, 37⟩, by simpa using XS, ⟨rfl, rfl, rfl, ce, k3, k5, k4, by rw [← hH]; exact k2, fun q hq => by rw [← hH] at hq ⊢; exact k1 q hq⟩, st⟩
  obtain ⟨q, ⟨U, lo, c2, s2⟩, X', ⟨e1, e2, e3, ce, k1, k2, k3, k4, k5⟩, st2⟩ := hBT m meth c ⟨T.setVm vm₁, [], 0, 0⟩ (F0 m pc ls rest) (.invokevirtual 7) mk #[.ref (y.2 3 0)] X₁ rfl hsize (by rw [hb]; exact hdg) (Nat.le_of_eq (Nat.zero_add _)) hn ⟨rfl, by show mon T.heap _; rw [hT]; exact hm, hT, rfl, rfl, rfl⟩
  dsimp only [Pt.U, Pt.locs, Pt.cells, Pt.slots] at X' e1 e2 e3 k1 k4 k5 st2
  subst e1; subst e2; subst e3
  obtain ⟨t, a1, b1⟩ := kk U.heap q ce k1 k2 k3 k4 k5 U rfl X'
  exact ⟨t, (hst _ st2).trans a1, b1⟩

/-- what cannot throw, said of a method with handlers -/
abbrev rm_X5_call : Room := { frames := 8, cells := 3, slots := 37, locals := 10260 }
def sp_X5_call (κ : Kx) (y : Ly) (post : Int32 → Wd → Prop) (w : Wd) : Prop := ∀ w_15 : Wd, w_15 = sv w 3 0 0 ((gv w 3 0 0) + (1 : Int32)) → post (gv w_15 3 0 0) w_15
set_option maxHeartbeats 4000000 in
theorem m_X5_call {l : Launch} {κ : Kx} {y : Ly} {X : XR} {post : Int32 → Wd → Prop} {w : Wd} (hfl : l.stackTraces = false) (l0 : live y 3 0) (h : sp_X5_call κ y post w) : vx_Met l yX5_call (wsW_ yX5_call cX5_call 2 (Option.some Jvm.ClassFile.FieldType.int) [(0, 4, 7, 10)]) rm_X5_call (va_Pc [.ref (y.2 3 0)] (RCm κ w y X)) (va_Qi post (fun w t => Rp κ w y X [] t.heap) (Af κ)) (XF κ) 3 37 (Af κ) := by
  unfold sp_X5_call at h
  refine vx_ofWH (cc := cX5_call) (maxL := 2) (ret := (Option.some Jvm.ClassFile.FieldType.int)) (hh := [(0, 4, 7, 10)]) (by decide) rfl ?_
  intro p e s m args below meth c s₁ B hml hv
  obtain ⟨rfl, ⟨hR, hK⟩, hm⟩ := hv
  have hx := B.exec
  have hb := B.bytes
  have hr := B.returns
  have hts := atoms_spec (ws := wsW_ yX5_call cX5_call 2 (Option.some Jvm.ClassFile.FieldType.int) [(0, 4, 7, 10)]) B.pre
  have htab : c.exceptionTable.toList = tableOf [(0, 4, 7, 10)] := vx_table (x := yX5_call) B (hts _ List.mem_cons_self)
  have hts : ∀ w ∈ lw_all, w.before _ s = true := fun w h => hts w (List.mem_cons_of_mem _ h)
  have hown : s.vm.findClass RX5 = some m.cls := findClass_of_methodNamed B.named
  have hl := lv_entry ([.ref (y.2 3 0)]) (n := 2) (Nat.le_of_ble_eq_true rfl)
  rw [lg_entry_eq]
  generalize (lg_sl ([.ref (y.2 3 0)]) ++ List.replicate (2 - (lg_sl ([.ref (y.2 3 0)])).length) Slot.unset).toArray = ls at hl ⊢
  have hl : lv_has ls 2 [(0, .ref (y.2 3 0))] := hl
  refine lv_aload_n hx hb dX5_call_0 rfl (lv_at hl 0 rfl) ?_
  refine jg_notifyAll hx hb hfl hown hK hts hR l0 hm (hl.1.trans hml.symm) dX5_call_1 (Nat.le_of_ble_eq_true rfl) (Nat.le_of_ble_eq_true rfl) (Nat.le_of_ble_eq_true rfl) (Nat.le_of_ble_eq_true rfl) (fun H q9 ce9 hcell hv9 hcl hz ho => ?_)
  have hS : va_S (Af κ) s.heap H [] := ⟨hz, fun q hq _ => ho q hq, fun x hx => nomatch hx⟩
  have hR := hR.grow hz ho
  refine vx_catch (name := imseN) hown [] ⟨0, 4, 7, 10⟩ [] htab (fun z9 hz9 => nomatch hz9) rfl (by decide) (hts _ q380) (va_Nw.use rfl (hK.2.1.2.2.1 _ (List.mem_of_getElem? (i := 10) rfl))) hcell hv9 hcl ?_
  refine lv_astore_n (lv' := [(1, .ref q9), (0, .ref (y.2 3 0))]) hx hb dX5_call_7 rfl hl (by decide) rfl (fun ls hl => ?_)
  refine lv_aload_n hx hb dX5_call_8 rfl (lv_at hl 1 rfl) ?_
  refine lv_dup hx hb dX5_call_9 rfl ?_
  refine g3_0 hx hb hts hown hK hR l0 q201 dX5_call_10 ?_
  refine lv_iconst (v := (1 : Int32)) hx hb dX5_call_13 (by decide) ?_
  refine lv_iadd hx hb dX5_call_14 ?_
  refine p3_0 hx hb hts hown hK hR hS l0 q201 dX5_call_15 (fun H1 locs1 w_15 ew_15 hR hS => ?_)
  have h := h w_15 ew_15
  refine lv_aload_n hx hb dX5_call_18 rfl (lv_at hl 1 rfl) ?_
  refine g3_0 hx hb hts hown hK hR l0 q201 dX5_call_19 ?_
  exact vx_ret (W.iret (v := gv w_15 3 0 0) hx hb hr (fun t ht hW9 => ⟨⟨gv w_15 3 0 0, w_15, rfl, h, rpt ht hR⟩, hS.F ht⟩) hS.2.2 dX5_call_22)

/-! the synchronized method -/
def yX5_refused : MethodName := ⟨RX5, "refused", "()I"⟩
abbrev cX5_refused : ByteArray := prog_9_method_3_code
def dkwX5_refused : List UInt8 := [42, 182, 0, 18, 42, 180, 0, 12, 172]
theorem dksX5_refused : cX5_refused.data.toList.drop 0 = dkwX5_refused ++ [] := by decide +kernel
theorem dX5_refused_0 : decode cX5_refused 0 = .ok (.aload_n 0, 1) := dk_42 (dk_at dksX5_refused 0 rfl rfl)
theorem dX5_refused_1 : decode cX5_refused 1 = .ok (.invokevirtual 18, 3) := dk_182 0 18 (dk_at dksX5_refused 1 rfl rfl)
theorem dX5_refused_4 : decode cX5_refused 4 = .ok (.aload_n 0, 1) := dk_42 (dk_at dksX5_refused 4 rfl rfl)
theorem dX5_refused_5 : decode cX5_refused 5 = .ok (.getfield 12, 3) := dk_180 0 12 (dk_at dksX5_refused 5 rfl rfl)
theorem dX5_refused_8 : decode cX5_refused 8 = .ok (.ireturn, 1) := dk_172 (dk_at dksX5_refused 8 rfl rfl)
abbrev wsR : List Cond := Cond.codeSync yX5_refused cX5_refused 1 (Option.some Jvm.ClassFile.FieldType.int) :: lw_all
abbrev rm_X5_refused : Room := { frames := 2, cells := 0, slots := 0, locals := 64 }
theorem ga_aload0 {x : Nat} (hexec : p.tables.exec = Jvm.exec) (hb : c.code = cc) (hg : g.method = m) (hdg : decode cc g.pc = .ok (.aload_n 0, 1)) (hl : g.locals[0]? = some (.val (.ref x)))
    (k : W p l e R s m args below meth c H locs cells slots Q { g with pc := g.pc + 1, stack := .ref x :: g.stack }) : W p l e R s m args below meth c H locs cells slots Q g := by
  intro T hT X
  obtain ⟨t, a, b⟩ := k T hT X
  refine ⟨t, ?_, b⟩
  subst hg
  jvm_step X.here [X.here.top, hexec, hb, hdg, hl, Value.isRef]
  exact a
set_option maxHeartbeats 4000000 in
theorem m_X5_refused {l : Launch} {κ : Kx} {y : Ly} {X : XR} {post : Int32 → Wd → Prop} {w : Wd} (l0 : live y 3 0) (h : post (gv w 3 0 0) w) : MetN l yX5_refused wsR rm_X5_refused (va_Pc [.ref (y.2 3 0)] (RCm κ w y X)) (va_Qi post (fun w t => Rp κ w y X [] t.heap) (Af κ)) 0 0 (Af κ) := by
  intro p e ha hc hk s m args below hf happ hP
  obtain ⟨hrun, hable, halone, hname, hhears, hroom, hpre⟩ := happ
  obtain ⟨rfl, ⟨hR, hK⟩, c0, m1, m2, m3, m4⟩ := hP
  have hts0 := atoms_spec (ws := wsR) hpre
  have hts : ∀ w ∈ lw_all, w.before _ s = true := fun w h => hts0 w (List.mem_cons_of_mem _ h)
  obtain ⟨meth, c, hmeth, hcode, hb, hlocals, hret, hlocks, -, -⟩ := Cond.codeSync_spec hname (hts0 _ List.mem_cons_self)
  obtain ⟨mk9, methM, hnamed9, hmethM, hst, -⟩ := Cond.instanceMethod_spec (hts _ q552)
  cases hname.symm.trans hnamed9
  cases hmeth.symm.trans hmethM
  have hown : s.vm.findClass "Publicanry$Guard" = some m.cls := findClass_of_methodNamed hname
  have hcur := State.cur_lt_of_frames hf
  have hx : p.tables.exec = Jvm.exec := by cases p <;> rfl
  have hlt : y.2 3 0 < s.heap.size := (Array.getElem?_eq_some_iff.mp m1).1
  have hent : c0.enterable s.cur := Or.inl ⟨m2, m3⟩
  have hcur' : (s.setCell (y.2 3 0) (c0.withEntry s.cur)).cur < (s.setCell (y.2 3 0) (c0.withEntry s.cur)).threads.size := hcur
  have hf1 : ((s.setCell (y.2 3 0) (c0.withEntry s.cur)).setFrames (.java (entryFrameSync m #[.ref (y.2 3 0)] 1 (y.2 3 0)) :: below)).frames = .java (entryFrameSync m #[.ref (y.2 3 0)] 1 (y.2 3 0)) :: below := State.frames_setFrames _ hcur'
  have ht1 := State.topJava?_of_frames hf1
  have hplain : ((s.setCell (y.2 3 0) (c0.withEntry s.cur)).setFrames (.java (entryFrameSync m #[.ref (y.2 3 0)] 1 (y.2 3 0)) :: below)).plainMethod m := State.plainMethod.of_named (s := s) (plainFor_of_name (by decide)) hname hmeth
  have hAt : At ((s.setCell (y.2 3 0) (c0.withEntry s.cur)).setFrames (.java (entryFrameSync m #[.ref (y.2 3 0)] 1 (y.2 3 0)) :: below)) m c below :=
    ⟨by rw [ht1]; rfl, ⟨[], by rw [hf1]; rfl⟩, hrun, by simpa using hable, by simpa using halone, by rw [State.code?_eq]; simp [State.setFrames, State.setCell, hmeth, hcode], hplain⟩
  obtain ⟨t0, ht0, -⟩ := State.frames_cons hf
  have XS : Stand p l e (headSpec wsR rm_X5_refused).room (s.setCell (y.2 3 0) (c0.withEntry s.cur)) m #[.ref (y.2 3 0)] below meth c ((s.setCell (y.2 3 0) (c0.withEntry s.cur)).setFrames (.java (entryFrameSync m #[.ref (y.2 3 0)] 1 (y.2 3 0)) :: below)) [] 0 0 := by
    refine ⟨ha, hc, hk, hf, by rw [State.hasRoom_setCell (x := c0.withEntry s.cur) m1 rfl]; exact hroom, hhears, hmeth, hcode, hAt, by rw [hf1]; rfl, State.WarmedH.refl (s.setCell (y.2 3 0) (c0.withEntry s.cur)), by rw [State.stackLimits_setFrames], by rw [State.stackBytes_setFrames], ?_⟩
    exact (State.sameButNew.refl (s.setCell (y.2 3 0) (c0.withEntry s.cur)) (x := t0) ht0).setFrames (.java (entryFrameSync m #[.ref (y.2 3 0)] 1 (y.2 3 0)) :: below) hcur
  have hstep : (stepThread p.tables e s).1 = ((s.setCell (y.2 3 0) (c0.withEntry s.cur)).setFrames (.java (entryFrameSync m #[.ref (y.2 3 0)] 1 (y.2 3 0)) :: below)).setTop (entryFrameSync m #[.ref (y.2 3 0)] 1 (y.2 3 0)) := by
    have hfull : e.platform.stackFull (s.setFrames below).me (s.setFrames below).frames (c.maxLocals + 2) = false := by
      obtain ⟨-, h1, -, h2⟩ := State.hasRoom_stack hroom
      rw [hf, List.length_cons] at h1
      rw [State.localsInUse_invoking hf hmeth hcode] at h2
      have hw := stackUse_le_stackWeight below
      rw [State.frames_setFrames _ hcur]
      simp only [vmFrameWords] at h2
      exact Platform.stackFull_eq_false (by rw [State.stackLimits_setFrames]; omega) (by rw [State.stackLimits_setFrames]; omega)
    rw [stepThread_invoking hf, (doInvoke_java_sync (s := s.setFrames below) (e := e) (meth := meth) (code := c) (a := y.2 3 0) (cell := c0) hmeth hcode hlocks hst rfl m1 (Or.inl m2) hfull).1,
      State.setTop_self ht1, hlocals]
    show (((s.setFrames below).setCell (y.2 3 0) (c0.withEntry s.cur)).setFrames (.java (entryFrameSync m #[.ref (y.2 3 0)] 1 (y.2 3 0)) :: ((s.setFrames below).setCell (y.2 3 0) (c0.withEntry s.cur)).frames)) = _
    rw [show ((s.setFrames below).setCell (y.2 3 0) (c0.withEntry s.cur)).frames = below from State.frames_setFrames _ hcur, State.setCell_setFrames, State.setFrames_setFrames]
  have hts' : ∀ w ∈ lw_all, w.before #[.ref (y.2 3 0)] (s.setCell (y.2 3 0) (c0.withEntry s.cur)) = true := fun w hw => pay_in hts (lw_meth q305) w (List.mem_cons_of_mem _ hw) _ _ (State.WarmedH.refl s)
  have hK' : KK κ (s.setCell (y.2 3 0) (c0.withEntry s.cur)) := KK.same (u := s) rfl hK
  have hcell' : (s.setCell (y.2 3 0) (c0.withEntry s.cur)).heap[y.2 3 0]? = some (c0.withEntry s.cur) := by
    show (s.heap.setIfInBounds (y.2 3 0) (c0.withEntry s.cur))[y.2 3 0]? = _
    simp [hlt]
  obtain ⟨r9, h19, cell9, q19, q29, q39, q49⟩ := hR.role l0
  cases m1.symm.trans q19
  cases h19
  have hgo : W p l e (headSpec wsR rm_X5_refused).room (s.setCell (y.2 3 0) (c0.withEntry s.cur)) m #[.ref (y.2 3 0)] below meth c (s.setCell (y.2 3 0) (c0.withEntry s.cur)).heap [] 0 0 (fun t => ∃ o, t.status = .running ∧ Ended t below o ∧ va_Qi post (fun w t => Rp κ w y X [] t.heap) (Af κ) #[.ref (y.2 3 0)] s o t ∧ ∃ L, FrameEnd s o t L 0 0 ∧ ∀ q ∈ L, Af κ q.base) (entryFrameSync m #[.ref (y.2 3 0)] 1 (y.2 3 0)) := by
    refine ga_aload0 hx hb rfl dX5_refused_0 rfl ?_
    intro T hT X9
    obtain ⟨mk, vm₁, hW₁, X₁, hn, hstp⟩ := gu_inv (C := "Publicanry$Guard") X9 hx hown (hts' _ q555) (hts' _ q556) (hts' _ q565) (by decide) (nat_sig (hts' _ q589) (hts' _ q556) descU) (b := y.2 3 0) (by rw [hT]; exact hcell') (by show c0.vm.isStatics = false; rw [q39]; rfl) (by show s.vm.findClass _ = some c0.cls; rw [q29]; exact (hK.1.1 4 _ rfl).2.1) (g := { entryFrameSync m #[.ref (y.2 3 0)] 1 (y.2 3 0) with pc := (entryFrameSync m #[.ref (y.2 3 0)] 1 (y.2 3 0)).pc + 1, stack := .ref (y.2 3 0) :: (entryFrameSync m #[.ref (y.2 3 0)] 1 (y.2 3 0)).stack }) rfl (rest := []) rfl (by rw [hb]; exact dX5_refused_1)
    have hB : Back l (headSpec wsR rm_X5_refused).room p e below (s.setCell (y.2 3 0) (c0.withEntry s.cur)) #[.ref (y.2 3 0)] nOne 3 2 (fun A a => ∃ g : Unit, (fun (_ : Unit) a U => a = #[.ref (y.2 3 0)] ∧ U.heap[y.2 3 0]? = some (c0.withEntry s.cur) ∧ U.cur = s.cur) g a A.U) (fun A a v B => B = A ∧ ∀ g : Unit, (fun (_ : Unit) a U => a = #[.ref (y.2 3 0)] ∧ U.heap[y.2 3 0]? = some (c0.withEntry s.cur) ∧ U.cur = s.cur) g a A.U → v = none) :=
      Back.of_nativeQ (G := Unit) (P := fun (_ : Unit) a U => a = #[.ref (y.2 3 0)] ∧ U.heap[y.2 3 0]? = some (c0.withEntry s.cur) ∧ U.cur = s.cur) (val := fun _ => none) (words := 1) (nq1_row p) (nativeInstance (hts' _ q589) (hts' _ q556) descU) (Nat.le_of_ble_eq_true rfl) (by rw [nativeFrameWords_plain 1 (by decide)]; exact Nat.le_of_ble_eq_true rfl) fun g U a x _ hst hps hP => by
        obtain ⟨rfl, k1, k2⟩ := hP
        exact ⟨rfl, seen1 hst hps, fun fs Q hq => nq1_wp (s := U.setFrames fs) k1 (by show some s.cur = some U.cur; rw [k2]) m4 hq⟩
    have hcurT : T.cur = s.cur := by
      have q9 := congrArg State.cur X9.same.1
      exact q9
    obtain ⟨v, ⟨U, lo, c2, s2⟩, X', ⟨e1, e2⟩, st2⟩ := hB m meth c ⟨T.setVm vm₁, [], 0, 0⟩ { entryFrameSync m #[.ref (y.2 3 0)] 1 (y.2 3 0) with pc := 1, stack := [] } (.invokevirtual 18) mk #[.ref (y.2 3 0)] X₁ rfl (by rw [hlocals]; rfl) (by rw [hb]; exact dX5_refused_1) (Nat.le_of_ble_eq_true rfl) hn ⟨(), rfl, by show T.heap[_]? = _; rw [hT]; exact hcell', hcurT⟩
    cases e1
    cases (e2 () ⟨rfl, by show T.heap[_]? = _; rw [hT]; exact hcell', hcurT⟩)
    have hgo2 : W p l e (headSpec wsR rm_X5_refused).room (s.setCell (y.2 3 0) (c0.withEntry s.cur)) m #[.ref (y.2 3 0)] below meth c (s.setCell (y.2 3 0) (c0.withEntry s.cur)).heap [] 0 0 (fun t => ∃ o, t.status = .running ∧ Ended t below o ∧ va_Qi post (fun w t => Rp κ w y X [] t.heap) (Af κ) #[.ref (y.2 3 0)] s o t ∧ ∃ L, FrameEnd s o t L 0 0 ∧ ∀ q ∈ L, Af κ q.base) { entryFrameSync m #[.ref (y.2 3 0)] 1 (y.2 3 0) with pc := 4, stack := [] } := by
      refine ga_aload0 hx hb rfl dX5_refused_4 rfl ?_
      obtain ⟨hS, hfc, kC, hkC, hkind⟩ := hK'.1.1 4 _ rfl
      obtain ⟨cf, kf, fi, f, hi, hsl⟩ := hS 0 (by decide)
      have hst5 : f.isStatic = false := (u_facts hfc hkC (u_lays hts' in_X5 (by decide)) hi).1
      have hk5 : (c0.withEntry s.cur).vm ≠ .unknown := by
        show c0.vm ≠ _
        rw [q39]
        exact fun h => by cases h
      have hs5 : (c0.withEntry s.cur).slots[f.slot]? = some (Value.int (gv w 3 0 0)) := by
        show c0.slots[f.slot]? = _
        rw [hsl]
        exact q49 0 (by decide)
      refine W.eq (g2 := { entryFrameSync m #[.ref (y.2 3 0)] 1 (y.2 3 0) with pc := 5, stack := [.ref (y.2 3 0)] }) rfl ?_
      refine W.getf hx hb hown (hts' _ q201) hi hst5 hcell' hk5 hs5 (rest := []) rfl rfl dX5_refused_5 ?_
      intro T hT X9
      obtain ⟨fs, cellT, hT9, hret9, h1, h2, h3, h4⟩ := X9.leaveSync m1 hent hlocks (v := some (.int (gv w 3 0 0))) (fun h => by rw [hret] at h; cases h)
      have hcT : cellT = c0.withEntry s.cur := Option.some.inj (hT9.symm.trans (by rw [hT]; exact hcell'))
      have hheap : ((T.setCell (y.2 3 0) cellT.left).setFrames fs).heap = s.heap := by
        have e1 : (s.setCell (y.2 3 0) (c0.withEntry s.cur)).setCell (y.2 3 0) c0 = s := by
          have : (s.setCell (y.2 3 0) (c0.withEntry s.cur)).setCell (y.2 3 0) c0 = s.setCell (y.2 3 0) c0 := by simp [State.setCell, Array.setIfInBounds_setIfInBounds]
          rw [this, State.setCell_same m1]
        rw [hcT, Cell.left_withEntry' hent]
        show T.heap.setIfInBounds (y.2 3 0) c0 = s.heap
        rw [hT]
        exact congrArg State.heap e1
      have hmeth' : T.vm.method? m = some meth := X9.method'
      refine ⟨(T.setCell (y.2 3 0) cellT.left).setFrames fs, ?_, .returned (some (.int (gv w 3 0 0))), h1, h2, ⟨⟨gv w 3 0 0, w, rfl, h, by rw [hheap]; exact hR⟩, (va_S.rf (A := Af κ) (H := s.heap)).F hheap⟩, [], ⟨⟨_, rfl⟩, h3, h4⟩, fun q hq => nomatch hq⟩
      jvm_step X9.here [X9.here.top, hx, hb, dX5_refused_8, hmeth', hret, narrow]
      (try refine ⟨rfl, ?_⟩); (try refine ⟨rfl, ?_⟩)
      first | (intro acts; rw [hret9 _ acts rfl rfl rfl]) | rw [hret9 _ _ rfl rfl rfl]
      exact Steps.refl _
    obtain ⟨t, a1, b1⟩ := hgo2 (T.setVm vm₁) hT X'
    exact ⟨t, hstp _ (st2.trans a1), b1⟩
  obtain ⟨s₂, hs, o, hr, he, hp⟩ := hgo ((s.setCell (y.2 3 0) (c0.withEntry s.cur)).setFrames (.java (entryFrameSync m #[.ref (y.2 3 0)] 1 (y.2 3 0)) :: below)) rfl XS
  obtain ⟨n, hn, hw⟩ := Steps.head (tb := p.tables) (e := e) ⟨hrun, hable, halone⟩ ⟨[.invoking m #[.ref (y.2 3 0)]], hf, by simp, by simp⟩ (hstep ▸ hs)
  exact ⟨n, o, hw, hn ▸ hr, hn ▸ he, hn ▸ hp⟩

theorem back_ofS {l : Launch} {R : Room} {p : Program} {e : Env} {below : List Frame} {s : State} {sargs : Array Value} {y : MethodName} {len W9 : Nat} {ws : List Cond} {rm : Room} {Pc : Array Value → State → Prop} {Qc : Array Value → State → Outcome → State → Prop} {mc ms : Nat} {free : Addr → Prop} {bytes : ByteArray} {maxL : Nat} {ret : Option FieldType}
    (hM : MetN l y ws rm Pc Qc mc ms free) (hblind : FrameBlind Pc) (hrc : rm.cells = mc) (hrs : rm.slots = ms)
    (hframes : rm.frames + 1 ≤ R.frames) (hlocals : W9 + (maxL + 11) + rm.locals ≤ R.locals)
    (hws : ∀ w ∈ ws, ∀ a' U, s.WarmedH U.vm → w.before a' U = true) (hcode : Cond.codeSync y bytes maxL ret ∈ ws) (hQ : ∀ a st o t, Qc a st o t → ∃ v, o = .returned v) :
    Back l R p e below s sargs y len W9 (PreOf R mc ms Pc) (PostOf Qc mc ms free) := by
  intro m meth c A g ig mk a X hg hsize hdg hW hn hp
  have h1 : (headSpec ws rm).pre.before a A.U = true := atoms_intro fun w hw => hws w hw _ _ X.warmed
  have h2 : (Cond.codeSync y bytes maxL ret).before a A.U = true := hws _ hcode _ _ X.warmed
  have h4 : A.cells + (headSpec ws rm).room.cells ≤ R.cells := by rw [show (headSpec ws rm).room.cells = mc from hrc]; exact hp.1
  have h5 : A.slots + (headSpec ws rm).room.slots ≤ R.slots := by rw [show (headSpec ws rm).room.slots = ms from hrs]; exact hp.2.1
  have hPc := hblind a A.U g mk hp.2.2
  obtain ⟨U, Ls, c0, s0⟩ := A
  dsimp only [Pt.U, Pt.locs, Pt.cells, Pt.slots] at h1 h2 h4 h5 hPc X hn hp ⊢
  obtain ⟨methY, cY, hmY, hcY, -, hlY, -, -, -, -⟩ := Cond.codeSync_spec hn h2
  have h : At U g.method c below := by rw [hg]; exact X.here
  have hcodeU : (U.calling g mk a).code? g.method = some c := by
    have := h.code
    rw [State.code?_eq] at this ⊢
    simpa [State.calling, State.pushFrame, State.setFrames] using this
  have hroomY : (U.calling g mk a).hasRoom e.platform (headSpec ws rm).room = true := X.room_calling (g := g) (R' := (headSpec ws rm).room) hsize hmY hcY hframes (by rw [hlY]; show _ ≤ _; have : (headSpec ws rm).room.locals = rm.locals := rfl; omega) h4 h5
  have happ : apN (headSpec ws rm) y e.platform (U.calling g mk a) mk a (.java g :: U.frames.tail) := by
    refine ⟨h.running, by simpa [State.calling] using h.runnable, by simpa [State.calling] using h.alone, hn, by simp [State.hears, hcodeU, hdg, Except.toOption], hroomY, ?_⟩
    rw [State.calling_eq h.top, Cond.before_setFrames]
    exact h1
  obtain ⟨mid, hmid⟩ := h.above
  have hfr : (U.setTop g).frames = (.java g :: mid) ++ below := by rw [State.frames_setTop' g h.top, hmid]; rfl
  have hcurU : (U.setTop g).cur < (U.setTop g).threads.size := State.cur_lt_of_frames (by rw [hfr]; rfl)
  have hfe : (U.setTop g).frames = .java g :: U.frames.tail := State.frames_setTop' g h.top
  obtain ⟨o, s₂, hsteps, -, hend, hq⟩ := Steps.callN hM p X.admits X.cas X.clock (acts := []) hcurU hfr (by rw [hfe]; exact happ) hPc
  obtain ⟨hq1, L, hfe2, hL⟩ := hq
  obtain ⟨v, rfl⟩ := hQ _ _ _ _ hq1
  have hfe : FrameEnd (U.calling g mk a) (.returned v) s₂ L mc ms := hfe2
  rw [State.frames_setTop' g h.top] at hend
  obtain ⟨-, hW₂, e2, q2, q3, q4, q5, q6⟩ := id hfe
  have e3 : s₂ = ({ (U.calling g mk a).setFrames s₂.frames with heap := s₂.heap, slotsUsed := s₂.slotsUsed } : State).setVm s₂.vm := by
    have : s₂ = ({ s₂ with vm := (U.calling g mk a).vm } : State).setVm s₂.vm := rfl
    rw [e2] at this
    exact this
  obtain ⟨c₂, i₂, len₂, hc₂, hd₂, hf₂⟩ := hend
  have hW' : U.WarmedH s₂.vm := hW₂
  have hcc : c₂ = c := by
    have h1 : s₂.code? g.method = U.code? g.method := by
      rw [State.code?_eq, State.code?_eq, hW'.alike.method?]
    exact Option.some.inj (hc₂.symm.trans (h1.trans h.code))
  subst hcc
  have hlen : len₂ = len := by rw [hdg] at hd₂; cases hd₂; rfl
  subst hlen
  obtain ⟨g₀, hg0⟩ := Option.isSome_iff_exists.mp h.top
  obtain ⟨r, hr⟩ := State.topJava?_eq_some.mp hg0
  have hs₂ : s₂ = (({ U with heap := s₂.heap, slotsUsed := s₂.slotsUsed } : State).setVm s₂.vm).setTop { g with pc := g.pc + len₂, stack := v.toList ++ g.stack } := by
    have hr' : (({ U with heap := s₂.heap, slotsUsed := s₂.slotsUsed } : State).setVm s₂.vm).frames = .java g₀ :: r := hr
    refine e3.trans ?_
    rw [hf₂, State.calling_eq h.top, State.setFrames_setFrames, State.setTop_of_frames _ hr', hr]
    rfl
  have hsame : U.sameButNew ({ U with heap := s₂.heap, slotsUsed := s₂.slotsUsed } : State) L mc ms := by
    refine ⟨?_, q2, q3, q4, q5, q6⟩
    obtain ⟨t, ht, -⟩ := State.frames_cons hr
    show ({ U with heap := s₂.heap, slotsUsed := s₂.slotsUsed } : State) = { U.setFrames U.frames with heap := s₂.heap, slotsUsed := s₂.slotsUsed }
    rw [State.setFrames_self ht]
  subst hg
  refine ⟨v, ⟨(({ U with heap := s₂.heap, slotsUsed := s₂.slotsUsed } : State).setVm s₂.vm), Ls ++ L, c0 + mc, s0 + ms⟩,
    ⟨X.admits, X.cas, X.clock, X.frames, X.room, X.hears, X.method, X.code, (X.here.setHeapUsed s₂.heap s₂.slotsUsed).setVm hW'.alike, X.tail, State.WarmedH.trans X.warmed hW', X.limits, X.bytes, X.same.trans (hsame.setVm s.vm)⟩,
    ⟨g, mk, s₂, L, rfl, rfl, hq1, rfl, hL, rfl, rfl⟩, ?_⟩
  show Steps p.tables e below _ ((({ U with heap := s₂.heap, slotsUsed := s₂.slotsUsed } : State).setVm s₂.vm).setTop { g with pc := g.pc + len₂, stack := v.toList ++ g.stack })
  rw [← hs₂]
  exact hsteps
theorem lw_methS {y : MethodName} {b : ByteArray} {L : Nat} {r : Option FieldType} (h : Cond.codeSync y b L r ∈ lw_all) : GoodIn lw_all (Cond.codeSync y b L r :: lw_all) := fun w hw => (List.mem_cons.mp hw).elim (fun e => by rw [e]; exact lw_self _ h) (fun h => lw_self _ h)
theorem crg_S (S : CallFix p m c cc nL s args lw_all own) (hK : KK κ s) (hR : Rp κ w y X L H) (hm : mon H (y.2 3 0)) (l0 : live y 3 0) (hM : MetN l yX5_refused wsR rm (va_Pc [.ref (y.2 3 0)] (RCm κ w y (xl X L))) Qc mc ms free) (hQ : ∀ a st o t, Qc a st o t → ∃ v, o = .returned v)
    (hlink : Cond.methodLink own index yX5_refused ∈ lw_all) (hrc : rm.cells = mc ∧ rm.slots = ms) (hRm : rm.frames + 1 ≤ R.frames ∧ 8 + (1 + 11) + rm.locals ≤ R.locals)
    (hg : g.method = m) (hsize : g.locals.size = nL) (hstack : g.stack = .ref (y.2 3 0) :: rest) (hW : 2 * g.monitorRoom + (rest.map fun v => v.category).sum ≤ 8) (hdg : decode cc g.pc = .ok (.invokevirtual index, 3)) (hf : cells + mc ≤ R.cells ∧ slots + ms ≤ R.slots) :
    va_Run p l e R s m args below meth c H locs cells slots mc ms g rest (Qc #[.ref (y.2 3 0)]) free := by
  obtain ⟨hx, hb, hml, ho, hts⟩ := S
  have hKb : Back l R p e below s args yX5_refused 3 8 (PreOf R mc ms (va_Pc [.ref (y.2 3 0)] (RCm κ w y (xl X L)))) (PostOf Qc mc ms free) := back_ofS (bytes := cX5_refused) (maxL := 1) (ret := (Option.some Jvm.ClassFile.FieldType.int)) hM RCm.blind hrc.1 hrc.2 hRm.1 hRm.2 (pay_in hts (lw_methS q554)) List.mem_cons_self hQ
  obtain ⟨cellB, hcB, hoB, hclB⟩ := rv hK hR l0 (ci := 4) rfl rfl
  intro T hT X9
  obtain ⟨mk, vm₁, hW₁, X₁, hn, hst⟩ := gu_inv (C := "Publicanry$Guard") (Y := yX5_refused) X9 hx ho (hts _ hlink) (hts _ q552) (hts _ q553) (by decide) (fun mk methM h1 h2 => by
    obtain ⟨meth9, c9, k1, -, -, -, -, -, -, k2⟩ := Cond.codeSync_spec h1 (hts _ q554)
    cases h2.symm.trans k1
    have k3 : parseMethodDescriptor yX5_refused.desc = some { parameters := [], returnType := some .int } := by decide +kernel
    rw [Option.some.inj (k2.symm.trans k3)]) (b := y.2 3 0) (by rw [hT]; exact hcB) hoB hclB hg hstack (by rw [hb]; exact hdg)
  obtain ⟨v, ⟨U', l2, c2, s2⟩, X', ⟨g', mk', t, L9, e1, e2, hq, h1, hL, h2, h3⟩, st⟩ := hKb m meth c ⟨T.setVm vm₁, locs, cells, slots⟩ { g with stack := rest } (.invokevirtual index) mk #[.ref (y.2 3 0)] X₁ hg (hsize.trans hml.symm) (by rw [hb]; exact hdg) hW hn ⟨hf.1, hf.2, RCm.pre (av := [.ref (y.2 3 0)]) hR hK hm (T.setVm vm₁) hT hW₁⟩
  dsimp only [Pt.U, Pt.locs, Pt.cells, Pt.slots] at X' e1 e2 h1 h2 h3 st
  subst h1; subst h2; subst h3
  exact ⟨v, (T.setVm vm₁).calling g' mk' #[.ref (y.2 3 0)], t, U', L9, hT, X', hL, e1, e2, hq, fun tgt h => hst _ (st.trans h)⟩
theorem crg_C (S : CallFix p m c cc nL s args lw_all own) (hK : KK κ s) (hR : Rp κ w y X L H) (hm : mon H (y.2 3 0)) (l0 : live y 3 0) {hh : List (Nat × Nat × Nat × Nat)} {XC : String → State → State → Prop} (hM : vx_Met l Y (wsW_ Y bytes maxL ret hh) rm (va_Pc (.ref (y.2 3 0) :: As) (RCm κ w y (xl X L))) Qc XC mc ms free)
    (q1 : Cond.methodLink own index Y ∈ lw_all) (q2 : Cond.instanceMethod Y ∈ lw_all) (q3 : Cond.selects "Publicanry$Guard" Y Y ∈ lw_all) (q4 : Cond.initialized "Publicanry$Guard" ∈ lw_all) (q5 : Cond.codeWith Y bytes maxL ret hh ∈ lw_all) (hrc : rm.cells = mc) (hrs : rm.slots = ms)
    (hd : Y.cls = "Publicanry$Guard" ∧ Y.cls ≠ "java/lang/invoke/MethodHandle" ∧ Y.cls ≠ "java/lang/invoke/VarHandle" ∧ (parseMethodDescriptor Y.desc).map (fun d => d.parameters.length) = some n) (hRm : rm.frames + 1 ≤ R.frames ∧ 8 + (maxL + 11) + rm.locals ≤ R.locals)
    (hg : g.method = m) (hn : As.length = n) (hsize : g.locals.size = nL) (hstack : g.stack = As.reverse ++ .ref (y.2 3 0) :: rest) (hW : 2 * g.monitorRoom + (rest.map fun v => v.category).sum ≤ 8) (hdg : decode cc g.pc = .ok (.invokevirtual index, 3)) (hf : cells + mc ≤ R.cells ∧ slots + ms ≤ R.slots) :
    vx_Run p l e R s m args below meth c H locs cells slots mc ms g rest (Qc (Value.ref (y.2 3 0) :: As).toArray) XC free :=
  vx_runVX S hM (vx_cwVW n S.2.2.2.2 (lw_VW q1 q2 q3 q4 q5) rfl hrc hrs hd hRm) ⟨RCm.blind, rv hK hR l0 (ci := 4) rfl rfl, RCm.pre hR hK hm⟩ hg hn hsize hstack hW hdg hf
theorem crm_V (S : CallFix p m c cc nL s args lw_all own) (hK : KK κ s) (hR : Rp κ w y X L H) (hm : mon H (y.2 3 0)) (hM : Met l Y (ws_ Y bytes maxL ret) rm (va_Pc (.ref b :: As) (RCm κ w y (xl X L))) Qc mc ms free)
    (q1 : Cond.methodLink own index Y ∈ lw_all) (q2 : Cond.instanceMethod Y ∈ lw_all) (q3 : Cond.selects C Y Y ∈ lw_all) (q4 : Cond.initialized C ∈ lw_all) (q5 : Cond.code Y bytes maxL ret ∈ lw_all) (hrc : rm.cells = mc) (hrs : rm.slots = ms)
    (hd : Y.cls = C ∧ Y.cls ≠ "java/lang/invoke/MethodHandle" ∧ Y.cls ≠ "java/lang/invoke/VarHandle" ∧ (parseMethodDescriptor Y.desc).map (fun d => d.parameters.length) = some n) (hRm : rm.frames + 1 ≤ R.frames ∧ 8 + (maxL + 11) + rm.locals ≤ R.locals)
    (hrecv : ∃ cell : Cell, H[b]? = some cell ∧ cell.vm.isStatics = false ∧ s.vm.findClass C = some cell.cls)
    (hg : g.method = m) (hn : As.length = n) (hsize : g.locals.size = nL) (hstack : g.stack = As.reverse ++ .ref b :: rest) (hW : 2 * g.monitorRoom + (rest.map fun v => v.category).sum ≤ 8) (hdg : decode cc g.pc = .ok (.invokevirtual index, 3)) (hf : cells + mc ≤ R.cells ∧ slots + ms ≤ R.slots) :
    va_Run p l e R s m args below meth c H locs cells slots mc ms g rest (Qc (Value.ref b :: As).toArray) free :=
  va_runV S hM (cwV n S.2.2.2.2 (lw_V q1 q2 q3 q4 q5) rfl hrc hrs hd hRm) ⟨RCm.blind, hrecv, RCm.pre hR hK hm⟩ hg hn hsize hstack hW hdg hf
theorem crxm_V (S : CallFix p m c cc nL s args lw_all own) (hK : KK κ s) (hR : Rp κ w y X L H) (hm : mon H (y.2 3 0)) {XC : String → State → State → Prop} (hM : vx_Met l Y (ws_ Y bytes maxL ret) rm (va_Pc (.ref b :: As) (RCm κ w y (xl X L))) Qc XC mc ms free)
    (q1 : Cond.methodLink own index Y ∈ lw_all) (q2 : Cond.instanceMethod Y ∈ lw_all) (q3 : Cond.selects C Y Y ∈ lw_all) (q4 : Cond.initialized C ∈ lw_all) (q5 : Cond.code Y bytes maxL ret ∈ lw_all) (hrc : rm.cells = mc) (hrs : rm.slots = ms)
    (hd : Y.cls = C ∧ Y.cls ≠ "java/lang/invoke/MethodHandle" ∧ Y.cls ≠ "java/lang/invoke/VarHandle" ∧ (parseMethodDescriptor Y.desc).map (fun d => d.parameters.length) = some n) (hRm : rm.frames + 1 ≤ R.frames ∧ 8 + (maxL + 11) + rm.locals ≤ R.locals)
    (hrecv : ∃ cell : Cell, H[b]? = some cell ∧ cell.vm.isStatics = false ∧ s.vm.findClass C = some cell.cls)
    (hg : g.method = m) (hn : As.length = n) (hsize : g.locals.size = nL) (hstack : g.stack = As.reverse ++ .ref b :: rest) (hW : 2 * g.monitorRoom + (rest.map fun v => v.category).sum ≤ 8) (hdg : decode cc g.pc = .ok (.invokevirtual index, 3)) (hf : cells + mc ≤ R.cells ∧ slots + ms ≤ R.slots) :
    vx_Run p l e R s m args below meth c H locs cells slots mc ms g rest (Qc (Value.ref b :: As).toArray) XC free :=
  vx_runV S hM (cwV n S.2.2.2.2 (lw_V q1 q2 q3 q4 q5) rfl hrc hrs hd hRm) ⟨RCm.blind, hrecv, RCm.pre hR hK hm⟩ hg hn hsize hstack hW hdg hf
/-- a call that throws nothing, of a method with handlers -/
theorem ceg_qi {Sg : Type} {fw : Sg → Wd} {fy : Sg → Ly} {post : Int32 → Sg → Prop} {a : Array Value} (hr : vx_Run p l e R s m args below meth c H locs cells slots mc ms (F0 m pc ls st0) rest (va_Qi post (fun u t => Rp κ (fw u) (fy u) (xl X L) [] t.heap) (Af κ) a) (XF κ) (Af κ)) (hR : Rp κ w y X L H) (hS : va_S (Af κ) s.heap H locs)
    (kk : ∀ (r : Int32) (u : Sg) (H1 : Heap) (locs1 : List Loc), post r u → Rp κ (fw u) (fy u) X L H1 → H.size ≤ H1.size → va_S (Af κ) s.heap H1 locs1 → W p l e R s m args below meth c H1 locs1 (cells + mc) (slots + ms) Q (F0 m (pc + 3) ls (.int r :: rest))) : W p l e R s m args below meth c H locs cells slots Q (F0 m pc ls st0) :=
  vx_calli hr hS (fun _ _ h => h) (fun _ h => h) (fun _ _ h => h) (fun E ce9 q9 u t H1 locs1 e1 _ hu _ _ _ _ _ _ _ => hu.elim) (fun r u t H1 locs1 ht _ hp hB hz _ hS => kk r u H1 locs1 hp (hR.up (by rw [← ht]; exact hB)) hz hS)

end GU
