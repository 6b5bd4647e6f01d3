/-! THE LAW's FRAME: the walk over a later start state; the law's end; what the law's frame knows -/
set_option maxRecDepth 100000
abbrev rmL : Room := { frames := 8192, cells := 600000, slots := 7000000, locals := 104096 }
/-- the Out object -/
def oX (oa : Nat) (n : Int64) (d : UInt64) (v : Value) : XR := fun q e => q = oa ∧ e = .inr (15, [.long n, .double d, v])
def Keeps (y y' : Ly) : Prop := y'.2 0 0 = y.2 0 0 ∧ y'.2 3 0 = y.2 3 0 ∧ y'.2 20 0 = y.2 20 0
theorem Keeps.rf {y : Ly} : Keeps y y := ⟨rfl, rfl, rfl⟩
theorem Keeps.tr {a b c : Ly} (h : Keeps a b) (h1 : Keeps b c) : Keeps a c := ⟨h1.1.trans h.1, h1.2.1.trans h.2.1, h1.2.2.trans h.2.2⟩
theorem Keeps.le {a b : Ly} (h : LeS a b) : Keeps a b := ⟨congrFun (h.2 0 rfl) 0, congrFun (h.2 3 rfl) 0, congrFun (h.2 20 rfl) 0⟩
theorem Keeps.a0 {a b : Ly} (h : Keeps a b) : b.2 0 0 = a.2 0 0 := h.1
theorem Keeps.a20 {a b : Ly} (h : Keeps a b) : b.2 20 0 = a.2 20 0 := h.2.2
def bz (x : Int32) : Int32 := if x = 0 then 0 else 1
theorem bz_0 {x : Int32} (h : x = 0) : bz x = 0 := if_pos h
theorem bz_1 {x : Int32} (h : ¬ x = 0) : bz x = 1 := if_neg h
theorem lg_cmp_self (x : Int64) : lg_cmp x x = 0 := by
  unfold lg_cmp
  rw [if_neg (by show ¬ x < x; exact Int64.lt_irrefl), if_pos rfl]
/-- what the law's frame knows -/
def LF (p : Program) (l : Launch) (s : State) (m : MethodId) (meth : Method) (c : Code) (b L : Nat) (xs : Nat → Int32) (κ : Kx) : Prop :=
  p.tables.exec = Jvm.exec ∧ c.code = cL_law ∧ meth.sig.returnType = some .boolean ∧ c.maxLocals = 8 ∧ meth.locks = false ∧ s.vm.findClass RX0 = some m.cls ∧
  (∀ w ∈ lw_all, w.before #[Value.ref b] s = true) ∧ l.stackTraces = false ∧ KK κ s ∧ PX s ∧ va_X b L xs s s.heap ∧ b < kZ κ ∧ kZ κ ≤ s.heap.size ∧ L ≤ 320
section CL
variable {p : Program} {l : Launch} {e : Env} {R : Room} {s : State} {m : MethodId} {args : Array Value} {below : List Frame} {meth : Method} {c : Code} {H : Heap} {locs : List Loc} {cells slots : Nat} {Q : State → Prop}
variable {cc : ByteArray} {pc nL mc ms n index maxL : Nat} {ls : Array Slot} {rest As st0 : List Value} {κ : Kx} {w : Wd} {y : Ly} {X : XR} {L : va_W} {own C host : String} {Y : MethodName} {bytes : ByteArray} {ret : Option FieldType} {rm : Room} {Qc : Array Value → State → Outcome → State → Prop} {b : Addr} {g : JFrame} {free : Addr → Prop} {hh : List (Nat × Nat × Nat × Nat)} {XC : String → State → State → Prop}
theorem crx_SW (S : CallFix p m c cc nL s args lw_all own) (hK : KK κ s) (hR : Rp κ w y X L H) (hM : vx_Met l Y (wsW_ Y bytes maxL ret hh) rm (va_Pc As (RC κ w y (xl X L))) Qc XC mc ms free)
    (q1 : Cond.methodLink own index Y ∈ lw_all) (q2 : Cond.static Y ∈ lw_all) (q3 : Cond.initialized Y.cls ∈ lw_all) (q5 : Cond.codeWith Y bytes maxL ret hh ∈ lw_all) (hrc : rm.cells = mc) (hrs : rm.slots = ms)
    (hd : Y.cls ≠ "java/lang/invoke/MethodHandle" ∧ Y.cls ≠ "java/lang/invoke/VarHandle" ∧ (parseMethodDescriptor Y.desc).map (fun d => d.parameters.length) = some n) (hRm : rm.frames + 1 ≤ R.frames ∧ 8 + (maxL + 11) + rm.locals ≤ R.locals)
    (hg : g.method = m) (hn : As.length = n) (hsize : g.locals.size = nL) (hstack : g.stack = As.reverse ++ rest) (hW : 2 * g.monitorRoom + (rest.map fun v => v.category).sum ≤ 8) (hdg : decode cc g.pc = .ok (.invokestatic index, 3)) (hf : cells + mc ≤ R.cells ∧ slots + ms ≤ R.slots) :
    vx_Run p l e R s m args below meth c H locs cells slots mc ms g rest (Qc As.toArray) XC free :=
  vx_runSX S hM (vx_cwSW n S.2.2.2.2 (lw_SW q1 q2 q3 q5) rfl hrc hrs hd hRm) ⟨RC.blind, RC.pre hR hK⟩ hg hn hsize hstack hW hdg hf
theorem crm_SW (S : CallFix p m c cc nL s args lw_all own) (hK : KK κ s) (hR : Rp κ w y X L H) (hm : mon H (y.2 3 0)) (hM : vx_Met l Y (wsW_ Y bytes maxL ret hh) rm (va_Pc As (RCm κ w y (xl X L))) Qc XC mc ms free)
    (q1 : Cond.methodLink own index Y ∈ lw_all) (q2 : Cond.static Y ∈ lw_all) (q3 : Cond.initialized Y.cls ∈ lw_all) (q5 : Cond.codeWith Y bytes maxL ret hh ∈ lw_all) (hrc : rm.cells = mc) (hrs : rm.slots = ms)
    (hd : Y.cls ≠ "java/lang/invoke/MethodHandle" ∧ Y.cls ≠ "java/lang/invoke/VarHandle" ∧ (parseMethodDescriptor Y.desc).map (fun d => d.parameters.length) = some n) (hRm : rm.frames + 1 ≤ R.frames ∧ 8 + (maxL + 11) + rm.locals ≤ R.locals)
    (hg : g.method = m) (hn : As.length = n) (hsize : g.locals.size = nL) (hstack : g.stack = As.reverse ++ rest) (hW : 2 * g.monitorRoom + (rest.map fun v => v.category).sum ≤ 8) (hdg : decode cc g.pc = .ok (.invokestatic index, 3)) (hf : cells + mc ≤ R.cells ∧ slots + ms ≤ R.slots) :
    vx_Run p l e R s m args below meth c H locs cells slots mc ms g rest (Qc As.toArray) XC free :=
  vx_runSX S hM (vx_cwSW n S.2.2.2.2 (lw_SW q1 q2 q3 q5) rfl hrc hrs hd hRm) ⟨RCm.blind, RCm.pre hR hK hm⟩ hg hn hsize hstack hW hdg hf
theorem crt_SW (S : CallFix p m c cc nL s args lw_all own) (hK : KK κ s) (hR : Rp κ w y X L H) (hPx : PX s) (hM : vx_Met l Y (wsW_ Y bytes maxL ret hh) rm (va_Pc As (RCt κ w y (xl X L))) Qc XC mc ms free)
    (q1 : Cond.methodLink own index Y ∈ lw_all) (q2 : Cond.static Y ∈ lw_all) (q3 : Cond.initialized Y.cls ∈ lw_all) (q5 : Cond.codeWith Y bytes maxL ret hh ∈ lw_all) (hrc : rm.cells = mc) (hrs : rm.slots = ms)
    (hd : Y.cls ≠ "java/lang/invoke/MethodHandle" ∧ Y.cls ≠ "java/lang/invoke/VarHandle" ∧ (parseMethodDescriptor Y.desc).map (fun d => d.parameters.length) = some n) (hRm : rm.frames + 1 ≤ R.frames ∧ 8 + (maxL + 11) + rm.locals ≤ R.locals)
    (hg : g.method = m) (hn : As.length = n) (hsize : g.locals.size = nL) (hstack : g.stack = As.reverse ++ rest) (hW : 2 * g.monitorRoom + (rest.map fun v => v.category).sum ≤ 8) (hdg : decode cc g.pc = .ok (.invokestatic index, 3)) (hf : cells + mc ≤ R.cells ∧ slots + ms ≤ R.slots) :
    vx_Run p l e R s m args below meth c H locs cells slots mc ms g rest (Qc As.toArray) XC free :=
  vx_runSX S hM (vx_cwSW n S.2.2.2.2 (lw_SW q1 q2 q3 q5) rfl hrc hrs hd hRm) ⟨RCt.blind, RCt.pre hR hK hPx⟩ hg hn hsize hstack hW hdg hf
end CL
section RB
variable {p : Program} {l : Launch} {e : Env} {R R2 : Room} {s : State} {m : MethodId} {args : Array Value} {below : List Frame} {meth : Method} {c : Code} {H : Heap} {locs : List Loc} {cells slots : Nat} {Q : State → Prop} {g : JFrame}
theorem same_sf {A B : State} {F : List Frame} {L : List Loc} {k n : Nat} (h : A.sameButNew B L k n) : (A.setFrames F).sameButNew B L k n :=
  ⟨by rw [State.setFrames_setFrames]; exact h.1, h.2.1, h.2.2.1, h.2.2.2.1, h.2.2.2.2.1, h.2.2.2.2.2⟩
/-- the walk goes on over the state that it has reached, as over a start -/
theorem W.rebase {Q2 : State → State → Prop} (h1 : R2.frames ≤ R.frames) (h2 : R2.locals ≤ R.locals) (h3 : cells + R2.cells ≤ R.cells) (h4 : slots + R2.slots ≤ R.slots)
    (k : ∀ s2 : State, s2.heap = H → s.WarmedH s2.vm → W p l e R2 s2 m args below meth c H [] 0 0 (Q2 s2) g)
    (hq : ∀ s2 t : State, s.WarmedH s2.vm → s.sameButNew (s2.setVm s.vm) locs cells slots → Q2 s2 t → Q t) : W p l e R s m args below meth c H locs cells slots Q g := by
  intro T hT X
  have hcur : T.cur < T.threads.size := State.cur_lt_of_top X.here.top
  have hF : (T.setFrames (.invoking m args :: below)).frames = .invoking m args :: below := State.frames_setFrames _ hcur
  have hmv : ∀ q, (T.setFrames (.invoking m args :: below)).vm.method? q = s.vm.method? q := fun q => X.warmed.alike.method?
  obtain ⟨t0, ht0, -⟩ := State.frames_cons (State.frames_setFrames (s := T) (.invoking m args :: below) hcur)
  have hroom : (T.setFrames (.invoking m args :: below)).hasRoom e.platform R2 = true := by
    obtain ⟨r1, r2, r3, r4⟩ := State.hasRoom_stack X.room
    have r5 := State.hasRoom_real X.room
    have h := X.room
    simp only [State.hasRoom, Bool.and_eq_true, decide_eq_true_eq] at h
    rw [State.localsInUse_invoking X.frames X.method X.code] at r3 r4 r5
    rw [X.frames, List.length_cons] at r1 r2
    have hU : (T.setFrames (.invoking m args :: below)).localsInUse = stackWeight below + vmFrameWords + (c.maxLocals + 11) := State.localsInUse_invoking hF X.method' X.code
    simp only [State.hasRoom, Bool.and_eq_true, decide_eq_true_eq, hF, hU, List.length_cons, State.stackLimits_setFrames, State.stackBytes_setFrames, X.limits, X.bytes]
    refine ⟨⟨⟨⟨by omega, by omega, by omega, by omega, by omega, h.1.1.1.2.2.2.2.2⟩, ?_⟩, ?_⟩, X.book⟩
    · have a1 := h.1.1.2
      have a2 := X.heapSize
      show T.heap.size + R2.cells ≤ e.platform.maxCells
      omega
    · have a1 := h.1.2
      have a2 := X.used
      show T.slotsUsed + R2.slots ≤ e.platform.maxSlots
      omega
  have hh : (T.setFrames (.invoking m args :: below)).hears m below = true := by
    have h := X.hears
    have e1 : (T.setFrames (.invoking m args :: below)).hears m below = s.hears m below := by
      cases below with
      | nil => simp only [State.hears, hmv]
      | cons z r => cases z <;> simp only [State.hears, State.code?_eq, hmv]
    rw [e1]
    exact h
  have hsame : T.sameButNew T [] 0 0 := by
    obtain ⟨r, hr⟩ := State.topJava?_eq_some.mp (Option.isSome_iff_exists.mp X.here.top).choose_spec
    obtain ⟨t, ht, -⟩ := State.frames_cons hr
    exact State.sameButNew.refl T ht
  have X2 : Stand p l e R2 (T.setFrames (.invoking m args :: below)) m args below meth c T [] 0 0 :=
    ⟨X.admits, X.cas, X.clock, hF, hroom, hh, X.method', X.code, X.here, X.tail, State.WarmedH.refl (T.setFrames (.invoking m args :: below)), (State.stackLimits_setFrames e.platform T _).symm, (State.stackBytes_setFrames T _).symm, same_sf hsame⟩
  obtain ⟨t, st, h⟩ := k (T.setFrames (.invoking m args :: below)) hT X.warmed T hT X2
  exact ⟨t, st, hq _ t X.warmed (X.same.setFrames _ X.cur) h⟩
/-- the law's end, over the later start -/
def lw_Y (below : List Frame) (z : Nat) (s2 : State) : State → Prop := fun t => t.status = .running ∧ Ended t below (.returned (some (.int 1))) ∧ s2.WarmedH t.vm ∧ ∃ L k n, (∀ q ∈ L, z ≤ q.base) ∧ k ≤ 600000 ∧ n ≤ 7000000 ∧ s2.sameButNew (t.setVm s2.vm) L k n
theorem lw_retY {z : Nat} (hx : p.tables.exec = Jvm.exec) (hb : c.code = cL_law) (hr : meth.sig.returnType = some .boolean) (hlocks : meth.locks = false) (hL : ∀ q ∈ locs, z ≤ q.base) (h1 : cells ≤ 600000) (h2 : slots ≤ 7000000) {pc : Nat} {ls : Array Slot} (hdg : decode cL_law pc = .ok (.ireturn, 1)) : W p l e rmL s m args below meth c H locs cells slots (lw_Y below z s) (F0 m pc ls [.int 1]) := by
  intro T hT X
  obtain ⟨fs, hret, hrun, hended, hW, hframe⟩ := X.leave (v := some (.int 1)) (hlocks := hlocks) (fun h => by rw [hr] at h; cases h)
  have hmeth' : T.vm.method? m = some meth := X.method'
  refine ⟨T.setFrames fs, ?_, hrun, hended, hW, locs, cells, slots, hL, h1, h2, hframe⟩
  jvm_step X.here [X.here.top, hx, hb, hdg, hmeth', hr, narrow_b1]
  (try refine ⟨rfl, ?_⟩); (try refine ⟨rfl, ?_⟩)
  first | (intro acts; rw [hret _ acts rfl rfl rfl]) | rw [hret _ _ rfl rfl rfl]
  exact Steps.refl _
theorem lw_backZ {b : Nat} {z : Nat} {s2 t : State} (hL : ∀ q ∈ locs, s.heap.size ≤ q.base) (hz : s.heap.size ≤ z) (hc : cells ≤ 1152) (hs : slots ≤ 254250) (hW : s.WarmedH s2.vm) (h : s.sameButNew (s2.setVm s.vm) locs cells slots) (h2 : lw_Y below z s2 t) : ∃ o, t.status = .running ∧ Ended t below o ∧ o = .returned (some (.int 1)) ∧ Framed s o t [] 601152 7254250 := by
  obtain ⟨e1, e2, e3, L, k, n, e4, e5, e6, e7⟩ := h2
  refine ⟨_, e1, e2, rfl, ⟨_, rfl⟩, State.WarmedH.trans hW e3, ?_⟩
  have h3 := h.trans (e7.setVm s.vm)
  exact h3.weaken (fun q hq hlt => by
    rcases List.mem_append.mp hq with h1 | h1
    · exact absurd hlt (Nat.not_lt.mpr (hL q h1))
    · exact absurd hlt (Nat.not_lt.mpr (Nat.le_trans hz (e4 q h1)))) (by omega) (by omega)
end RB
