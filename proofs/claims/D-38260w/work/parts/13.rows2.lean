/-! ROWS 2: receivers, statics, strings, casts, inherited and overriding methods -/
set_option maxRecDepth 100000
theorem vp_lt {x : Int32} {n : Nat} (h : vp_in x n) : x.toNatClampNeg < n := Nat.not_le.mp fun q => h (Or.inr q)
theorem tb_out {x : Int32} {lo hi : Int} (h : ∀ v : Int, lo ≤ v → v ≤ hi → ¬ x = Int32.ofInt v) : x.toInt < lo ∨ hi < x.toInt := by
  rcases Int.lt_or_le x.toInt lo with a | a
  · exact Or.inl a
  · rcases Int.lt_or_le hi x.toInt with b | b
    · exact Or.inr b
    · exact absurd (Int32.ofInt_toInt x).symm (h x.toInt a b)
section R2
variable {p : Program} {l : Launch} {e : Env} {R : Room} {s : State} {m : MethodId} {args : Array Value} {below : List Frame} {meth : Method} {c : Code} {H : Heap} {locs : List Loc} {cells slots : Nat} {Q : State → Prop}
variable {cc : ByteArray} {pc nL mc ms n index maxL : Nat} {ls : Array Slot} {rest As st0 : List Value} {κ : Kx} {w : Wd} {y : Ly} {X : XR} {L : va_W} {own C : String} {Y Z : MethodName} {bytes : ByteArray} {ret : Option FieldType} {rm : Room} {Qc : Array Value → State → Outcome → State → Prop} {b : Addr} {g : JFrame} {free : Addr → Prop}
theorem rv (hK : KK κ s) (hR : Rp κ w y X L H) {k i : Nat} (hl : live y k i) {ci : Nat} {fs : List Value} {q : vw_C} (he : ce κ y k i (w.1 k i) w.2 = .inr (ci, fs)) (hc : Cl[ci]? = some q) : ∃ cell : Cell, H[y.2 k i]? = some cell ∧ cell.vm.isStatics = false ∧ s.vm.findClass q.1 = some cell.cls := by
  have h := hR.role hl
  rw [he] at h
  exact va_recv (q0 := 0) hK.1 (va_P1 h) hc rfl
theorem rv_at (hK : KK κ s) {a : Nat} {ci : Nat} {fs : List Value} {q : vw_C} (h : va_at (kD κ) Cl (a, .inr (ci, fs)) H) (hc : Cl[ci]? = some q) : ∃ cell : Cell, H[a]? = some cell ∧ cell.vm.isStatics = false ∧ s.vm.findClass q.1 = some cell.cls := va_recv (q0 := 0) hK.1 (va_P1 h) hc rfl
theorem rv_ch0 (hK : KK κ s) (hR : Rp κ w y X L H) (hl : live y 1 0) : ∃ cell : Cell, H[y.2 1 0]? = some cell ∧ cell.vm.isStatics = false ∧ s.vm.findClass RX3 = some cell.cls := rv hK hR hl (ci := 2) (ce_ch0 κ y _ _) rfl
theorem rv_ch1 (hK : KK κ s) (hR : Rp κ w y X L H) {i : Nat} (hl : live y 1 i) (h : i ≠ 0) : ∃ cell : Cell, H[y.2 1 i]? = some cell ∧ cell.vm.isStatics = false ∧ s.vm.findClass RX2 = some cell.cls := rv hK hR hl (ci := 1) (ce_ch1 κ y h _ _) rfl
theorem jr_gets (hx : p.tables.exec = Jvm.exec) (hb : c.code = cc) (hown : s.vm.findClass own = some m.cls) (hK : KK κ s) (hR : Rp κ w y X L H) (_hS : va_S (Af κ) s.heap H locs) {C n d : String} {j : Nat} (hq : (C, n, d, j) ∈ stR) (hlink : Cond.fieldLink own index C n d ∈ lw_all) (hts : ∀ w ∈ lw_all, w.before args s = true) (hdg : decode cc pc = .ok (.getstatic index, 3))
    (kk : W p l e R s m args below meth c H locs cells slots Q (F0 m (pc + 3) ls (.ref (kA κ j) :: rest))) : W p l e R s m args below meth c H locs cells slots Q (F0 m pc ls rest) := by
  obtain ⟨cf, kf, fi, f, a, cell, h1, h2, h3, h4, h5, h6, h7, h8⟩ := hK.2.1.2.2.2.2.2.2.1 _ hq
  have h9 : a < kZ κ := Nat.not_le.mp h8
  exact W.gets hx hb hown (hts _ hlink) h1 h2 h3 h4 (by rw [hR.1.2 a h9]; exact h5) (fun e => by rw [e] at h6; cases h6) h7 rfl hdg kk
theorem jr_getsI (hx : p.tables.exec = Jvm.exec) (hb : c.code = cc) (hown : s.vm.findClass own = some m.cls) (hK : KK κ s) (hR : Rp κ w y X L H) {C n d : String} {v : Int32} (hq : (C, n, d, v) ∈ stI) (hlink : Cond.fieldLink own index C n d ∈ lw_all) (hts : ∀ w ∈ lw_all, w.before args s = true) (hdg : decode cc pc = .ok (.getstatic index, 3))
    (kk : W p l e R s m args below meth c H locs cells slots Q (F0 m (pc + 3) ls (.int v :: rest))) : W p l e R s m args below meth c H locs cells slots Q (F0 m pc ls rest) := by
  obtain ⟨cf, kf, fi, f, a, cell, h1, h2, h3, h4, h5, h6, h7, h8⟩ := hK.2.1.2.2.2.2.2.2.2.1 _ hq
  have h9 : a < kZ κ := Nat.not_le.mp h8
  exact W.gets hx hb hown (hts _ hlink) h1 h2 h3 h4 (by rw [hR.1.2 a h9]; exact h5) (fun e => by rw [e] at h6; cases h6) h7 rfl hdg kk
theorem jr_ldcS (hx : p.tables.exec = Jvm.exec) (hb : c.code = cc) {own tx : String} {k n : Nat} (hown : s.vm.findClass own = some m.cls) (hK : KK κ s) (hq : (own, k, tx, n) ∈ strL) (hdg : decode cc pc = .ok (.ldc k, 2))
    (kk : W p l e R s m args below meth c H locs cells slots Q (F0 m (pc + 2) ls (.ref (kA κ n) :: rest))) : W p l e R s m args below meth c H locs cells slots Q (F0 m pc ls rest) := va_ldcS hx hb hown (hK.2.1.2.2.2.2.2.2.2.2.2.2.1 _ hq) hdg kk
theorem jr_cast (hx : p.tables.exec = Jvm.exec) (hb : c.code = cc) {own C : String} {ci index a : Nat} {fs : List Value} {r : vw_C} (hown : s.vm.findClass own = some m.cls) (hK : KK κ s) (hts : ∀ w ∈ lw_all, w.before args s = true) (h : va_at (kD κ) Cl (a, .inr (ci, fs)) H) (hc : Cl[ci]? = some r) (hlink : Cond.classLink own index C ∈ lw_all) (hq : (r.1, C) ∈ nwC) (hdg : decode cc pc = .ok (.checkcast index, 3))
    (kk : W p l e R s m args below meth c H locs cells slots Q (F0 m (pc + 3) ls (.ref a :: rest))) : W p l e R s m args below meth c H locs cells slots Q (F0 m pc ls (.ref a :: rest)) := va_castY hx hb hown (hts _ hlink) (hK.2.1.2.2.1 _ hq) (rv_at hK h hc) hdg kk
theorem lw_U {own : String} {idx : Nat} {C owner : String} {x y : MethodName} {b : ByteArray} {L : Nat} {r : Option FieldType} (h1 : Cond.methodLink own idx x ∈ lw_all) (h2 : Cond.sameMethod x.cls owner x.name x.desc ∈ lw_all) (h3 : Cond.selects C x y ∈ lw_all) (h4 : Cond.instanceMethod y ∈ lw_all) (h5 : Cond.initialized y.cls ∈ lw_all) (h6 : Cond.code y b L r ∈ lw_all) : GoodIn lw_all (va_wsU own idx C owner x y (ws_ y b L r)) := by
  refine lw_app ?_ (lw_meth h6)
  intro w hw
  simp only [List.mem_cons, List.not_mem_nil, or_false] at hw
  rcases hw with e | e | e | e | e
  · rw [e]; exact h1
  · rw [e]; exact h2
  · rw [e]; exact h3
  · rw [e]; exact h4
  · rw [e]; exact h5
theorem lw_O {own : String} {idx : Nat} {C owner : String} {x y : MethodName} {b : ByteArray} {L : Nat} {r : Option FieldType} (h1 : Cond.methodLink own idx x ∈ lw_all) (h2 : Cond.sameMethod x.cls owner x.name x.desc ∈ lw_all) (h0 : Cond.instanceMethod ⟨owner, x.name, x.desc⟩ ∈ lw_all) (h3 : Cond.selects C x y ∈ lw_all) (h4 : Cond.instanceMethod y ∈ lw_all) (h5 : Cond.initialized y.cls ∈ lw_all) (h6 : Cond.code y b L r ∈ lw_all) : GoodIn lw_all (va_wsO own idx C owner x y (ws_ y b L r)) := by
  refine lw_app ?_ (lw_meth h6)
  intro w hw
  simp only [List.mem_cons, List.not_mem_nil, or_false] at hw
  rcases hw with e | e | e | e | e | e
  · rw [e]; exact h1
  · rw [e]; exact h2
  · rw [e]; exact h0
  · rw [e]; exact h3
  · rw [e]; exact h4
  · rw [e]; exact h5
/-- a method that the receiver's class inherits -/
theorem cr_U (S : CallFix p m c cc nL s args lw_all own) (hK : KK κ s) (hR : Rp κ w y X L H) (hM : Met l Y (ws_ Y bytes maxL ret) rm (va_Pc (.ref b :: As) (RC κ w y (xl X L))) Qc mc ms free) {owner : String}
    (q1 : Cond.methodLink own index Z ∈ lw_all) (q2 : Cond.sameMethod Z.cls owner Z.name Z.desc ∈ lw_all) (q3 : Cond.selects C Z Y ∈ lw_all) (q4 : Cond.instanceMethod Y ∈ lw_all) (q6 : Cond.initialized Y.cls ∈ lw_all) (q5 : Cond.code Y bytes maxL ret ∈ lw_all) (hrc : rm.cells = mc) (hrs : rm.slots = ms) (hyx : Y = ⟨owner, Z.name, Z.desc⟩)
    (hd : owner ≠ "java/lang/invoke/MethodHandle" ∧ owner ≠ "java/lang/invoke/VarHandle" ∧ (parseMethodDescriptor Z.desc).map (fun d => d.parameters.length) = some n) (hRm : rm.frames + 1 ≤ R.frames ∧ 8 + (maxL + 11) + rm.locals ≤ R.locals)
    (hrecv : ∃ cell : Cell, H[b]? = some cell ∧ cell.vm.isStatics = false ∧ s.vm.findClass C = some cell.cls)
    (hg : g.method = m) (hn : As.length = n) (hsize : g.locals.size = nL) (hstack : g.stack = As.reverse ++ .ref b :: rest) (hW : 2 * g.monitorRoom + (rest.map fun v => v.category).sum ≤ 8) (hdg : decode cc g.pc = .ok (.invokevirtual index, 3)) (hf : cells + mc ≤ R.cells ∧ slots + ms ≤ R.slots) :
    va_Run p l e R s m args below meth c H locs cells slots mc ms g rest (Qc (Value.ref b :: As).toArray) free :=
  va_runU S hM (va_cwU n S.2.2.2.2 (lw_U q1 q2 q3 q4 q6 q5) rfl hrc hrs hyx hd hRm) ⟨RC.blind, hrecv, RC.pre hR hK⟩ hg hn hsize hstack hW hdg hf
/-- a method that the receiver's class overrides -/
theorem cr_O (S : CallFix p m c cc nL s args lw_all own) (hK : KK κ s) (hR : Rp κ w y X L H) (hM : Met l Y (ws_ Y bytes maxL ret) rm (va_Pc (.ref b :: As) (RC κ w y (xl X L))) Qc mc ms free) {owner : String} {b0 : ByteArray} {m0 : Nat} {r0 : Option FieldType}
    (q1 : Cond.methodLink own index Z ∈ lw_all) (q2 : Cond.sameMethod Z.cls owner Z.name Z.desc ∈ lw_all) (q7 : Cond.instanceMethod ⟨owner, Z.name, Z.desc⟩ ∈ lw_all) (q3 : Cond.selects C Z Y ∈ lw_all) (q4 : Cond.instanceMethod Y ∈ lw_all) (q6 : Cond.initialized Y.cls ∈ lw_all) (q5 : Cond.code Y bytes maxL ret ∈ lw_all) (q8 : Cond.code ⟨owner, Z.name, Z.desc⟩ b0 m0 r0 ∈ lw_all) (hrc : rm.cells = mc) (hrs : rm.slots = ms)
    (hd : owner ≠ "java/lang/invoke/MethodHandle" ∧ owner ≠ "java/lang/invoke/VarHandle" ∧ (parseMethodDescriptor Z.desc).map (fun d => d.parameters.length) = some n) (hRm : rm.frames + 1 ≤ R.frames ∧ 8 + (maxL + 11) + rm.locals ≤ R.locals)
    (hrecv : ∃ cell : Cell, H[b]? = some cell ∧ cell.vm.isStatics = false ∧ s.vm.findClass C = some cell.cls)
    (hg : g.method = m) (hn : As.length = n) (hsize : g.locals.size = nL) (hstack : g.stack = As.reverse ++ .ref b :: rest) (hW : 2 * g.monitorRoom + (rest.map fun v => v.category).sum ≤ 8) (hdg : decode cc g.pc = .ok (.invokevirtual index, 3)) (hf : cells + mc ≤ R.cells ∧ slots + ms ≤ R.slots) :
    va_Run p l e R s m args below meth c H locs cells slots mc ms g rest (Qc (Value.ref b :: As).toArray) free :=
  va_runU S hM (va_cwO n S.2.2.2.2 (lw_O q1 q2 q7 q3 q4 q6 q5) rfl hrc hrs q8 hd hRm) ⟨RC.blind, hrecv, RC.pre hR hK⟩ hg hn hsize hstack hW hdg hf
/-- Chest.take on the world or on another chest -/
theorem cr_take {v9 : Int32} (S : CallFix p m c cc nL s args lw_all own) (hK : KK κ s) (hR : Rp κ w y X L H) {i : Nat} (hl : live y 1 i) (hM : Met l yX2_take (ws_ yX2_take cX2_take 2 none) rm (va_Pc [.ref (y.2 1 i), .int v9] (RC κ w y (xl X L))) Qc mc ms free)
    (q1 : Cond.methodLink own index yX2_take ∈ lw_all) (hrc : rm.cells = mc) (hrs : rm.slots = ms) (hRm : rm.frames + 1 ≤ R.frames ∧ 8 + (2 + 11) + rm.locals ≤ R.locals)
    (hg : g.method = m) (hsize : g.locals.size = nL) (hstack : g.stack = .int v9 :: .ref (y.2 1 i) :: rest) (hW : 2 * g.monitorRoom + (rest.map fun v => v.category).sum ≤ 8) (hdg : decode cc g.pc = .ok (.invokevirtual index, 3)) (hf : cells + mc ≤ R.cells ∧ slots + ms ≤ R.slots) :
    va_Run p l e R s m args below meth c H locs cells slots mc ms g rest (Qc (#[Value.ref (y.2 1 i), .int v9])) free := by
  by_cases h0 : i = 0
  · subst h0
    exact cr_U (n := 1) (C := RX3) (owner := "Publicanry$Chest") (As := [.int v9]) S hK hR hM q1 q2637 q2639 q317 q78 q318 hrc hrs rfl (by decide +kernel) hRm (rv_ch0 hK hR hl) hg rfl hsize hstack hW hdg hf
  · exact cr_U (n := 1) (C := RX2) (owner := "Publicanry$Chest") (As := [.int v9]) S hK hR hM q1 q2637 q2638 q317 q78 q318 hrc hrs rfl (by decide +kernel) hRm (rv_ch1 hK hR hl h0) hg rfl hsize hstack hW hdg hf
end R2
theorem rpt {κ : Kx} {w : Wd} {y : Ly} {X : XR} {L : va_W} {H H1 : Heap} (ht : H1 = H) (hR : Rp κ w y X L H) : Rp κ w y X L H1 := ht ▸ hR
