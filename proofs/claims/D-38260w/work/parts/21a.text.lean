/-! TEXTS: StringBuilder and String, Latin-1 alone (printed by wip gen/txt.py) -/
set_option maxRecDepth 100000
/-- a callee has written my temporary, and hands over one of its own -/
theorem Rp.wrote2 {κ : Kx} {w w' : Wd} {y y' : Ly} {X : XR} {H H1 : Heap} {a b : Nat} {e0 e1 e2 : va_E} (h : Rp κ w y X [(a, e0)] H) (h1 : Rp κ w' y' (upX (xl X [(a, e0)]) a e1) [(b, e2)] H1) : Rp κ w' y' X [(a, e1), (b, e2)] H1 := by
  obtain ⟨a12, a3, a4, a5, a6, a7, a8⟩ := h
  obtain ⟨b12, b3, b4, b5, b6, b7, b8⟩ := h1
  have hab : b ≠ a := fun e => (b8 0 _ rfl).1 e1 (Or.inl ⟨e, rfl⟩)
  have hxa : ∀ q e, X q e → q ≠ a := fun q e hx e9 => (a8 0 _ rfl).1 e (by rw [← e9]; exact hx)
  refine ⟨b12, b3, b4, fun q e hx => b5 q e (Or.inr ⟨hxa q e hx, Or.inl hx⟩), ?_, ⟨?_, ?_⟩, ?_⟩
  · intro t q ht
    match t with
    | 0 => cases ht; exact (b5 a e1 (Or.inl ⟨rfl, rfl⟩)).1
    | 1 => cases ht; exact b6 0 _ rfl
    | t + 2 => simp at ht
  · intro i j x z hi hj e
    match i, j with
    | 0, 0 => rfl
    | 0, 1 => cases hi; cases hj; exact absurd e.symm hab
    | 1, 0 => cases hi; cases hj; exact absurd e hab
    | 1, 1 => rfl
    | i + 2, _ => simp at hi
    | _, j + 2 => simp at hj
  · intro t q ht
    match t with
    | 0 => cases ht; exact a7.2 0 (a, e0) rfl
    | 1 => cases ht; exact b7.2 0 _ rfl
    | t + 2 => simp at ht
  · intro t q ht
    match t with
    | 0 => cases ht; exact ⟨fun e hx => hxa a e hx rfl, (b5 a e1 (Or.inl ⟨rfl, rfl⟩)).2.2⟩
    | 1 => cases ht; exact ⟨fun e hx => (b8 0 _ rfl).1 e (Or.inr ⟨hab, Or.inl hx⟩), (b8 0 _ rfl).2⟩
    | t + 2 => simp at ht
abbrev sbC (a : Nat) (mb n : Int32) : va_E := .inr (20, [.ref a, .int 0, .int mb, .int n])
abbrev byC (κ : Kx) (m : Nat) (f : Nat → Int32) : va_E := .inl (kT κ 3, (m, .inl f))
abbrev stC (a : Nat) (h z : Int32) : va_E := .inr (21, [.ref a, .int 0, .int h, .int z])
theorem Rp.wk {κ : Kx} {w : Wd} {y : Ly} {X X' : XR} {L : va_W} {H : Heap} (h : Rp κ w y X' L H) (hX : ∀ q e, X q e → X' q e) : Rp κ w y X L H := by
  obtain ⟨a12, a3, a4, a5, a6, a7, a8⟩ := h
  exact ⟨a12, a3, a4, fun q e hx => a5 q e (hX q e hx), a6, a7, fun t q ht => ⟨fun e hx => (a8 t q ht).1 e (hX _ _ hx), (a8 t q ht).2⟩⟩
theorem Rp.xl0 {κ : Kx} {w : Wd} {y : Ly} {X : XR} {L : va_W} {H : Heap} (h : Rp κ w y (xl X L) [] H) : Rp κ w y X [] H := h.wk (fun _ _ hx => Or.inl hx)
/-- a temporary goes over into the caller's cells -/
theorem Rp.tX {κ : Kx} {w : Wd} {y : Ly} {X : XR} {H : Heap} {a : Nat} {e : va_E} (h : Rp κ w y X [(a, e)] H) : Rp κ w y (upX X a e) [] H := by
  obtain ⟨a12, a3, a4, a5, a6, a7, a8⟩ := h
  refine ⟨a12, a3, a4, fun q f hx => ?_, va_P0, va_D0, fun t q h => by simp at h⟩
  rcases hx with ⟨rfl, rfl⟩ | ⟨hq, hx⟩
  · exact ⟨a6 0 _ rfl, a7.2 0 _ rfl, (a8 0 _ rfl).2⟩
  · exact a5 q f hx
/-- a text stands at q: its bytes at bA, n of them -/
def Str (κ : Kx) (H : Heap) (q n : Nat) (t : Nat → Nat) : Prop := ∃ (bA : Nat) (hh zz : Int32) (f : Nat → Int32), va_at (kD κ) Cl (q, stC bA hh zz) H ∧ va_at (kD κ) Cl (bA, byC κ n f) H ∧ sb_Lat t n f ∧ sb_Fit f
/-- at every heap that holds the world -/
def StrX (κ : Kx) (w : Wd) (y : Ly) (X : XR) (q n : Nat) (t : Nat → Nat) : Prop := ∃ (bA : Nat) (hh zz : Int32) (f : Nat → Int32), (∀ H, Rp κ w y X [] H → va_at (kD κ) Cl (q, stC bA hh zz) H ∧ va_at (kD κ) Cl (bA, byC κ n f) H) ∧ sb_Lat t n f ∧ sb_Fit f
section TX
variable {p : Program} {l : Launch} {e : Env} {R : Room} {s : State} {m : MethodId} {args : Array Value} {below : List Frame} {meth : Method} {c : Code} {H : Heap} {locs : List Loc} {cells slots : Nat} {Q : State → Prop}
variable {cc : ByteArray} {pc : Nat} {ls : Array Slot} {rest : List Value} {D : va_G} {A : Nat → Prop} {tys : List (ClassId × FieldType)} {H0 : Heap}
theorem xa_bald {a : Nat} (hx : p.tables.exec = Jvm.exec) (hb : c.code = cc) (hK : va_K D Cl tys s) {cA : ClassId} {n : Nat} {f : Nat → Int32} (he : va_at D Cl (a, .inl (cA, n, .inl f)) H) (t0 : Nat) (ht : tys[t0]? = some (cA, .byte)) {i : Int32} (hin : vp_in i n) (hdg : decode cc pc = .ok (.baload, 1))
    (kk : W p l e R s m args below meth c H locs cells slots Q (F0 m (pc + 1) ls (.int (f i.toNatClampNeg) :: rest))) : W p l e R s m args below meth c H locs cells slots Q (F0 m pc ls (.int i :: .ref a :: rest)) := va_bald hx hb hK (va_P1 he) 0 t0 rfl ht hin hdg kk
theorem xa_bast {a : Nat} (hx : p.tables.exec = Jvm.exec) (hb : c.code = cc) (hK : va_K D Cl tys s) {cA : ClassId} {n : Nat} {f : Nat → Int32} (hS : va_S A H0 H locs) (hA : A a) (he : va_at D Cl (a, .inl (cA, n, .inl f)) H) (t0 : Nat) (ht : tys[t0]? = some (cA, .byte)) {i : Int32} {x : Int32} (hin : vp_in i n) (hnb : narrow .byte (.int x) = .int x) (hdg : decode cc pc = .ok (.bastore, 1))
    (kk : ∀ (H1 : Heap) (locs1 : List Loc), va_at D Cl (a, .inl (cA, n, .inl (upd f i.toNatClampNeg x))) H1 → H1.size = H.size → (∀ q : Nat, q ≠ a → H1[q]? = H[q]?) → va_S A H0 H1 locs1 → W p l e R s m args below meth c H1 locs1 cells slots Q (F0 m (pc + 1) ls rest)) : W p l e R s m args below meth c H locs cells slots Q (F0 m pc ls (.int x :: .int i :: .ref a :: rest)) := by
  refine W.bast hx hb he ((hK.2 t0 _ ht).1 n (fun j => .int (f j))) (fun q => by cases q) (by show ¬ (i < 0 ∨ (arrV _ _ _).slots.size ≤ _); rw [arrV_size]; exact hin) rfl rfl hdg fun H1 e z oq => ?_
  refine kk H1 _ ?_ z oq (hS.put z oq hA)
  show H1[a]? = some (vp_cell _ _)
  rw [e]
  rw [vp_cell_i, vp_cell_i, arrV_store]
  congr 2
  funext q
  by_cases hq : q = i.toNatClampNeg
  · subst hq
    simp only [updV, upd, if_true]
    exact hnb
  · simp [updV, upd, hq]
theorem xa_copyb {a a0 : Nat} {own : String} {index : Nat} (hexec : p.tables.exec = Jvm.exec) (hb : c.code = cc) (hml : c.maxLocals = ls.size) (hown : s.vm.findClass own = some m.cls) (hlink : Cond.methodLink own index arraycopyName ∈ lw_all) (hts : ∀ w ∈ lw_all, w.before args s = true)
    (hK : va_K D Cl tys s) (hS : va_S A H0 H locs) (hA : A a) (t0 : Nat) {cA : ClassId} {n0 n1 : Nat} {f g : Nat → Int32} (he0 : va_at D Cl (a0, .inl (cA, n0, .inl f)) H) (he1 : va_at D Cl (a, .inl (cA, n1, .inl g)) H) (ht0 : tys[t0]? = some (cA, .byte))
    {sp dp n : Int32} (h1 : ¬ sp < 0) (h2 : ¬ dp < 0) (h3 : ¬ n < 0) (h4 : sp.toNatClampNeg + n.toNatClampNeg ≤ n0) (h5 : dp.toNatClampNeg + n.toNatClampNeg ≤ n1) (hfit : sb_Fit f)
    (hframes : 1 ≤ R.frames) (hlocals : (rest.map fun v => v.category).sum + (nativeFrameWords "java/lang/System" "arraycopy" 5 + 11) ≤ R.locals) (hdg : decode cc pc = .ok (.invokestatic index, 3))
    (kk : ∀ (H1 : Heap) (locs1 : List Loc), va_at D Cl (a, .inl (cA, n1, .inl (va_cpy f g sp.toNatClampNeg dp.toNatClampNeg n.toNatClampNeg))) H1 → H1.size = H.size → (∀ q : Nat, q ≠ a → H1[q]? = H[q]?) → va_S A H0 H1 locs1 → W p l e R s m args below meth c H1 locs1 cells slots Q (F0 m (pc + 3) ls rest)) : W p l e R s m args below meth c H locs cells slots Q (F0 m pc ls (.int n :: .int dp :: .ref a :: .int sp :: .ref a0 :: rest)) := by
  have nn : ∀ z : Int32, ¬ z < 0 → z.toInt = (z.toNatClampNeg : Int) := by
    intro z hz
    have hz0 : (0 : Int) ≤ z.toInt := by
      have := Int32.not_lt.mp hz
      simpa using Int32.le_iff_toInt_le.mp this
    show z.toInt = ((z.toInt.toNat : Nat) : Int)
    omega
  intro T hT X
  have hc0 : H[a0]? = some (vp_cell cA (n0, .inl f)) := he0
  have hc1 : H[a]? = some (vp_cell cA (n1, .inl g)) := he1
  obtain ⟨-, k0, hk0, cm0, hkk0⟩ := (hK.2 t0 _ ht0).1 n0 (fun j => .int (f j))
  obtain ⟨-, k1, hk1, cm1, hkk1⟩ := (hK.2 t0 _ ht0).1 n1 (fun j => .int (g j))
  obtain ⟨vm', X', step⟩ := X.arraycopy hexec hown (hts _ hlink) (hts _ q916) (hts _ q915) (hts _ q98) (src := a0) (dst := a) (cs := vp_cell cA (n0, .inl f)) (cd := vp_cell cA (n1, .inl g)) (srcPos := sp) (destPos := dp) (n := n) (by rw [hT]; exact hc0) (by rw [hT]; exact hc1)
    (fun _ h => by cases h) (fun _ h => by cases h) (fun h => by cases h) (fun h => by cases h) hk0 hk1 hkk0 hkk1 (by simp [refKind]) h1 h2 h3
    (by rw [nn sp h1, nn n h3]; show ¬ _ > ((arrV cA n0 (fun j => .int (f j))).slots.size : Int); rw [arrV_size]; omega)
    (by rw [nn dp h2, nn n h3]; show ¬ _ > ((arrV cA n1 (fun j => .int (g j))).slots.size : Int); rw [arrV_size]; omega)
    (fun vm₁ _ i hi => by
      have e : (vp_cell cA (n0, .inl f)).slots.getD (sp.toNatClampNeg + i) .null = .int (f (sp.toNatClampNeg + i)) := by
        show (arrV cA n0 (fun j => .int (f j))).slots.getD _ _ = _
        rw [Array.getD_eq_getD_getElem?, arrV_read _ _ (by omega)]
        rfl
      refine ⟨?_, ?_⟩
      · rw [e]
        exact hfit _
      · rw [e]
        exact trivial)
    (g := F0 m pc ls (.int n :: .int dp :: .ref a :: .int sp :: .ref a0 :: rest)) rfl (by rw [hml]) (rest := rest) rfl (by rw [hb]; exact hdg) hframes (by show 2 * 0 + _ + _ ≤ _; omega)
  have e1 : copied (vp_cell cA (n0, .inl f)) (vp_cell cA (n1, .inl g)) sp dp n = vp_cell cA (n1, .inl (va_cpy f g sp.toNatClampNeg dp.toNatClampNeg n.toNatClampNeg)) := va_copied (fun z => .int z) cA cA f g h4
  rw [e1] at X' step
  have hl : a < H.size := (Array.getElem?_eq_some_iff.mp hc1).1
  have hheap : ((T.setVm vm').setCell a (vp_cell cA (n1, .inl (va_cpy f g sp.toNatClampNeg dp.toNatClampNeg n.toNatClampNeg)))).heap = H.setIfInBounds a (vp_cell cA (n1, .inl (va_cpy f g sp.toNatClampNeg dp.toNatClampNeg n.toNatClampNeg))) := by rw [← hT]; rfl
  have oq : ∀ q : Nat, q ≠ a → (H.setIfInBounds a (vp_cell cA (n1, .inl (va_cpy f g sp.toNatClampNeg dp.toNatClampNeg n.toNatClampNeg))))[q]? = H[q]? := fun q hq => by simp [Array.getElem?_setIfInBounds, Ne.symm hq]
  obtain ⟨t, a1, b1⟩ := kk _ _ (show (H.setIfInBounds a _)[a]? = some _ by simp [Array.getElem?_setIfInBounds, hl]) (by simp) oq ⟨by simp; exact hS.1, fun q g1 g2 => by
      rw [oq q (fun e => g2 (by rw [e]; exact hA))]
      exact hS.2.1 q g1 g2, fun q hq => by
      rcases List.mem_append.mp hq with h | h
      · exact hS.2.2 q h
      · obtain ⟨z, -, hz⟩ := List.mem_map.mp h
        rw [← hz]
        exact hA⟩ _ hheap X'
  exact ⟨t, step t a1, b1⟩
end TX
/-- private methods of a superclass that are called on a subclass's object -/
def nwP : List MethodName := [yJ23_ensureCapacityInternal, yJ23_newCapacity, yJ23_putStringAt, yJ23_inflateIfNeededFor]
def PX (U : State) : Prop := ∀ q ∈ nwP, va_Nw (.privateMethod q) U
theorem PX.warm {s U : State} (hW : s.WarmedH U.vm) (h : PX s) : PX U := fun q hq => va_tabs rfl (rfl : (s.setVm U.vm).vm = U.vm) (by rw [Cond.privateMethod_setVm hW.alike]; exact h q hq)
theorem PX.same {u U : State} (e : u.vm = U.vm) (h : PX u) : PX U := fun q hq => (h q hq).same rfl e
def RCt (κ : Kx) (w : Wd) (y : Ly) (X : XR) (U : State) : Prop := RC κ w y X U ∧ PX U
theorem RCt.blind {κ : Kx} {w : Wd} {y : Ly} {X : XR} {av : List Value} : FrameBlind (va_Pc av (RCt κ w y X)) := fun a U g mk q => ⟨q.1, (RC.blind a U g mk ⟨q.1, q.2.1⟩).2, PX.same (u := U) (U := U.calling g mk a) rfl q.2.2⟩
theorem RCt.pre {κ : Kx} {w : Wd} {y : Ly} {X : XR} {L : va_W} {H : Heap} {s : State} {av : List Value} (hR : Rp κ w y X L H) (hK : KK κ s) (hPx : PX s) : ∀ U : State, U.heap = H → s.WarmedH U.vm → va_Pc av (RCt κ w y (xl X L)) av.toArray U := fun U hU hW => ⟨rfl, (RC.pre (av := av) hR hK U hU hW).2, hPx.warm hW⟩
section TP
variable {p : Program} {l : Launch} {e : Env} {R : Room} {s : State} {m : MethodId} {args : Array Value} {below : List Frame} {meth : Method} {c : Code} {H : Heap} {locs : List Loc} {cells slots : Nat} {Q : State → Prop}
variable {cc : ByteArray} {pc nL mc ms n index maxL : Nat} {ls : Array Slot} {rest As st0 : List Value} {κ : Kx} {w : Wd} {y : Ly} {X : XR} {L : va_W} {own C host : String} {Y Z : MethodName} {bytes : ByteArray} {ret : Option FieldType} {rm : Room} {Pc : Array Value → State → Prop} {Qc : Array Value → State → Outcome → State → Prop} {b : Addr} {g : JFrame} {free : Addr → Prop}
/-- an invokevirtual of a private method that a superclass has -/
theorem crp_V (S : CallFix p m c cc nL s args lw_all own) (hPx : PX s) (hM : Met l Y (ws_ Y bytes maxL ret) rm Pc Qc mc ms free) (hbl : FrameBlind Pc) (hpre : ∀ U : State, U.heap = H → s.WarmedH U.vm → Pc (Value.ref b :: As).toArray U)
    (q1 : Cond.methodLink own index Y ∈ lw_all) (q2 : Cond.instanceMethod Y ∈ lw_all) (q3 : Cond.selects C Z Z ∈ lw_all) (hz : Y.cls = Z.cls) (hpr : Y ∈ nwP) (q4 : Cond.initialized Y.cls ∈ lw_all) (q5 : Cond.code Y bytes maxL ret ∈ lw_all) (hrc : rm.cells = mc) (hrs : rm.slots = ms)
    (hd : Y.cls ≠ "java/lang/invoke/MethodHandle" ∧ Y.cls ≠ "java/lang/invoke/VarHandle" ∧ (parseMethodDescriptor Y.desc).map (fun d => d.parameters.length) = some n) (hRm : rm.frames + 1 ≤ R.frames ∧ 8 + (maxL + 11) + rm.locals ≤ R.locals)
    (hrecv : ∃ cell : Cell, H[b]? = some cell ∧ cell.vm.isStatics = false ∧ s.vm.findClass C = some cell.cls)
    (hg : g.method = m) (hn : As.length = n) (hsize : g.locals.size = nL) (hstack : g.stack = As.reverse ++ .ref b :: rest) (hW : 2 * g.monitorRoom + (rest.map fun v => v.category).sum ≤ 8) (hdg : decode cc g.pc = .ok (.invokevirtual index, 3)) (hf : cells + mc ≤ R.cells ∧ slots + ms ≤ R.slots) :
    va_Run p l e R s m args below meth c H locs cells slots mc ms g rest (Qc (Value.ref b :: As).toArray) free := by
  obtain ⟨hx, hb, hml, ho, hts⟩ := S
  have hKb : Back l R p e below s args Y 3 8 (PreOf R mc ms Pc) (PostOf Qc mc ms free) := back_of (bytes := bytes) (maxL := maxL) (ret := ret) hM hbl hrc hrs hRm.1 hRm.2 (pay_in hts (lw_meth q5)) List.mem_cons_self (fun a' U hW => word_at hW (Or.inl (by first | rfl | simp [Cond.onTables, Cond.keeps, Cond.steady])) (hts _ q4))
  obtain ⟨cellB, hcB, hoB, hclB⟩ := hrecv
  obtain ⟨mk, methM, hnamed, hmethM, hstM, habM⟩ := Cond.instanceMethod_spec (hts _ q2)
  obtain ⟨c2, r2, mkZ, z1, z2, hnZ, z4, kP, hkP, hkPi⟩ := Cond.selects_spec (hts _ q3)
  have e1 : mkZ.cls = mk.cls := Option.some.inj ((findClass_of_methodNamed hnZ).symm.trans (by rw [← hz]; exact findClass_of_methodNamed hnamed))
  rw [e1] at hkP
  obtain ⟨methY, cY, k1, -, -, -, -, -, -, ksig⟩ := Cond.code_spec hnamed (hts _ q5)
  cases hmethM.symm.trans k1
  have hlen : As.length = methM.sig.parameters.length := by
    have h2 := hd.2.2
    rw [ksig] at h2
    exact hn.trans (Option.some.inj h2).symm
  intro T hT X9
  obtain ⟨vm₁, X₁, hstep₁⟩ := X9.invokevirtual hx ho (hts _ q1) hnamed hmethM hstM hkP hkPi ⟨hd.1, hd.2.1⟩ (a := b) (cell := cellB) (by rw [hT]; exact hcB)
    (fun z h => by rw [h] at hoB; cases hoB) (selectMethod_private hmethM (Cond.privateMethod_at (va_Nw.use (A := args) rfl (hPx _ hpr)) mk methM hnamed hmethM)) hmethM habM hkP hkPi (g := g) hg (argsL := As) (rest := rest) hlen hstack (by rw [hb]; exact hdg)
  obtain ⟨v, ⟨U', l2, c2, s2⟩, X', ⟨g', mk', t, L9, e1, e2, hq, h1, hL, h2, h3⟩, st⟩ := hKb m meth c ⟨T.setVm vm₁, locs, cells, slots⟩ { g with stack := rest } (.invokevirtual index) mk (Value.ref b :: As).toArray X₁ hg (hsize.trans hml.symm) (by rw [hb]; exact hdg) hW (X₁.named hnamed) ⟨hf.1, hf.2, hpre (T.setVm vm₁) hT X₁.warmed⟩
  dsimp only [Pt.U, Pt.locs, Pt.cells, Pt.slots] at X' e1 e2 h1 h2 h3 st
  subst h1; subst h2; subst h3
  exact ⟨v, (T.setVm vm₁).calling g' mk' (Value.ref b :: As).toArray, t, U', L9, hT, X', hL, e1, e2, hq, fun tgt h => hstep₁ _ (fun acts => by rw [doInvoke_state]; exact st.trans h)⟩
/-- a call of the superclass's own method on this -/
theorem crt_SU {ci : Nat} {r : vw_C} (S : CallFix p m c cc nL s args lw_all own) (hK : KK κ s) (hM : Met l Y (ws_ Y bytes maxL ret) rm Pc Qc mc ms free) (hbl : FrameBlind Pc) (hpre : ∀ U : State, U.heap = H → s.WarmedH U.vm → Pc (Value.ref b :: As).toArray U)
    (q1 : Cond.methodLink own index Y ∈ lw_all) (q2 : Cond.sameMethod Y.cls Y.cls Y.name Y.desc ∈ lw_all) (q3 : Cond.superclass own Y.cls ∈ lw_all) (q4 : Cond.instanceMethod Y ∈ lw_all) (q5 : Cond.initialized Y.cls ∈ lw_all) (q6 : Cond.code Y bytes maxL ret ∈ lw_all) (hrc : rm.cells = mc) (hrs : rm.slots = ms)
    (hd : Y.name ≠ "<init>" ∧ (parseMethodDescriptor Y.desc).map (fun d => d.parameters.length) = some n) (hRm : rm.frames + 1 ≤ R.frames ∧ 8 + (maxL + 11) + rm.locals ≤ R.locals) (hc : Cl[ci]? = some r)
    (hrecv : ∃ cell : Cell, H[b]? = some cell ∧ cell.vm.isStatics = false ∧ s.vm.findClass r.1 = some cell.cls)
    (hg : g.method = m) (hn : As.length = n) (hsize : g.locals.size = nL) (hstack : g.stack = As.reverse ++ .ref b :: rest) (hW : 2 * g.monitorRoom + (rest.map fun v => v.category).sum ≤ 8) (hdg : decode cc g.pc = .ok (.invokespecial index, 3)) (hf : cells + mc ≤ R.cells ∧ slots + ms ≤ R.slots) :
    va_Run p l e R s m args below meth c H locs cells slots mc ms g rest (Qc (Value.ref b :: As).toArray) free :=
  va_runSU (hK.1.1 ci _ hc).2 S hM (va_cwSU n S.2.2.2.2 (fun w9 hw9 => by
    simp only [va_wsSU, List.cons_append, List.nil_append, List.mem_cons] at hw9
    rcases hw9 with rfl | rfl | rfl | rfl | rfl | hw9
    · exact lw_self _ q1
    · exact lw_self _ q2
    · exact lw_self _ q3
    · exact lw_self _ q4
    · exact lw_self _ q5
    · exact lw_meth q6 w9 (List.mem_cons.mpr hw9)) rfl hrc hrs hd hRm) ⟨hbl, hrecv, hpre⟩ hg hn hsize hstack hW hdg hf
end TP
theorem hd_J23_isLatin1 : yJ23_isLatin1.cls = RJ23 ∧ yJ23_isLatin1.cls ≠ "java/lang/invoke/MethodHandle" ∧ yJ23_isLatin1.cls ≠ "java/lang/invoke/VarHandle" ∧ (parseMethodDescriptor yJ23_isLatin1.desc).map (fun d => d.parameters.length) = some 0 := by decide +kernel
abbrev rm_J23_isLatin1 : Room := {}
set_option maxHeartbeats 4000000 in
theorem m_J23_isLatin1 {l : Launch} {κ : Kx} {w : Wd} {y : Ly} {X : XR} {sb a : Nat} {mb cn : Int32} (hX : X sb (sbC a mb cn)) : Met l yJ23_isLatin1 (ws_ yJ23_isLatin1 cJ23_isLatin1 1 (Option.some Jvm.ClassFile.FieldType.boolean)) rm_J23_isLatin1 (va_Pc [.ref sb] (RC κ w y X)) (Qs (.int 1)) 0 0 (nofree) := by
  refine Met.ofW (cc := cJ23_isLatin1) (maxL := 1) (ret := (Option.some Jvm.ClassFile.FieldType.boolean)) (by decide) rfl ?_
  intro p e s m args below meth c s₁ B hml hv
  obtain ⟨rfl, hR, hK⟩ := hv
  have hx := B.exec
  have hb := B.bytes
  have hr := B.returns
  have hts := atoms_spec (ws := ws_ yJ23_isLatin1 cJ23_isLatin1 1 (Option.some Jvm.ClassFile.FieldType.boolean)) B.pre
  have hts : ∀ w ∈ lw_all, w.before _ s = true := fun w h => hts w (List.mem_cons_of_mem _ h)
  have hown : s.vm.findClass RJ23 = some m.cls := findClass_of_methodNamed B.named
  have hlocks := B.notSynchronized
  have hS : va_S (Af κ) s.heap s.heap [] := va_S.rf
  have hl := lv_entry ([.ref sb]) (n := 1) (Nat.le_of_ble_eq_true rfl)
  rw [lg_entry_eq]
  generalize (lg_sl ([.ref sb]) ++ List.replicate (1 - (lg_sl ([.ref sb])).length) Slot.unset).toArray = ls at hl ⊢
  have hl : lv_has ls 1 [(0, .ref sb)] := hl
  refine jr_getsI (C := "java/lang/String") (n := "COMPACT_STRINGS") (d := "Z") (v := 1) hx hb hown hK hR (List.mem_of_getElem? (i := 0) rfl) q1667 hts dJ23_isLatin1_0 ?_
  refine lv_if_eq (tgt := 17) hx hb dJ23_isLatin1_3 (by decide) (fun c9 => absurd c9 (by decide)) (fun _ => ?_)
  refine lv_aload_n hx hb dJ23_isLatin1_6 rfl (lv_at hl 0 rfl) ?_
  refine xa_get (T := TJ24) (N := 4) (v := .int 0) hx hb hts in_J24 hown hK.1 (hR.X hX) rfl 1 (by decide) q1677 rfl rfl dJ23_isLatin1_7 ?_
  refine lv_if_ne (tgt := 17) hx hb dJ23_isLatin1_10 (by decide) (fun c9 => absurd c9 (fun h => h rfl)) (fun _ => ?_)
  refine lv_iconst (v := (1 : Int32)) hx hb dJ23_isLatin1_13 (by decide) ?_
  refine lv_goto (tgt := 18) hx hb dJ23_isLatin1_14 (by decide) ?_
  exact W.zret (v := 1) hx hb hr rfl (fun t ht _ => ⟨rfl, ht⟩) (fun q h => by cases h) dJ23_isLatin1_18
theorem hd_J23_length : yJ23_length.cls = RJ23 ∧ yJ23_length.cls ≠ "java/lang/invoke/MethodHandle" ∧ yJ23_length.cls ≠ "java/lang/invoke/VarHandle" ∧ (parseMethodDescriptor yJ23_length.desc).map (fun d => d.parameters.length) = some 0 := by decide +kernel
abbrev rm_J23_length : Room := {}
set_option maxHeartbeats 4000000 in
theorem m_J23_length {l : Launch} {κ : Kx} {w : Wd} {y : Ly} {X : XR} {sb a : Nat} {mb cn : Int32} (hX : X sb (sbC a mb cn)) : Met l yJ23_length (ws_ yJ23_length cJ23_length 1 (Option.some Jvm.ClassFile.FieldType.int)) rm_J23_length (va_Pc [.ref sb] (RC κ w y X)) (Qs (.int cn)) 0 0 (nofree) := by
  refine Met.ofW (cc := cJ23_length) (maxL := 1) (ret := (Option.some Jvm.ClassFile.FieldType.int)) (by decide) rfl ?_
  intro p e s m args below meth c s₁ B hml hv
  obtain ⟨rfl, hR, hK⟩ := hv
  have hx := B.exec
  have hb := B.bytes
  have hr := B.returns
  have hts := atoms_spec (ws := ws_ yJ23_length cJ23_length 1 (Option.some Jvm.ClassFile.FieldType.int)) B.pre
  have hts : ∀ w ∈ lw_all, w.before _ s = true := fun w h => hts w (List.mem_cons_of_mem _ h)
  have hown : s.vm.findClass RJ23 = some m.cls := findClass_of_methodNamed B.named
  have hlocks := B.notSynchronized
  have hS : va_S (Af κ) s.heap s.heap [] := va_S.rf
  have hl := lv_entry ([.ref sb]) (n := 1) (Nat.le_of_ble_eq_true rfl)
  rw [lg_entry_eq]
  generalize (lg_sl ([.ref sb]) ++ List.replicate (1 - (lg_sl ([.ref sb])).length) Slot.unset).toArray = ls at hl ⊢
  have hl : lv_has ls 1 [(0, .ref sb)] := hl
  refine lv_aload_n hx hb dJ23_length_0 rfl (lv_at hl 0 rfl) ?_
  refine xa_get (T := TJ24) (N := 4) (v := .int cn) hx hb hts in_J24 hown hK.1 (hR.X hX) rfl 3 (by decide) q1679 rfl rfl dJ23_length_1 ?_
  exact W.iret (v := cn) hx hb hr (fun t ht _ => ⟨rfl, ht⟩) (fun q h => by cases h) dJ23_length_4
theorem hd_J23_getValue : yJ23_getValue.cls = RJ23 ∧ yJ23_getValue.cls ≠ "java/lang/invoke/MethodHandle" ∧ yJ23_getValue.cls ≠ "java/lang/invoke/VarHandle" ∧ (parseMethodDescriptor yJ23_getValue.desc).map (fun d => d.parameters.length) = some 0 := by decide +kernel
abbrev rm_J23_getValue : Room := {}
set_option maxHeartbeats 4000000 in
theorem m_J23_getValue {l : Launch} {κ : Kx} {w : Wd} {y : Ly} {X : XR} {sb a : Nat} {mb cn : Int32} (hX : X sb (sbC a mb cn)) : Met l yJ23_getValue (ws_ yJ23_getValue cJ23_getValue 1 (Option.some (Jvm.ClassFile.FieldType.array Jvm.ClassFile.FieldType.byte))) rm_J23_getValue (va_Pc [.ref sb] (RC κ w y X)) (Qs (.ref a)) 0 0 (nofree) := by
  refine Met.ofW (cc := cJ23_getValue) (maxL := 1) (ret := (Option.some (Jvm.ClassFile.FieldType.array Jvm.ClassFile.FieldType.byte))) (by decide) rfl ?_
  intro p e s m args below meth c s₁ B hml hv
  obtain ⟨rfl, hR, hK⟩ := hv
  have hx := B.exec
  have hb := B.bytes
  have hr := B.returns
  have hts := atoms_spec (ws := ws_ yJ23_getValue cJ23_getValue 1 (Option.some (Jvm.ClassFile.FieldType.array Jvm.ClassFile.FieldType.byte))) B.pre
  have hts : ∀ w ∈ lw_all, w.before _ s = true := fun w h => hts w (List.mem_cons_of_mem _ h)
  have hown : s.vm.findClass RJ23 = some m.cls := findClass_of_methodNamed B.named
  have hlocks := B.notSynchronized
  have hS : va_S (Af κ) s.heap s.heap [] := va_S.rf
  have hl := lv_entry ([.ref sb]) (n := 1) (Nat.le_of_ble_eq_true rfl)
  rw [lg_entry_eq]
  generalize (lg_sl ([.ref sb]) ++ List.replicate (1 - (lg_sl ([.ref sb])).length) Slot.unset).toArray = ls at hl ⊢
  have hl : lv_has ls 1 [(0, .ref sb)] := hl
  refine lv_aload_n hx hb dJ23_getValue_0 rfl (lv_at hl 0 rfl) ?_
  refine xa_get (T := TJ24) (N := 4) (v := .ref a) hx hb hts in_J24 hown hK.1 (hR.X hX) rfl 0 (by decide) q1676 rfl rfl dJ23_getValue_1 ?_
  exact W.aret hx hb hr (Or.inr ⟨_, rfl⟩) (Or.inr ⟨_, rfl⟩) (fun t ht _ => ⟨rfl, ht⟩) (fun q h => by cases h) dJ23_getValue_4
theorem hd_J17_coder : yJ17_coder.cls = RJ17 ∧ yJ17_coder.cls ≠ "java/lang/invoke/MethodHandle" ∧ yJ17_coder.cls ≠ "java/lang/invoke/VarHandle" ∧ (parseMethodDescriptor yJ17_coder.desc).map (fun d => d.parameters.length) = some 0 := by decide +kernel
abbrev rm_J17_coder : Room := {}
set_option maxHeartbeats 4000000 in
theorem m_J17_coder {l : Launch} {κ : Kx} {w : Wd} {y : Ly} {X : XR} {q bA : Nat} {hh zz : Int32} (hq : ∀ H, Rp κ w y X [] H → va_at (kD κ) Cl (q, stC bA hh zz) H) : Met l yJ17_coder (ws_ yJ17_coder cJ17_coder 1 (Option.some Jvm.ClassFile.FieldType.byte)) rm_J17_coder (va_Pc [.ref q] (RC κ w y X)) (Qs (.int 0)) 0 0 (nofree) := by
  refine Met.ofW (cc := cJ17_coder) (maxL := 1) (ret := (Option.some Jvm.ClassFile.FieldType.byte)) (by decide) rfl ?_
  intro p e s m args below meth c s₁ B hml hv
  obtain ⟨rfl, hR, hK⟩ := hv
  have hx := B.exec
  have hb := B.bytes
  have hr := B.returns
  have hts := atoms_spec (ws := ws_ yJ17_coder cJ17_coder 1 (Option.some Jvm.ClassFile.FieldType.byte)) B.pre
  have hts : ∀ w ∈ lw_all, w.before _ s = true := fun w h => hts w (List.mem_cons_of_mem _ h)
  have hown : s.vm.findClass RJ17 = some m.cls := findClass_of_methodNamed B.named
  have hlocks := B.notSynchronized
  have hS : va_S (Af κ) s.heap s.heap [] := va_S.rf
  have hl := lv_entry ([.ref q]) (n := 1) (Nat.le_of_ble_eq_true rfl)
  rw [lg_entry_eq]
  generalize (lg_sl ([.ref q]) ++ List.replicate (1 - (lg_sl ([.ref q])).length) Slot.unset).toArray = ls at hl ⊢
  have hl : lv_has ls 1 [(0, .ref q)] := hl
  refine jr_getsI (C := "java/lang/String") (n := "COMPACT_STRINGS") (d := "Z") (v := 1) hx hb hown hK hR (List.mem_of_getElem? (i := 0) rfl) q1783 hts dJ17_coder_0 ?_
  refine lv_if_eq (tgt := 13) hx hb dJ17_coder_3 (by decide) (fun c9 => absurd c9 (by decide)) (fun _ => ?_)
  refine lv_aload_n hx hb dJ17_coder_6 rfl (lv_at hl 0 rfl) ?_
  refine xa_get (T := TJ17) (N := 4) (v := .int 0) hx hb hts in_J17 hown hK.1 (hq _ hR) rfl 1 (by decide) q1879 rfl rfl dJ17_coder_7 ?_
  refine lv_goto (tgt := 14) hx hb dJ17_coder_10 (by decide) ?_
  exact W.zret (v := 0) hx hb hr rfl (fun t ht _ => ⟨rfl, ht⟩) (fun q h => by cases h) dJ17_coder_14
theorem rv_at2 {κ : Kx} {H : Heap} {s : State} (hK : KK κ s) {q ci : Nat} {fs : List Value} {r : vw_C} (h : va_at (kD κ) Cl (q, .inr (ci, fs)) H) (hc : Cl[ci]? = some r) : ∃ cell : Cell, H[q]? = some cell ∧ cell.vm.isStatics = false ∧ s.vm.findClass r.1 = some cell.cls := by
  obtain ⟨r', h1, cell, q1, q2, q3, q4⟩ := h
  cases h1.symm.trans hc
  exact ⟨cell, q1, by rw [q3]; rfl, by rw [q2]; exact (hK.1.1 ci _ hc).2.1⟩
theorem hd_J17_length : yJ17_length.cls = RJ17 ∧ yJ17_length.cls ≠ "java/lang/invoke/MethodHandle" ∧ yJ17_length.cls ≠ "java/lang/invoke/VarHandle" ∧ (parseMethodDescriptor yJ17_length.desc).map (fun d => d.parameters.length) = some 0 := by decide +kernel
abbrev rm_J17_length : Room := { frames := 1, locals := 20 }
set_option maxHeartbeats 4000000 in
theorem m_J17_length {l : Launch} {κ : Kx} {w : Wd} {y : Ly} {X : XR} {q bA : Nat} {hh zz : Int32} (hq : ∀ H, Rp κ w y X [] H → va_at (kD κ) Cl (q, stC bA hh zz) H) {n : Nat} {f : Nat → Int32} (hbA : ∀ H, Rp κ w y X [] H → va_at (kD κ) Cl (bA, byC κ n f) H) : Met l yJ17_length (ws_ yJ17_length cJ17_length 1 (Option.some Jvm.ClassFile.FieldType.int)) rm_J17_length (va_Pc [.ref q] (RC κ w y X)) (Qs (.int (nI n))) 0 0 (nofree) := by
  refine Met.ofW (cc := cJ17_length) (maxL := 1) (ret := (Option.some Jvm.ClassFile.FieldType.int)) (by decide) rfl ?_
  intro p e s m args below meth c s₁ B hml hv
  obtain ⟨rfl, hR, hK⟩ := hv
  have hx := B.exec
  have hb := B.bytes
  have hr := B.returns
  have hts := atoms_spec (ws := ws_ yJ17_length cJ17_length 1 (Option.some Jvm.ClassFile.FieldType.int)) B.pre
  have hts : ∀ w ∈ lw_all, w.before _ s = true := fun w h => hts w (List.mem_cons_of_mem _ h)
  have hown : s.vm.findClass RJ17 = some m.cls := findClass_of_methodNamed B.named
  have hlocks := B.notSynchronized
  have hS : va_S (Af κ) s.heap s.heap [] := va_S.rf
  have hl := lv_entry ([.ref q]) (n := 1) (Nat.le_of_ble_eq_true rfl)
  rw [lg_entry_eq]
  generalize (lg_sl ([.ref q]) ++ List.replicate (1 - (lg_sl ([.ref q])).length) Slot.unset).toArray = ls at hl ⊢
  have hl : lv_has ls 1 [(0, .ref q)] := hl
  refine lv_aload_n hx hb dJ17_length_0 rfl (lv_at hl 0 rfl) ?_
  refine xa_get (T := TJ17) (N := 4) (v := .ref bA) hx hb hts in_J17 hown hK.1 (hq _ hR) rfl 0 (by decide) q1878 rfl rfl dJ17_length_1 ?_
  refine xa_alen hx hb hK.1 (hbA _ hR) 3 rfl dJ17_length_4 ?_
  refine lv_aload_n hx hb dJ17_length_5 rfl (lv_at hl 0 rfl) ?_
  refine ce_s (cr_V (n := 0) (As := []) (rest := [.int (nI n)]) ⟨hx, hb, hml, hown, hts⟩ hK hR (m_J17_coder (X := xl X []) (fun H h => hq H h.xl0)) q1779 q1780 q1781 q104 q1782 rfl rfl hd_J17_coder ⟨Nat.le_of_ble_eq_true rfl, Nat.le_of_ble_eq_true rfl⟩ (rv_at2 hK (hq _ hR) rfl) rfl rfl hl.1 rfl (lv_room (Nat.le_of_ble_eq_true rfl)) dJ17_length_6 ⟨Nat.le_of_ble_eq_true rfl, Nat.le_of_ble_eq_true rfl⟩) ?_
  refine lv_ishr hx hb dJ17_length_9 ?_
  have e0 : nI n >>> ((0 : Int32) &&& 31) = nI n := sb_shr0 _
  rw [e0]
  exact W.iret (v := nI n) hx hb hr (fun t ht _ => ⟨rfl, ht⟩) (fun q h => by cases h) dJ17_length_10
theorem hds_J10_newLength : yJ10_newLength.cls ≠ "java/lang/invoke/MethodHandle" ∧ yJ10_newLength.cls ≠ "java/lang/invoke/VarHandle" ∧ (parseMethodDescriptor yJ10_newLength.desc).map (fun d => d.parameters.length) = some 3 := by decide +kernel
abbrev rm_J10_newLength : Room := { frames := 1, locals := 40 }
set_option maxHeartbeats 4000000 in
theorem m_J10_newLength {l : Launch} {κ : Kx} {w : Wd} {y : Ly} {X : XR} {a b b2 : Nat} (h : a + max b b2 < 1000) (hp : 0 < a + max b b2) : Met l yJ10_newLength (ws_ yJ10_newLength cJ10_newLength 4 (Option.some Jvm.ClassFile.FieldType.int)) rm_J10_newLength (va_Pc [.int (nI a), .int (nI b), .int (nI b2)] (RC κ w y X)) (Qs (.int (nI (a + max b b2)))) 0 0 (nofree) := by
  refine Met.ofW (cc := cJ10_newLength) (maxL := 4) (ret := (Option.some Jvm.ClassFile.FieldType.int)) (by decide) rfl ?_
  intro p e s m args below meth c s₁ B hml hv
  obtain ⟨rfl, hR, hK⟩ := hv
  have hx := B.exec
  have hb := B.bytes
  have hr := B.returns
  have hts := atoms_spec (ws := ws_ yJ10_newLength cJ10_newLength 4 (Option.some Jvm.ClassFile.FieldType.int)) B.pre
  have hts : ∀ w ∈ lw_all, w.before _ s = true := fun w h => hts w (List.mem_cons_of_mem _ h)
  have hown : s.vm.findClass RJ10 = some m.cls := findClass_of_methodNamed B.named
  have hlocks := B.notSynchronized
  have hS : va_S (Af κ) s.heap s.heap [] := va_S.rf
  have hl := lv_entry ([.int (nI a), .int (nI b), .int (nI b2)]) (n := 4) (Nat.le_of_ble_eq_true rfl)
  rw [lg_entry_eq]
  generalize (lg_sl ([.int (nI a), .int (nI b), .int (nI b2)]) ++ List.replicate (4 - (lg_sl ([.int (nI a), .int (nI b), .int (nI b2)])).length) Slot.unset).toArray = ls at hl ⊢
  have hl : lv_has ls 4 [(0, .int (nI a)), (1, .int (nI b)), (2, .int (nI b2))] := hl
  refine lv_iload_n hx hb dJ10_newLength_0 rfl (lv_at hl 0 rfl) ?_
  refine lv_iload_n hx hb dJ10_newLength_1 rfl (lv_at hl 1 rfl) ?_
  refine lv_iload_n hx hb dJ10_newLength_2 rfl (lv_at hl 2 rfl) ?_
  refine va_mmax hx hb (hml.trans hl.1.symm) hown (hts _ q864) (hts _ q642) (hts _ q95) (hts _ q643) (Nat.le_of_ble_eq_true rfl) (Nat.le_of_ble_eq_true rfl) (Nat.le_of_ble_eq_true rfl) (Nat.le_of_ble_eq_true rfl) dJ10_newLength_3 ?_
  have e0 : jmax (nI b) (nI b2) = nI (max b b2) := by
    unfold jmax
    by_cases h9 : b < b2
    · rw [if_pos (nI_lt h9 (by omega))]
      congr 1
      omega
    · rw [if_neg (nI_nlt (by omega) (by omega))]
      congr 1
      omega
  have e1 : nI a + jmax (nI b) (nI b2) = nI (a + max b b2) := by rw [e0, nI_add]
  refine lv_iadd hx hb dJ10_newLength_6 ?_
  refine W.eq (g2 := F0 m 7 ls [.int (nI (a + max b b2))]) (congrArg (fun z9 => F0 m 7 ls [.int z9]) e1) ?_
  refine lv_istore_n (lv' := [(3, .int (nI (a + max b b2))), (0, .int (nI a)), (1, .int (nI b)), (2, .int (nI b2))]) hx hb dJ10_newLength_7 rfl hl (by decide) rfl (fun ls hl => ?_)
  refine lv_iconst (v := (0 : Int32)) hx hb dJ10_newLength_8 (by decide) ?_
  refine lv_iload_n hx hb dJ10_newLength_9 rfl (lv_at hl 0 rfl) ?_
  have h0 : ¬ nI (a + max b b2) ≤ 0 := nI_nle (by omega) (by omega)
  refine lv_icmp_ge (tgt := 21) hx hb dJ10_newLength_10 (by decide) (fun c9 => absurd c9 ?_) (fun _ => ?_)
  · exact h0
  refine lv_iload_n hx hb dJ10_newLength_13 rfl (lv_at hl 0 rfl) ?_
  refine lv_ldc (v := (2147483639 : Int32)) hx hb hown (hts _ q865) dJ10_newLength_14 ?_
  refine lv_icmp_gt (tgt := 21) hx hb dJ10_newLength_16 (by decide) (fun c9 => absurd c9 (show ¬ nI 2147483639 < nI (a + max b b2) from nI_nlt (by omega) (by decide))) (fun _ => ?_)
  refine lv_iload_n hx hb dJ10_newLength_19 rfl (lv_at hl 0 rfl) ?_
  exact W.iret (v := nI (a + max b b2)) hx hb hr (fun t ht _ => ⟨rfl, ht⟩) (fun q h => by cases h) dJ10_newLength_20
theorem hd_J23_newCapacity : yJ23_newCapacity.cls = RJ23 ∧ yJ23_newCapacity.cls ≠ "java/lang/invoke/MethodHandle" ∧ yJ23_newCapacity.cls ≠ "java/lang/invoke/VarHandle" ∧ (parseMethodDescriptor yJ23_newCapacity.desc).map (fun d => d.parameters.length) = some 1 := by decide +kernel
abbrev rm_J23_newCapacity : Room := { frames := 2, locals := 80 }
set_option maxHeartbeats 4000000 in
theorem m_J23_newCapacity {l : Launch} {κ : Kx} {w : Wd} {y : Ly} {X : XR} {sb a m9 q : Nat} {mb cn : Int32} {f : Nat → Int32} (hX : X sb (sbC a mb cn)) (hA : X a (byC κ m9 f)) (hm : m9 ≤ 140) (hq : q ≤ 70) (hqm : m9 < q) : Met l yJ23_newCapacity (ws_ yJ23_newCapacity cJ23_newCapacity 6 (Option.some Jvm.ClassFile.FieldType.int)) rm_J23_newCapacity (va_Pc [.ref sb, .int (nI q)] (RC κ w y X)) (Qs (.int (nI (sb_cap q m9)))) 0 0 (nofree) := by
  refine Met.ofW (cc := cJ23_newCapacity) (maxL := 6) (ret := (Option.some Jvm.ClassFile.FieldType.int)) (by decide) rfl ?_
  intro p e s m args below meth c s₁ B hml hv
  obtain ⟨rfl, hR, hK⟩ := hv
  have hx := B.exec
  have hb := B.bytes
  have hr := B.returns
  have hts := atoms_spec (ws := ws_ yJ23_newCapacity cJ23_newCapacity 6 (Option.some Jvm.ClassFile.FieldType.int)) B.pre
  have hts : ∀ w ∈ lw_all, w.before _ s = true := fun w h => hts w (List.mem_cons_of_mem _ h)
  have hown : s.vm.findClass RJ23 = some m.cls := findClass_of_methodNamed B.named
  have hlocks := B.notSynchronized
  have hS : va_S (Af κ) s.heap s.heap [] := va_S.rf
  have hl := lv_entry ([.ref sb, .int (nI q)]) (n := 6) (Nat.le_of_ble_eq_true rfl)
  rw [lg_entry_eq]
  generalize (lg_sl ([.ref sb, .int (nI q)]) ++ List.replicate (6 - (lg_sl ([.ref sb, .int (nI q)])).length) Slot.unset).toArray = ls at hl ⊢
  have hl : lv_has ls 6 [(0, .ref sb), (1, .int (nI q))] := hl
  have ec : m9 + max (q - m9) (m9 + 2) = sb_cap q m9 := by
    unfold sb_cap
    rw [if_neg (by omega)]
    split <;> omega
  refine lv_aload_n hx hb dJ23_newCapacity_0 rfl (lv_at hl 0 rfl) ?_
  refine xa_get (T := TJ24) (N := 4) (v := .ref a) hx hb hts in_J24 hown hK.1 (hR.X hX) rfl 0 (by decide) q1676 rfl rfl dJ23_newCapacity_1 ?_
  refine xa_alen hx hb hK.1 (hR.X hA) 3 rfl dJ23_newCapacity_4 ?_
  refine lv_istore_n (lv' := [(2, .int (nI m9)), (0, .ref sb), (1, .int (nI q))]) hx hb dJ23_newCapacity_5 rfl hl (by decide) rfl (fun ls hl => ?_)
  refine lv_iload_n hx hb dJ23_newCapacity_6 rfl (lv_at hl 2 rfl) ?_
  refine lv_aload_n hx hb dJ23_newCapacity_7 rfl (lv_at hl 1 rfl) ?_
  refine xa_get (T := TJ24) (N := 4) (v := .int 0) hx hb hts in_J24 hown hK.1 (hR.X hX) rfl 1 (by decide) q1677 rfl rfl dJ23_newCapacity_8 ?_
  refine lv_ishl hx hb dJ23_newCapacity_11 ?_
  have e0 : nI q <<< ((0 : Int32) &&& 31) = nI q := sb_shl0 _
  rw [e0]
  refine lv_istore_n (lv' := [(3, .int (nI q)), (2, .int (nI m9)), (0, .ref sb), (1, .int (nI q))]) hx hb dJ23_newCapacity_12 rfl hl (by decide) rfl (fun ls hl => ?_)
  refine lv_iload_n hx hb dJ23_newCapacity_13 rfl (lv_at hl 0 rfl) ?_
  refine lv_iload_n hx hb dJ23_newCapacity_14 rfl (lv_at hl 1 rfl) ?_
  refine lv_isub hx hb dJ23_newCapacity_15 ?_
  rw [pk_sub (show m9 ≤ q by omega)]
  refine lv_istore (lv' := [(4, .int (nI (q - m9))), (3, .int (nI q)), (2, .int (nI m9)), (0, .ref sb), (1, .int (nI q))]) hx hb dJ23_newCapacity_16 hl (by decide) rfl (fun ls hl => ?_)
  refine lv_iload_n hx hb dJ23_newCapacity_18 rfl (lv_at hl 2 rfl) ?_
  refine lv_iload hx hb dJ23_newCapacity_19 (lv_at hl 0 rfl) ?_
  refine lv_iload_n hx hb dJ23_newCapacity_21 rfl (lv_at hl 2 rfl) ?_
  refine lv_iconst (v := (2 : Int32)) hx hb dJ23_newCapacity_22 (by decide) ?_
  refine lv_aload_n hx hb dJ23_newCapacity_23 rfl (lv_at hl 3 rfl) ?_
  refine xa_get (T := TJ24) (N := 4) (v := .int 0) hx hb hts in_J24 hown hK.1 (hR.X hX) rfl 1 (by decide) q1677 rfl rfl dJ23_newCapacity_24 ?_
  refine lv_ishl hx hb dJ23_newCapacity_27 ?_
  have e1 : (2 : Int32) <<< ((0 : Int32) &&& 31) = nI 2 := sb_shl0 _
  rw [e1]
  refine lv_iadd hx hb dJ23_newCapacity_28 ?_
  rw [nI_add]
  refine ce_s (cr_S (n := 3) (As := [.int (nI m9), .int (nI (q - m9)), .int (nI (m9 + 2))]) (rest := []) ⟨hx, hb, hml, hown, hts⟩ hK hR (m_J10_newLength (X := xl X []) (a := m9) (b := q - m9) (b2 := m9 + 2) (by omega) (by omega)) q1707 q862 q94 q863 rfl rfl hds_J10_newLength ⟨Nat.le_of_ble_eq_true rfl, Nat.le_of_ble_eq_true rfl⟩ rfl rfl hl.1 rfl (lv_room (Nat.le_of_ble_eq_true rfl)) dJ23_newCapacity_29 ⟨Nat.le_of_ble_eq_true rfl, Nat.le_of_ble_eq_true rfl⟩) ?_
  rw [ec]
  refine lv_istore (lv' := [(5, .int (nI (sb_cap q m9))), (4, .int (nI (q - m9))), (3, .int (nI q)), (2, .int (nI m9)), (0, .ref sb), (1, .int (nI q))]) hx hb dJ23_newCapacity_32 hl (by decide) rfl (fun ls hl => ?_)
  refine lv_iload hx hb dJ23_newCapacity_34 (lv_at hl 0 rfl) ?_
  refine lv_ldc (v := (2147483647 : Int32)) hx hb hown (hts _ q1708) dJ23_newCapacity_36 ?_
  refine lv_icmp_ne (tgt := 51) hx hb dJ23_newCapacity_38 (by decide) (fun _ => ?_) (fun c9 => absurd c9 (fun h9 => by have := (nI_eq (a := sb_cap q m9) (b := 2147483647) (by omega) (by decide)).mp h9; omega))
  refine lv_iload hx hb dJ23_newCapacity_51 (lv_at hl 0 rfl) ?_
  refine lv_aload_n hx hb dJ23_newCapacity_53 rfl (lv_at hl 4 rfl) ?_
  refine xa_get (T := TJ24) (N := 4) (v := .int 0) hx hb hts in_J24 hown hK.1 (hR.X hX) rfl 1 (by decide) q1677 rfl rfl dJ23_newCapacity_54 ?_
  refine lv_ishr hx hb dJ23_newCapacity_57 ?_
  have e2 : nI (sb_cap q m9) >>> ((0 : Int32) &&& 31) = nI (sb_cap q m9) := sb_shr0 _
  rw [e2]
  exact W.iret (v := nI (sb_cap q m9)) hx hb hr (fun t ht _ => ⟨rfl, ht⟩) (fun q h => by cases h) dJ23_newCapacity_58
theorem hds_J12_copyOf_3 : yJ12_copyOf_3.cls ≠ "java/lang/invoke/MethodHandle" ∧ yJ12_copyOf_3.cls ≠ "java/lang/invoke/VarHandle" ∧ (parseMethodDescriptor yJ12_copyOf_3.desc).map (fun d => d.parameters.length) = some 2 := by decide +kernel
abbrev rm_J12_copyOf_3 : Room := { frames := 1, cells := 1, slots := 140, locals := 60 }
set_option maxHeartbeats 4000000 in
theorem m_J12_copyOf_3 {l : Launch} {κ : Kx} {w : Wd} {y : Ly} {X : XR} {a m9 q : Nat} {f : Nat → Int32} (hA : X a (byC κ m9 f)) (hm : m9 < q) (hq : q ≤ 140) (hf : sb_Fit f) : Met l yJ12_copyOf_3 (ws_ yJ12_copyOf_3 cJ12_copyOf_3 3 (Option.some (Jvm.ClassFile.FieldType.array Jvm.ClassFile.FieldType.byte))) rm_J12_copyOf_3 (va_Pc [.ref a, .int (nI q)] (RC κ w y X)) (va_Qr (fun _ : Unit => True) (fun _ ra t => Rp κ w y X [(ra, byC κ q (va_cpy f (fun _ => 0) 0 0 m9))] t.heap) (Af κ)) 1 140 (Af κ) := by
  refine Met.ofW (cc := cJ12_copyOf_3) (maxL := 3) (ret := (Option.some (Jvm.ClassFile.FieldType.array Jvm.ClassFile.FieldType.byte))) (by decide) rfl ?_
  intro p e s m args below meth c s₁ B hml hv
  obtain ⟨rfl, hR, hK⟩ := hv
  have hx := B.exec
  have hb := B.bytes
  have hr := B.returns
  have hts := atoms_spec (ws := ws_ yJ12_copyOf_3 cJ12_copyOf_3 3 (Option.some (Jvm.ClassFile.FieldType.array Jvm.ClassFile.FieldType.byte))) B.pre
  have hts : ∀ w ∈ lw_all, w.before _ s = true := fun w h => hts w (List.mem_cons_of_mem _ h)
  have hown : s.vm.findClass RJ12 = some m.cls := findClass_of_methodNamed B.named
  have hlocks := B.notSynchronized
  have hS : va_S (Af κ) s.heap s.heap [] := va_S.rf
  have hl := lv_entry ([.ref a, .int (nI q)]) (n := 3) (Nat.le_of_ble_eq_true rfl)
  rw [lg_entry_eq]
  generalize (lg_sl ([.ref a, .int (nI q)]) ++ List.replicate (3 - (lg_sl ([.ref a, .int (nI q)])).length) Slot.unset).toArray = ls at hl ⊢
  have hl : lv_has ls 3 [(0, .ref a), (1, .int (nI q))] := hl
  refine lv_iload_n hx hb dJ12_copyOf_3_0 rfl (lv_at hl 1 rfl) ?_
  refine lv_aload_n hx hb dJ12_copyOf_3_1 rfl (lv_at hl 0 rfl) ?_
  refine xa_alen hx hb hK.1 (hR.X hA) 3 rfl dJ12_copyOf_3_2 ?_
  refine lv_icmp_ne (tgt := 14) hx hb dJ12_copyOf_3_3 (by decide) (fun _ => ?_) (fun c9 => absurd c9 (fun h9 => by have := (nI_eq (a := q) (b := m9) (by omega) (by omega)).mp h9; omega))
  refine lv_iload_n hx hb dJ12_copyOf_3_14 rfl (lv_at hl 1 rfl) ?_
  refine xa_newa (ty := .byte) (N' := q) (a0 := (q, .inl (fun _ => 0))) hx hb hts q448 rfl hK.1 3 rfl (by intro C h9; cases h9) hS rfl (nI_pos (by omega)) (nI_clamp (by omega)) (by show q * 1 ≤ 536870912; omega) (Nat.le_of_ble_eq_true rfl) (Nat.le_trans (show 0 + q ≤ 140 by omega) (Nat.le_of_ble_eq_true rfl)) dJ12_copyOf_3_15 (fun q9 H1 hq9 h1 hz ho hS => ?_)
  have hR := hR.newL hq9 h1 (by omega) ho
  clear hq9 h1 hz ho
  generalize H1 = H at hR hS ⊢
  have hR : Rp κ w y X [(q9, byC κ q (fun _ => 0))] H := hR
  refine lv_astore_n (lv' := [(2, .ref q9), (0, .ref a), (1, .int (nI q))]) hx hb dJ12_copyOf_3_17 rfl hl (by decide) rfl (fun ls hl => ?_)
  refine lv_aload_n hx hb dJ12_copyOf_3_18 rfl (lv_at hl 1 rfl) ?_
  refine lv_iconst (v := (0 : Int32)) hx hb dJ12_copyOf_3_19 (by decide) ?_
  refine lv_aload_n hx hb dJ12_copyOf_3_20 rfl (lv_at hl 0 rfl) ?_
  refine lv_iconst (v := (0 : Int32)) hx hb dJ12_copyOf_3_21 (by decide) ?_
  refine lv_aload_n hx hb dJ12_copyOf_3_22 rfl (lv_at hl 1 rfl) ?_
  refine xa_alen hx hb hK.1 (hR.X hA) 3 rfl dJ12_copyOf_3_23 ?_
  refine lv_iload_n hx hb dJ12_copyOf_3_24 rfl (lv_at hl 2 rfl) ?_
  refine va_mmin hx hb (hml.trans hl.1.symm) hown (hts _ q913) (hts _ q322) (hts _ q95) (hts _ q323) (Nat.le_of_ble_eq_true rfl) (Nat.le_of_ble_eq_true rfl) (Nat.le_of_ble_eq_true rfl) (Nat.le_trans (show 0 + q + 0 ≤ 140 by omega) (Nat.le_of_ble_eq_true rfl)) dJ12_copyOf_3_25 ?_
  have e0 : jmin (nI m9) (nI q) = nI m9 := if_neg (nI_nlt (by omega) (by omega))
  refine W.eq (g2 := F0 m 28 ls [.int (nI m9), .int 0, .ref q9, .int 0, .ref a]) (congrArg (fun z9 => F0 m 28 ls [.int z9, .int 0, .ref q9, .int 0, .ref a]) e0) ?_
  have ez : (0 : Int32).toNatClampNeg = 0 := sb_cl0
  have em : (nI m9).toNatClampNeg = m9 := nI_clamp (by omega)
  refine xa_copyb (f := f) (g := fun _ => 0) (rest := []) hx hb (hml.trans hl.1.symm) hown q914 hts hK.1 hS (hR.LD.2 0 _ rfl) 3 (hR.X hA) (hR.L 0 _ rfl) rfl (by decide) (by decide) (nI_pos (by omega)) (by rw [ez, em]; omega) (by rw [ez, em]; omega) hf (Nat.le_of_ble_eq_true rfl) (Nat.le_of_ble_eq_true rfl) dJ12_copyOf_3_28 (fun H1 locs h1 hz ho hS => ?_)
  rw [ez, em] at h1
  have hR := hR.putL (t := 0) rfl h1 hz ho
  clear h1 hz ho
  generalize H1 = H at hR hS ⊢
  have hR : Rp κ w y X [(q9, byC κ q (va_cpy f (fun _ => 0) 0 0 m9))] H := hR
  refine lv_aload_n hx hb dJ12_copyOf_3_31 rfl (lv_at hl 0 rfl) ?_
  refine W.widen (k := 1) (n := 140) (Nat.le_refl _) (by omega) ?_
  exact W.aret hx hb hr (Or.inr ⟨_, rfl⟩) (Or.inr ⟨_, rfl⟩) (fun t ht hW9 => ⟨⟨(), _, rfl, trivial, rpt ht hR⟩, hS.F ht⟩) hS.2.2 dJ12_copyOf_3_32
theorem Rp.hasX {κ : Kx} {w : Wd} {y : Ly} {X : XR} {L : va_W} {H : Heap} (h : Rp κ w y X L H) {a b : Nat} {e1 e2 : va_E} (h1 : X a e1) (h2 : X b e2) (hne : b ≠ a) : Rp κ w y (upX (upX X a e1) b e2) L H := (h.toUp h1).toUp (Or.inr ⟨hne, h2⟩)
theorem hd_J23_ensureCapacityInternal : yJ23_ensureCapacityInternal.cls = RJ23 ∧ yJ23_ensureCapacityInternal.cls ≠ "java/lang/invoke/MethodHandle" ∧ yJ23_ensureCapacityInternal.cls ≠ "java/lang/invoke/VarHandle" ∧ (parseMethodDescriptor yJ23_ensureCapacityInternal.desc).map (fun d => d.parameters.length) = some 1 := by decide +kernel
abbrev rm_J23_ensureCapacityInternal : Room := { frames := 3, cells := 1, slots := 140, locals := 140 }
set_option maxHeartbeats 4000000 in
theorem m_J23_ensureCapacityInternal {l : Launch} {κ : Kx} {w : Wd} {y : Ly} {X : XR} {sb a m9 n : Nat} {mb : Int32} {f : Nat → Int32} (hX : X sb (sbC a mb (nI n))) (hA : X a (byC κ m9 f)) (hne : a ≠ sb) (hm : m9 ≤ 140) (hf : sb_Fit f) {q : Nat} (hq : q ≤ 70) : Met l yJ23_ensureCapacityInternal (ws_ yJ23_ensureCapacityInternal cJ23_ensureCapacityInternal 3 (Option.none : Option Jvm.ClassFile.FieldType)) rm_J23_ensureCapacityInternal (va_Pc [.ref sb, .int (nI q)] (RCt κ w y X)) (va_Qv (fun u : Nat × Nat × (Nat → Int32) => q ≤ u.2.1 ∧ u.2.1 ≤ 140 ∧ u.1 ≠ sb ∧ sb_Fit u.2.2 ∧ (∀ j, j < m9 → u.2.2 j = f j) ∧ m9 ≤ u.2.1 ∧ ∀ p e, p ≠ a → X p e → p ≠ u.1) (fun u t => Rp κ w y (upX (upX X sb (sbC u.1 mb (nI n))) u.1 (byC κ u.2.1 u.2.2)) [] t.heap) (Af κ)) 1 140 (Af κ) := by
  refine Met.ofW (cc := cJ23_ensureCapacityInternal) (maxL := 3) (ret := (Option.none : Option Jvm.ClassFile.FieldType)) (by decide) rfl ?_
  intro p e s m args below meth c s₁ B hml hv
  obtain ⟨rfl, ⟨hR, hK⟩, hPx⟩ := hv
  have hx := B.exec
  have hb := B.bytes
  have hr := B.returns
  have hts := atoms_spec (ws := ws_ yJ23_ensureCapacityInternal cJ23_ensureCapacityInternal 3 (Option.none : Option Jvm.ClassFile.FieldType)) B.pre
  have hts : ∀ w ∈ lw_all, w.before _ s = true := fun w h => hts w (List.mem_cons_of_mem _ h)
  have hown : s.vm.findClass RJ23 = some m.cls := findClass_of_methodNamed B.named
  have hlocks := B.notSynchronized
  have hS : va_S (Af κ) s.heap s.heap [] := va_S.rf
  have hl := lv_entry ([.ref sb, .int (nI q)]) (n := 3) (Nat.le_of_ble_eq_true rfl)
  rw [lg_entry_eq]
  generalize (lg_sl ([.ref sb, .int (nI q)]) ++ List.replicate (3 - (lg_sl ([.ref sb, .int (nI q)])).length) Slot.unset).toArray = ls at hl ⊢
  have hl : lv_has ls 3 [(0, .ref sb), (1, .int (nI q))] := hl
  refine lv_aload_n hx hb dJ23_ensureCapacityInternal_0 rfl (lv_at hl 0 rfl) ?_
  refine xa_get (T := TJ24) (N := 4) (v := .ref a) hx hb hts in_J24 hown hK.1 (hR.X hX) rfl 0 (by decide) q1676 rfl rfl dJ23_ensureCapacityInternal_1 ?_
  refine xa_alen hx hb hK.1 (hR.X hA) 3 rfl dJ23_ensureCapacityInternal_4 ?_
  refine lv_aload_n hx hb dJ23_ensureCapacityInternal_5 rfl (lv_at hl 0 rfl) ?_
  refine xa_get (T := TJ24) (N := 4) (v := .int 0) hx hb hts in_J24 hown hK.1 (hR.X hX) rfl 1 (by decide) q1677 rfl rfl dJ23_ensureCapacityInternal_6 ?_
  refine lv_ishr hx hb dJ23_ensureCapacityInternal_9 ?_
  have e0 : nI m9 >>> ((0 : Int32) &&& 31) = nI m9 := sb_shr0 _
  refine W.eq (g2 := F0 m 10 ls [.int (nI m9)]) (congrArg (fun z9 => F0 m 10 ls [.int z9]) e0) ?_
  refine lv_istore_n (lv' := [(2, .int (nI m9)), (0, .ref sb), (1, .int (nI q))]) hx hb dJ23_ensureCapacityInternal_10 rfl hl (by decide) rfl (fun ls hl => ?_)
  refine lv_iload_n hx hb dJ23_ensureCapacityInternal_11 rfl (lv_at hl 2 rfl) ?_
  refine lv_iload_n hx hb dJ23_ensureCapacityInternal_12 rfl (lv_at hl 0 rfl) ?_
  refine lv_isub hx hb dJ23_ensureCapacityInternal_13 ?_
  have e1 : (nI q - nI m9).toInt = (q : Int) - m9 := pk_sub_toInt (by omega) (by omega)
  refine lv_if_le (tgt := 38) hx hb dJ23_ensureCapacityInternal_14 (by decide) (fun c9 => ?_) (fun c9 => ?_)
  · have hqm : q ≤ m9 := by
      rw [Int32.le_iff_toInt_le, e1, Int32.toInt_zero] at c9
      omega
    have hR := hR.hasX hX hA hne
    refine W.widen (k := 1) (n := 140) (by omega) (by omega) ?_
    exact W.vret hx hb hr (fun t ht hW9 => ⟨⟨(a, m9, f), rfl, ⟨hqm, hm, hne, hf, fun _ _ => rfl, Nat.le_refl _, fun _ _ h _ => h⟩, rpt ht hR⟩, hS.F ht⟩) hS.2.2 dJ23_ensureCapacityInternal_38
  · have hqm : m9 < q := by
      rw [Int32.le_iff_toInt_le, e1, Int32.toInt_zero] at c9
      omega
    have hc : m9 < sb_cap q m9 := by
      unfold sb_cap
      rw [if_neg (by omega)]
      split <;> omega
    have hc2 : sb_cap q m9 ≤ 140 := by
      unfold sb_cap
      rw [if_neg (by omega)]
      split <;> omega
    refine lv_aload_n hx hb dJ23_ensureCapacityInternal_17 rfl (lv_at hl 1 rfl) ?_
    refine lv_aload_n hx hb dJ23_ensureCapacityInternal_18 rfl (lv_at hl 1 rfl) ?_
    refine xa_get (T := TJ24) (N := 4) (v := .ref a) hx hb hts in_J24 hown hK.1 (hR.X hX) rfl 0 (by decide) q1676 rfl rfl dJ23_ensureCapacityInternal_19 ?_
    refine lv_aload_n hx hb dJ23_ensureCapacityInternal_22 rfl (lv_at hl 1 rfl) ?_
    refine lv_iload_n hx hb dJ23_ensureCapacityInternal_23 rfl (lv_at hl 2 rfl) ?_
    refine ce_s (crp_V (C := "java/lang/StringBuilder") (Z := yJ23_isLatin1) (n := 1) (As := [.int (nI q)]) (rest := [.ref a, .ref sb]) ⟨hx, hb, hml, hown, hts⟩ hPx (m_J23_newCapacity (X := xl X []) (Or.inl hX) (Or.inl hA) hm hq hqm) RC.blind (RC.pre hR hK) q1703 q1705 q1720 rfl (List.mem_of_getElem? (i := 1) rfl) q118 q1706 rfl rfl (by decide +kernel) ⟨(Nat.le_of_ble_eq_true rfl), (Nat.le_of_ble_eq_true rfl)⟩ (rv_at2 hK (hR.X hX) rfl) rfl rfl hl.1 rfl (lv_room (Nat.le_of_ble_eq_true rfl)) dJ23_ensureCapacityInternal_24 ⟨(Nat.le_of_ble_eq_true rfl), (Nat.le_of_ble_eq_true rfl)⟩) ?_
    refine lv_aload_n hx hb dJ23_ensureCapacityInternal_27 rfl (lv_at hl 1 rfl) ?_
    refine xa_get (T := TJ24) (N := 4) (v := .int 0) hx hb hts in_J24 hown hK.1 (hR.X hX) rfl 1 (by decide) q1677 rfl rfl dJ23_ensureCapacityInternal_28 ?_
    refine lv_ishl hx hb dJ23_ensureCapacityInternal_31 ?_
    have e2 : nI (sb_cap q m9) <<< ((0 : Int32) &&& 31) = nI (sb_cap q m9) := sb_shl0 _
    refine W.eq (g2 := F0 m 32 ls [.int (nI (sb_cap q m9)), .ref a, .ref sb]) (congrArg (fun z9 => F0 m 32 ls [.int z9, .ref a, .ref sb]) e2) ?_
    refine va_callr (cr_S (n := 2) (As := [.ref a, .int (nI (sb_cap q m9))]) (rest := [.ref sb]) ⟨hx, hb, hml, hown, hts⟩ hK hR (m_J12_copyOf_3 (X := xl X []) (Or.inl hA) hc hc2 hf) q1709 q1710 q96 q1711 rfl rfl hds_J12_copyOf_3 ⟨(Nat.le_of_ble_eq_true rfl), (Nat.le_of_ble_eq_true rfl)⟩ rfl rfl hl.1 rfl (lv_room (Nat.le_of_ble_eq_true rfl)) dJ23_ensureCapacityInternal_32 ⟨(Nat.le_of_ble_eq_true rfl), (Nat.le_of_ble_eq_true rfl)⟩) hS (fun _ _ h => h) (fun _ h => h) (fun u ra t H1 locs1 ht _ hp hB hz _ hS => ?_)
    rw [ht] at hB
    have hnew : ∀ p e, X p e → p ≠ ra := fun p e h1 e9 => (hB.2.2.2.2.2.2 0 _ rfl).1 e (Or.inl (by rw [← e9]; exact h1))
    have hne2 : ra ≠ sb := fun e9 => hnew _ _ hX e9.symm
    have hR := hR.up2 hB
    clear hB ht hp hz
    generalize H1 = H at hR hS ⊢
    have hR : Rp κ w y X [(ra, byC κ (sb_cap q m9) (va_cpy f (fun _ => 0) 0 0 m9))] H := hR
    refine xa_put (T := TJ24) (N := 4) hx hb hts in_J24 tyJ24 tyJ24_ok nmJ24 hown hK.1 hS (hR.2.2.2.1 _ _ hX).2.1 (hR.X hX) rfl 0 (by decide) q1676 rfl rfl rfl rfl (Nat.le_of_ble_eq_true rfl) dJ23_ensureCapacityInternal_35 (fun H1 locs h1 hz ho hS => ?_)
    have hR := (hR.putXL hX h1 hz ho).tX
    clear h1 hz ho
    generalize H1 = H at hR hS ⊢
    exact W.vret hx hb hr (fun t ht hW9 => ⟨⟨(ra, sb_cap q m9, va_cpy f (fun _ => 0) 0 0 m9), rfl, ⟨sb_cap_ge _ _, hc2, hne2, sb_fitC hf sb_fit0, fun j hj => show va_cpy f (fun _ => 0) 0 0 m9 j = f j from sb_cpy0 hj, Nat.le_of_lt hc, fun p e _ h => hnew p e h⟩, rpt ht hR⟩, hS.F ht⟩) hS.2.2 dJ23_ensureCapacityInternal_38
theorem hds_J20_stringSize : yJ20_stringSize.cls ≠ "java/lang/invoke/MethodHandle" ∧ yJ20_stringSize.cls ≠ "java/lang/invoke/VarHandle" ∧ (parseMethodDescriptor yJ20_stringSize.desc).map (fun d => d.parameters.length) = some 1 := by decide +kernel
abbrev rm_J20_stringSize : Room := {}
set_option maxHeartbeats 4000000 in
theorem m_J20_stringSize {l : Launch} {κ : Kx} {w : Wd} {y : Ly} {X : XR} {v : Nat} (hv : v < 2 ^ 31) : Met l yJ20_stringSize (ws_ yJ20_stringSize cJ20_stringSize 4 (Option.some Jvm.ClassFile.FieldType.int)) rm_J20_stringSize (va_Pc [.int (nI v)] (RC κ w y X)) (Qs (.int (nI (sb_dg v)))) 0 0 (nofree) := by
  refine Met.ofW (cc := cJ20_stringSize) (maxL := 4) (ret := (Option.some Jvm.ClassFile.FieldType.int)) (by decide) rfl ?_
  intro p e s m args below meth c s₁ B hml hv
  obtain ⟨rfl, hR, hK⟩ := hv
  have hx := B.exec
  have hb := B.bytes
  have hr := B.returns
  have hts := atoms_spec (ws := ws_ yJ20_stringSize cJ20_stringSize 4 (Option.some Jvm.ClassFile.FieldType.int)) B.pre
  have hts : ∀ w ∈ lw_all, w.before _ s = true := fun w h => hts w (List.mem_cons_of_mem _ h)
  have hown : s.vm.findClass RJ20 = some m.cls := findClass_of_methodNamed B.named
  have hlocks := B.notSynchronized
  have hS : va_S (Af κ) s.heap s.heap [] := va_S.rf
  have hl := lv_entry ([.int (nI v)]) (n := 4) (Nat.le_of_ble_eq_true rfl)
  rw [lg_entry_eq]
  generalize (lg_sl ([.int (nI v)]) ++ List.replicate (4 - (lg_sl ([.int (nI v)])).length) Slot.unset).toArray = ls at hl ⊢
  have hl : lv_has ls 4 [(0, .int (nI v))] := hl
  refine lv_iconst (v := (1 : Int32)) hx hb dJ20_stringSize_0 (by decide) ?_
  refine lv_istore_n (lv' := [(1, .int 1), (0, .int (nI v))]) hx hb dJ20_stringSize_1 rfl hl (by decide) rfl (fun ls hl => ?_)
  refine lv_iload_n hx hb dJ20_stringSize_2 rfl (lv_at hl 1 rfl) ?_
  refine lv_if_lt (tgt := 11) hx hb dJ20_stringSize_3 (by decide) (fun c9 => absurd c9 (nI_pos hv)) (fun _ => ?_)
  refine lv_iconst (v := (0 : Int32)) hx hb dJ20_stringSize_6 (by decide) ?_
  refine lv_istore_n (lv' := [(1, .int 0), (0, .int (nI v))]) hx hb dJ20_stringSize_7 rfl hl (by decide) rfl (fun ls hl => ?_)
  refine lv_iload_n hx hb dJ20_stringSize_8 rfl (lv_at hl 1 rfl) ?_
  refine lv_ineg hx hb dJ20_stringSize_9 ?_
  refine lv_istore_n (lv' := [(0, .int (-nI v)), (1, .int 0)]) hx hb dJ20_stringSize_10 rfl hl (by decide) rfl (fun ls hl => ?_)
  refine lv_bipush (v := (-10 : Int32)) hx hb dJ20_stringSize_11 (by decide) ?_
  refine lv_istore_n (lv' := [(2, .int (-10)), (0, .int (-nI v)), (1, .int 0)]) hx hb dJ20_stringSize_13 rfl hl (by decide) rfl (fun ls hl => ?_)
  refine lv_iconst (v := (1 : Int32)) hx hb dJ20_stringSize_14 (by decide) ?_
  refine lv_istore_n (lv' := [(3, .int 1), (2, .int (-10)), (0, .int (-nI v)), (1, .int 0)]) hx hb dJ20_stringSize_15 rfl hl (by decide) rfl (fun ls hl => ?_)
  refine lv_iload_n hx hb dJ20_stringSize_16 rfl (lv_at hl 0 rfl) ?_
  refine lv_bipush (v := (10 : Int32)) hx hb dJ20_stringSize_17 (by decide) ?_
  refine lv_icmp_ge (tgt := 42) hx hb dJ20_stringSize_19 (by decide) (fun c9 => absurd c9 (by decide)) (fun _ => ?_)
  refine lv_iload_n hx hb dJ20_stringSize_22 rfl (lv_at hl 2 rfl) ?_
  refine lv_iload_n hx hb dJ20_stringSize_23 rfl (lv_at hl 1 rfl) ?_
  refine lv_icmp_le (tgt := 31) hx hb dJ20_stringSize_24 (by decide) (fun c9 => ?_) (fun c9 => by
    have h9 : ¬ 10 ≤ v := fun h => c9 ((sb_nle (a := v) (b := 10) hv (by decide)).mpr h)
    have e9 : nI (sb_dg v) = (1 : Int32) + 0 := by
      have : sb_dg v = 1 := by unfold sb_dg; (repeat' split) <;> omega
      rw [this]; decide
    refine lv_iload_n hx hb dJ20_stringSize_27 rfl (lv_at hl 0 rfl) ?_
    refine lv_iload_n hx hb dJ20_stringSize_28 rfl (lv_at hl 3 rfl) ?_
    refine lv_iadd hx hb dJ20_stringSize_29 ?_
    rw [← e9]
    exact W.iret (v := nI (sb_dg v)) hx hb hr (fun t ht _ => ⟨rfl, ht⟩) (fun q h => by cases h) dJ20_stringSize_30)
  have h1 : 10 ≤ v := (sb_nle (a := v) (b := 10) hv (by decide)).mp (show -nI v ≤ -nI 10 from c9)
  refine lv_bipush (v := (10 : Int32)) hx hb dJ20_stringSize_31 (by decide) ?_
  refine lv_iload_n hx hb dJ20_stringSize_33 rfl (lv_at hl 1 rfl) ?_
  refine lv_imul hx hb dJ20_stringSize_34 ?_
  rw [show (10 : Int32) * (-10) = (-100 : Int32) by decide]
  refine lv_istore_n (lv' := [(2, .int (-100 : Int32)), (3, .int 1), (0, .int (-nI v)), (1, .int 0)]) hx hb dJ20_stringSize_35 rfl hl (by decide) rfl (fun ls hl => ?_)
  refine lv_iinc (v := (2 : Int32)) (lv' := [(3, .int 2), (2, .int (-100 : Int32)), (0, .int (-nI v)), (1, .int 0)]) hx hb dJ20_stringSize_36 hl (k := 1) rfl (by decide) (by decide) rfl (fun ls hl => ?_)
  refine lv_goto (tgt := 16) hx hb dJ20_stringSize_39 (by decide) ?_
  refine lv_iload_n hx hb dJ20_stringSize_16 rfl (lv_at hl 0 rfl) ?_
  refine lv_bipush (v := (10 : Int32)) hx hb dJ20_stringSize_17 (by decide) ?_
  refine lv_icmp_ge (tgt := 42) hx hb dJ20_stringSize_19 (by decide) (fun c9 => absurd c9 (by decide)) (fun _ => ?_)
  refine lv_iload_n hx hb dJ20_stringSize_22 rfl (lv_at hl 2 rfl) ?_
  refine lv_iload_n hx hb dJ20_stringSize_23 rfl (lv_at hl 1 rfl) ?_
  refine lv_icmp_le (tgt := 31) hx hb dJ20_stringSize_24 (by decide) (fun c9 => ?_) (fun c9 => by
    have h9 : ¬ 100 ≤ v := fun h => c9 ((sb_nle (a := v) (b := 100) hv (by decide)).mpr h)
    have e9 : nI (sb_dg v) = (2 : Int32) + 0 := by
      have : sb_dg v = 2 := by unfold sb_dg; (repeat' split) <;> omega
      rw [this]; decide
    refine lv_iload_n hx hb dJ20_stringSize_27 rfl (lv_at hl 0 rfl) ?_
    refine lv_iload_n hx hb dJ20_stringSize_28 rfl (lv_at hl 3 rfl) ?_
    refine lv_iadd hx hb dJ20_stringSize_29 ?_
    rw [← e9]
    exact W.iret (v := nI (sb_dg v)) hx hb hr (fun t ht _ => ⟨rfl, ht⟩) (fun q h => by cases h) dJ20_stringSize_30)
  have h2 : 100 ≤ v := (sb_nle (a := v) (b := 100) hv (by decide)).mp (show -nI v ≤ -nI 100 from c9)
  refine lv_bipush (v := (10 : Int32)) hx hb dJ20_stringSize_31 (by decide) ?_
  refine lv_iload_n hx hb dJ20_stringSize_33 rfl (lv_at hl 1 rfl) ?_
  refine lv_imul hx hb dJ20_stringSize_34 ?_
  rw [show (10 : Int32) * (-100) = (-1000 : Int32) by decide]
  refine lv_istore_n (lv' := [(2, .int (-1000 : Int32)), (3, .int 2), (0, .int (-nI v)), (1, .int 0)]) hx hb dJ20_stringSize_35 rfl hl (by decide) rfl (fun ls hl => ?_)
  refine lv_iinc (v := (3 : Int32)) (lv' := [(3, .int 3), (2, .int (-1000 : Int32)), (0, .int (-nI v)), (1, .int 0)]) hx hb dJ20_stringSize_36 hl (k := 1) rfl (by decide) (by decide) rfl (fun ls hl => ?_)
  refine lv_goto (tgt := 16) hx hb dJ20_stringSize_39 (by decide) ?_
  refine lv_iload_n hx hb dJ20_stringSize_16 rfl (lv_at hl 0 rfl) ?_
  refine lv_bipush (v := (10 : Int32)) hx hb dJ20_stringSize_17 (by decide) ?_
  refine lv_icmp_ge (tgt := 42) hx hb dJ20_stringSize_19 (by decide) (fun c9 => absurd c9 (by decide)) (fun _ => ?_)
  refine lv_iload_n hx hb dJ20_stringSize_22 rfl (lv_at hl 2 rfl) ?_
  refine lv_iload_n hx hb dJ20_stringSize_23 rfl (lv_at hl 1 rfl) ?_
  refine lv_icmp_le (tgt := 31) hx hb dJ20_stringSize_24 (by decide) (fun c9 => ?_) (fun c9 => by
    have h9 : ¬ 1000 ≤ v := fun h => c9 ((sb_nle (a := v) (b := 1000) hv (by decide)).mpr h)
    have e9 : nI (sb_dg v) = (3 : Int32) + 0 := by
      have : sb_dg v = 3 := by unfold sb_dg; (repeat' split) <;> omega
      rw [this]; decide
    refine lv_iload_n hx hb dJ20_stringSize_27 rfl (lv_at hl 0 rfl) ?_
    refine lv_iload_n hx hb dJ20_stringSize_28 rfl (lv_at hl 3 rfl) ?_
    refine lv_iadd hx hb dJ20_stringSize_29 ?_
    rw [← e9]
    exact W.iret (v := nI (sb_dg v)) hx hb hr (fun t ht _ => ⟨rfl, ht⟩) (fun q h => by cases h) dJ20_stringSize_30)
  have h3 : 1000 ≤ v := (sb_nle (a := v) (b := 1000) hv (by decide)).mp (show -nI v ≤ -nI 1000 from c9)
  refine lv_bipush (v := (10 : Int32)) hx hb dJ20_stringSize_31 (by decide) ?_
  refine lv_iload_n hx hb dJ20_stringSize_33 rfl (lv_at hl 1 rfl) ?_
  refine lv_imul hx hb dJ20_stringSize_34 ?_
  rw [show (10 : Int32) * (-1000) = (-10000 : Int32) by decide]
  refine lv_istore_n (lv' := [(2, .int (-10000 : Int32)), (3, .int 3), (0, .int (-nI v)), (1, .int 0)]) hx hb dJ20_stringSize_35 rfl hl (by decide) rfl (fun ls hl => ?_)
  refine lv_iinc (v := (4 : Int32)) (lv' := [(3, .int 4), (2, .int (-10000 : Int32)), (0, .int (-nI v)), (1, .int 0)]) hx hb dJ20_stringSize_36 hl (k := 1) rfl (by decide) (by decide) rfl (fun ls hl => ?_)
  refine lv_goto (tgt := 16) hx hb dJ20_stringSize_39 (by decide) ?_
  refine lv_iload_n hx hb dJ20_stringSize_16 rfl (lv_at hl 0 rfl) ?_
  refine lv_bipush (v := (10 : Int32)) hx hb dJ20_stringSize_17 (by decide) ?_
  refine lv_icmp_ge (tgt := 42) hx hb dJ20_stringSize_19 (by decide) (fun c9 => absurd c9 (by decide)) (fun _ => ?_)
  refine lv_iload_n hx hb dJ20_stringSize_22 rfl (lv_at hl 2 rfl) ?_
  refine lv_iload_n hx hb dJ20_stringSize_23 rfl (lv_at hl 1 rfl) ?_
  refine lv_icmp_le (tgt := 31) hx hb dJ20_stringSize_24 (by decide) (fun c9 => ?_) (fun c9 => by
    have h9 : ¬ 10000 ≤ v := fun h => c9 ((sb_nle (a := v) (b := 10000) hv (by decide)).mpr h)
    have e9 : nI (sb_dg v) = (4 : Int32) + 0 := by
      have : sb_dg v = 4 := by unfold sb_dg; (repeat' split) <;> omega
      rw [this]; decide
    refine lv_iload_n hx hb dJ20_stringSize_27 rfl (lv_at hl 0 rfl) ?_
    refine lv_iload_n hx hb dJ20_stringSize_28 rfl (lv_at hl 3 rfl) ?_
    refine lv_iadd hx hb dJ20_stringSize_29 ?_
    rw [← e9]
    exact W.iret (v := nI (sb_dg v)) hx hb hr (fun t ht _ => ⟨rfl, ht⟩) (fun q h => by cases h) dJ20_stringSize_30)
  have h4 : 10000 ≤ v := (sb_nle (a := v) (b := 10000) hv (by decide)).mp (show -nI v ≤ -nI 10000 from c9)
  refine lv_bipush (v := (10 : Int32)) hx hb dJ20_stringSize_31 (by decide) ?_
  refine lv_iload_n hx hb dJ20_stringSize_33 rfl (lv_at hl 1 rfl) ?_
  refine lv_imul hx hb dJ20_stringSize_34 ?_
  rw [show (10 : Int32) * (-10000) = (-100000 : Int32) by decide]
  refine lv_istore_n (lv' := [(2, .int (-100000 : Int32)), (3, .int 4), (0, .int (-nI v)), (1, .int 0)]) hx hb dJ20_stringSize_35 rfl hl (by decide) rfl (fun ls hl => ?_)
  refine lv_iinc (v := (5 : Int32)) (lv' := [(3, .int 5), (2, .int (-100000 : Int32)), (0, .int (-nI v)), (1, .int 0)]) hx hb dJ20_stringSize_36 hl (k := 1) rfl (by decide) (by decide) rfl (fun ls hl => ?_)
  refine lv_goto (tgt := 16) hx hb dJ20_stringSize_39 (by decide) ?_
  refine lv_iload_n hx hb dJ20_stringSize_16 rfl (lv_at hl 0 rfl) ?_
  refine lv_bipush (v := (10 : Int32)) hx hb dJ20_stringSize_17 (by decide) ?_
  refine lv_icmp_ge (tgt := 42) hx hb dJ20_stringSize_19 (by decide) (fun c9 => absurd c9 (by decide)) (fun _ => ?_)
  refine lv_iload_n hx hb dJ20_stringSize_22 rfl (lv_at hl 2 rfl) ?_
  refine lv_iload_n hx hb dJ20_stringSize_23 rfl (lv_at hl 1 rfl) ?_
  refine lv_icmp_le (tgt := 31) hx hb dJ20_stringSize_24 (by decide) (fun c9 => ?_) (fun c9 => by
    have h9 : ¬ 100000 ≤ v := fun h => c9 ((sb_nle (a := v) (b := 100000) hv (by decide)).mpr h)
    have e9 : nI (sb_dg v) = (5 : Int32) + 0 := by
      have : sb_dg v = 5 := by unfold sb_dg; (repeat' split) <;> omega
      rw [this]; decide
    refine lv_iload_n hx hb dJ20_stringSize_27 rfl (lv_at hl 0 rfl) ?_
    refine lv_iload_n hx hb dJ20_stringSize_28 rfl (lv_at hl 3 rfl) ?_
    refine lv_iadd hx hb dJ20_stringSize_29 ?_
    rw [← e9]
    exact W.iret (v := nI (sb_dg v)) hx hb hr (fun t ht _ => ⟨rfl, ht⟩) (fun q h => by cases h) dJ20_stringSize_30)
  have h5 : 100000 ≤ v := (sb_nle (a := v) (b := 100000) hv (by decide)).mp (show -nI v ≤ -nI 100000 from c9)
  refine lv_bipush (v := (10 : Int32)) hx hb dJ20_stringSize_31 (by decide) ?_
  refine lv_iload_n hx hb dJ20_stringSize_33 rfl (lv_at hl 1 rfl) ?_
  refine lv_imul hx hb dJ20_stringSize_34 ?_
  rw [show (10 : Int32) * (-100000) = (-1000000 : Int32) by decide]
  refine lv_istore_n (lv' := [(2, .int (-1000000 : Int32)), (3, .int 5), (0, .int (-nI v)), (1, .int 0)]) hx hb dJ20_stringSize_35 rfl hl (by decide) rfl (fun ls hl => ?_)
  refine lv_iinc (v := (6 : Int32)) (lv' := [(3, .int 6), (2, .int (-1000000 : Int32)), (0, .int (-nI v)), (1, .int 0)]) hx hb dJ20_stringSize_36 hl (k := 1) rfl (by decide) (by decide) rfl (fun ls hl => ?_)
  refine lv_goto (tgt := 16) hx hb dJ20_stringSize_39 (by decide) ?_
  refine lv_iload_n hx hb dJ20_stringSize_16 rfl (lv_at hl 0 rfl) ?_
  refine lv_bipush (v := (10 : Int32)) hx hb dJ20_stringSize_17 (by decide) ?_
  refine lv_icmp_ge (tgt := 42) hx hb dJ20_stringSize_19 (by decide) (fun c9 => absurd c9 (by decide)) (fun _ => ?_)
  refine lv_iload_n hx hb dJ20_stringSize_22 rfl (lv_at hl 2 rfl) ?_
  refine lv_iload_n hx hb dJ20_stringSize_23 rfl (lv_at hl 1 rfl) ?_
  refine lv_icmp_le (tgt := 31) hx hb dJ20_stringSize_24 (by decide) (fun c9 => ?_) (fun c9 => by
    have h9 : ¬ 1000000 ≤ v := fun h => c9 ((sb_nle (a := v) (b := 1000000) hv (by decide)).mpr h)
    have e9 : nI (sb_dg v) = (6 : Int32) + 0 := by
      have : sb_dg v = 6 := by unfold sb_dg; (repeat' split) <;> omega
      rw [this]; decide
    refine lv_iload_n hx hb dJ20_stringSize_27 rfl (lv_at hl 0 rfl) ?_
    refine lv_iload_n hx hb dJ20_stringSize_28 rfl (lv_at hl 3 rfl) ?_
    refine lv_iadd hx hb dJ20_stringSize_29 ?_
    rw [← e9]
    exact W.iret (v := nI (sb_dg v)) hx hb hr (fun t ht _ => ⟨rfl, ht⟩) (fun q h => by cases h) dJ20_stringSize_30)
  have h6 : 1000000 ≤ v := (sb_nle (a := v) (b := 1000000) hv (by decide)).mp (show -nI v ≤ -nI 1000000 from c9)
  refine lv_bipush (v := (10 : Int32)) hx hb dJ20_stringSize_31 (by decide) ?_
  refine lv_iload_n hx hb dJ20_stringSize_33 rfl (lv_at hl 1 rfl) ?_
  refine lv_imul hx hb dJ20_stringSize_34 ?_
  rw [show (10 : Int32) * (-1000000) = (-10000000 : Int32) by decide]
  refine lv_istore_n (lv' := [(2, .int (-10000000 : Int32)), (3, .int 6), (0, .int (-nI v)), (1, .int 0)]) hx hb dJ20_stringSize_35 rfl hl (by decide) rfl (fun ls hl => ?_)
  refine lv_iinc (v := (7 : Int32)) (lv' := [(3, .int 7), (2, .int (-10000000 : Int32)), (0, .int (-nI v)), (1, .int 0)]) hx hb dJ20_stringSize_36 hl (k := 1) rfl (by decide) (by decide) rfl (fun ls hl => ?_)
  refine lv_goto (tgt := 16) hx hb dJ20_stringSize_39 (by decide) ?_
  refine lv_iload_n hx hb dJ20_stringSize_16 rfl (lv_at hl 0 rfl) ?_
  refine lv_bipush (v := (10 : Int32)) hx hb dJ20_stringSize_17 (by decide) ?_
  refine lv_icmp_ge (tgt := 42) hx hb dJ20_stringSize_19 (by decide) (fun c9 => absurd c9 (by decide)) (fun _ => ?_)
  refine lv_iload_n hx hb dJ20_stringSize_22 rfl (lv_at hl 2 rfl) ?_
  refine lv_iload_n hx hb dJ20_stringSize_23 rfl (lv_at hl 1 rfl) ?_
  refine lv_icmp_le (tgt := 31) hx hb dJ20_stringSize_24 (by decide) (fun c9 => ?_) (fun c9 => by
    have h9 : ¬ 10000000 ≤ v := fun h => c9 ((sb_nle (a := v) (b := 10000000) hv (by decide)).mpr h)
    have e9 : nI (sb_dg v) = (7 : Int32) + 0 := by
      have : sb_dg v = 7 := by unfold sb_dg; (repeat' split) <;> omega
      rw [this]; decide
    refine lv_iload_n hx hb dJ20_stringSize_27 rfl (lv_at hl 0 rfl) ?_
    refine lv_iload_n hx hb dJ20_stringSize_28 rfl (lv_at hl 3 rfl) ?_
    refine lv_iadd hx hb dJ20_stringSize_29 ?_
    rw [← e9]
    exact W.iret (v := nI (sb_dg v)) hx hb hr (fun t ht _ => ⟨rfl, ht⟩) (fun q h => by cases h) dJ20_stringSize_30)
  have h7 : 10000000 ≤ v := (sb_nle (a := v) (b := 10000000) hv (by decide)).mp (show -nI v ≤ -nI 10000000 from c9)
  refine lv_bipush (v := (10 : Int32)) hx hb dJ20_stringSize_31 (by decide) ?_
  refine lv_iload_n hx hb dJ20_stringSize_33 rfl (lv_at hl 1 rfl) ?_
  refine lv_imul hx hb dJ20_stringSize_34 ?_
  rw [show (10 : Int32) * (-10000000) = (-100000000 : Int32) by decide]
  refine lv_istore_n (lv' := [(2, .int (-100000000 : Int32)), (3, .int 7), (0, .int (-nI v)), (1, .int 0)]) hx hb dJ20_stringSize_35 rfl hl (by decide) rfl (fun ls hl => ?_)
  refine lv_iinc (v := (8 : Int32)) (lv' := [(3, .int 8), (2, .int (-100000000 : Int32)), (0, .int (-nI v)), (1, .int 0)]) hx hb dJ20_stringSize_36 hl (k := 1) rfl (by decide) (by decide) rfl (fun ls hl => ?_)
  refine lv_goto (tgt := 16) hx hb dJ20_stringSize_39 (by decide) ?_
  refine lv_iload_n hx hb dJ20_stringSize_16 rfl (lv_at hl 0 rfl) ?_
  refine lv_bipush (v := (10 : Int32)) hx hb dJ20_stringSize_17 (by decide) ?_
  refine lv_icmp_ge (tgt := 42) hx hb dJ20_stringSize_19 (by decide) (fun c9 => absurd c9 (by decide)) (fun _ => ?_)
  refine lv_iload_n hx hb dJ20_stringSize_22 rfl (lv_at hl 2 rfl) ?_
  refine lv_iload_n hx hb dJ20_stringSize_23 rfl (lv_at hl 1 rfl) ?_
  refine lv_icmp_le (tgt := 31) hx hb dJ20_stringSize_24 (by decide) (fun c9 => ?_) (fun c9 => by
    have h9 : ¬ 100000000 ≤ v := fun h => c9 ((sb_nle (a := v) (b := 100000000) hv (by decide)).mpr h)
    have e9 : nI (sb_dg v) = (8 : Int32) + 0 := by
      have : sb_dg v = 8 := by unfold sb_dg; (repeat' split) <;> omega
      rw [this]; decide
    refine lv_iload_n hx hb dJ20_stringSize_27 rfl (lv_at hl 0 rfl) ?_
    refine lv_iload_n hx hb dJ20_stringSize_28 rfl (lv_at hl 3 rfl) ?_
    refine lv_iadd hx hb dJ20_stringSize_29 ?_
    rw [← e9]
    exact W.iret (v := nI (sb_dg v)) hx hb hr (fun t ht _ => ⟨rfl, ht⟩) (fun q h => by cases h) dJ20_stringSize_30)
  have h8 : 100000000 ≤ v := (sb_nle (a := v) (b := 100000000) hv (by decide)).mp (show -nI v ≤ -nI 100000000 from c9)
  refine lv_bipush (v := (10 : Int32)) hx hb dJ20_stringSize_31 (by decide) ?_
  refine lv_iload_n hx hb dJ20_stringSize_33 rfl (lv_at hl 1 rfl) ?_
  refine lv_imul hx hb dJ20_stringSize_34 ?_
  rw [show (10 : Int32) * (-100000000) = (-1000000000 : Int32) by decide]
  refine lv_istore_n (lv' := [(2, .int (-1000000000 : Int32)), (3, .int 8), (0, .int (-nI v)), (1, .int 0)]) hx hb dJ20_stringSize_35 rfl hl (by decide) rfl (fun ls hl => ?_)
  refine lv_iinc (v := (9 : Int32)) (lv' := [(3, .int 9), (2, .int (-1000000000 : Int32)), (0, .int (-nI v)), (1, .int 0)]) hx hb dJ20_stringSize_36 hl (k := 1) rfl (by decide) (by decide) rfl (fun ls hl => ?_)
  refine lv_goto (tgt := 16) hx hb dJ20_stringSize_39 (by decide) ?_
  refine lv_iload_n hx hb dJ20_stringSize_16 rfl (lv_at hl 0 rfl) ?_
  refine lv_bipush (v := (10 : Int32)) hx hb dJ20_stringSize_17 (by decide) ?_
  refine lv_icmp_ge (tgt := 42) hx hb dJ20_stringSize_19 (by decide) (fun c9 => absurd c9 (by decide)) (fun _ => ?_)
  refine lv_iload_n hx hb dJ20_stringSize_22 rfl (lv_at hl 2 rfl) ?_
  refine lv_iload_n hx hb dJ20_stringSize_23 rfl (lv_at hl 1 rfl) ?_
  refine lv_icmp_le (tgt := 31) hx hb dJ20_stringSize_24 (by decide) (fun c9 => ?_) (fun c9 => by
    have h9 : ¬ 1000000000 ≤ v := fun h => c9 ((sb_nle (a := v) (b := 1000000000) hv (by decide)).mpr h)
    have e9 : nI (sb_dg v) = (9 : Int32) + 0 := by
      have : sb_dg v = 9 := by unfold sb_dg; (repeat' split) <;> omega
      rw [this]; decide
    refine lv_iload_n hx hb dJ20_stringSize_27 rfl (lv_at hl 0 rfl) ?_
    refine lv_iload_n hx hb dJ20_stringSize_28 rfl (lv_at hl 3 rfl) ?_
    refine lv_iadd hx hb dJ20_stringSize_29 ?_
    rw [← e9]
    exact W.iret (v := nI (sb_dg v)) hx hb hr (fun t ht _ => ⟨rfl, ht⟩) (fun q h => by cases h) dJ20_stringSize_30)
  have h9 : 1000000000 ≤ v := (sb_nle (a := v) (b := 1000000000) hv (by decide)).mp (show -nI v ≤ -nI 1000000000 from c9)
  refine lv_bipush (v := (10 : Int32)) hx hb dJ20_stringSize_31 (by decide) ?_
  refine lv_iload_n hx hb dJ20_stringSize_33 rfl (lv_at hl 1 rfl) ?_
  refine lv_imul hx hb dJ20_stringSize_34 ?_
  rw [show (10 : Int32) * (-1000000000) = (-1410065408 : Int32) by decide]
  refine lv_istore_n (lv' := [(2, .int (-1410065408 : Int32)), (3, .int 9), (0, .int (-nI v)), (1, .int 0)]) hx hb dJ20_stringSize_35 rfl hl (by decide) rfl (fun ls hl => ?_)
  refine lv_iinc (v := (10 : Int32)) (lv' := [(3, .int 10), (2, .int (-1410065408 : Int32)), (0, .int (-nI v)), (1, .int 0)]) hx hb dJ20_stringSize_36 hl (k := 1) rfl (by decide) (by decide) rfl (fun ls hl => ?_)
  refine lv_goto (tgt := 16) hx hb dJ20_stringSize_39 (by decide) ?_
  refine lv_iload_n hx hb dJ20_stringSize_16 rfl (lv_at hl 0 rfl) ?_
  refine lv_bipush (v := (10 : Int32)) hx hb dJ20_stringSize_17 (by decide) ?_
  refine lv_icmp_ge (tgt := 42) hx hb dJ20_stringSize_19 (by decide) (fun _ => ?_) (fun c9 => absurd (by decide) c9)
  refine lv_bipush (v := (10 : Int32)) hx hb dJ20_stringSize_42 (by decide) ?_
  refine lv_iload_n hx hb dJ20_stringSize_44 rfl (lv_at hl 3 rfl) ?_
  refine lv_iadd hx hb dJ20_stringSize_45 ?_
  have e9 : nI (sb_dg v) = (10 : Int32) + 0 := by
    have : sb_dg v = 10 := by unfold sb_dg; (repeat' split) <;> omega
    rw [this]; decide
  rw [← e9]
  exact W.iret (v := nI (sb_dg v)) hx hb hr (fun t ht _ => ⟨rfl, ht⟩) (fun q h => by cases h) dJ20_stringSize_46
theorem sb_small : ∀ c, c < 128 → sb_b c = nI c := by decide +kernel
theorem BX.ten {κ : Kx} {w : Wd} {y : Ly} {X : XR} {L : va_W} {H : Heap} {s : State} (hK : KK κ s) (hR : Rp κ w y X L H) : ∃ f : Nat → Int32, va_at (kD κ) Cl (kA κ 32, byC κ 100 f) H ∧ ∀ t, t < 100 → f t = sb_b (48 + t / 10) := by
  obtain ⟨f, h1, h2⟩ := hK.2.1.2.2.2.2.2.1.2.2.2.2.2.2.1.1
  exact ⟨f, h1.kept (hR.1.2 _ hK.2.1.2.2.2.2.2.1.2.2.2.2.2.2.1.2.2.1), fun t ht => by rw [h2 t ht, sb_small _ (by omega)]; rfl⟩
theorem BX.one {κ : Kx} {w : Wd} {y : Ly} {X : XR} {L : va_W} {H : Heap} {s : State} (hK : KK κ s) (hR : Rp κ w y X L H) : ∃ f : Nat → Int32, va_at (kD κ) Cl (kA κ 33, byC κ 100 f) H ∧ ∀ t, t < 100 → f t = sb_b (48 + t % 10) := by
  obtain ⟨f, h1, h2⟩ := hK.2.1.2.2.2.2.2.1.2.2.2.2.2.2.1.2.1
  exact ⟨f, h1.kept (hR.1.2 _ hK.2.1.2.2.2.2.2.1.2.2.2.2.2.2.1.2.2.2), fun t ht => by rw [h2 t ht, sb_small _ (by omega)]; rfl⟩
abbrev rm_J20_getChars : Room := {}
set_option maxHeartbeats 4000000 in
theorem lp_getChars {p : Program} {l : Launch} {e : Env} {s : State} {m : MethodId} {args : Array Value} {below : List Frame} {meth : Method} {c : Code} {Q : State → Prop} {κ : Kx} {w : Wd} {y : Ly} {X : XR} {a m9 n : Nat} (hx : p.tables.exec = Jvm.exec) (hb : c.code = cJ20_getChars) (hml : c.maxLocals = 7) (hown : s.vm.findClass RJ20 = some m.cls) (hts : ∀ w ∈ lw_all, w.before args s = true) (hK : KK κ s) (hm : m9 ≤ 140) :
    ∀ (fu v p9 : Nat) (g : Nat → Int32) (H : Heap) (locs : List Loc) (ls : Array Slot), v < fu → v < 2 ^ 31 → p9 = n + sb_dg v → p9 ≤ m9 → sb_Fit g → Rp κ w y (upX X a (byC κ m9 g)) [] H → va_S (Af κ) s.heap H locs → lv_has ls 7 [(0, .int (-nI v)), (5, .int (nI p9)), (2, .ref a), (6, .int 0)] →
    (∀ (g' : Nat → Int32) (H : Heap) (locs : List Loc) (ls : Array Slot), (∀ j, j < n ∨ p9 ≤ j → g' j = g j) → (∀ i, i < sb_dg v → g' (p9 - 1 - i) = sb_b (48 + v / 10 ^ i % 10)) → sb_Fit g' → Rp κ w y (upX X a (byC κ m9 g')) [] H → va_S (Af κ) s.heap H locs → lv_has ls 7 [(5, .int (nI n)), (6, .int 0)] → W p l e (headSpec (ws_ yJ20_getChars cJ20_getChars 7 (Option.some Jvm.ClassFile.FieldType.int)) rm_J20_getChars).room s m args below meth c H locs 0 0 Q (F0 m 104 ls [])) → W p l e (headSpec (ws_ yJ20_getChars cJ20_getChars 7 (Option.some Jvm.ClassFile.FieldType.int)) rm_J20_getChars).room s m args below meth c H locs 0 0 Q (F0 m 22 ls []) := by
  intro fu
  induction fu with
  | zero =>
    intro v p9 g H locs ls h
    omega
  | succ fu ih =>
    intro v p9 g H locs ls hvf hv hp hpm hf hR hS hl kk
    have hd1 := (sb_dg_in v).1
    have e1 : -(-nI v) = nI v := Int32.neg_neg
    have ev : (nI v).toNatClampNeg = v := nI_clamp hv
    refine lv_iload_n hx hb dJ20_getChars_22 rfl (lv_at hl 0 rfl) ?_
    refine lv_bipush (v := (-100 : Int32)) hx hb dJ20_getChars_23 (by decide) ?_
    refine lv_icmp_gt (tgt := 72) hx hb dJ20_getChars_25 (by decide) (fun c9 => ?_) (fun c9 => ?_)
    · have h100 : v < 100 := (sb_nlt (a := 100) (b := v) (by decide) hv).mp (show -nI 100 < -nI v from c9)
      refine lv_aload_n hx hb dJ20_getChars_72 rfl (lv_at hl 2 rfl) ?_
      refine lv_iinc (v := nI (p9 - 1)) (lv' := [(5, .int (nI (p9 - 1))), (0, .int (-nI v)), (2, .ref a), (6, .int 0)]) hx hb dJ20_getChars_73 hl (k := 1) rfl (by rw [show Int32.ofInt (-1) = (-1 : Int32) from by decide, sb_m1 (show 0 < p9 by omega)]) (by decide) rfl (fun ls hl => ?_)
      refine lv_iload hx hb dJ20_getChars_76 (lv_at hl 0 rfl) ?_
      refine jr_gets (C := "java/lang/Integer") (n := "DigitOnes") (d := "[B") (j := 33) hx hb hown hK hR hS (List.mem_of_getElem? (i := 9) rfl) q1725 hts dJ20_getChars_78 ?_
      refine lv_iload_n hx hb dJ20_getChars_81 rfl (lv_at hl 1 rfl) ?_
      refine lv_ineg hx hb dJ20_getChars_82 ?_
      rw [e1]
      obtain ⟨fo, ho1, ho2⟩ := BX.one hK hR
      refine xa_bald hx hb hK.1 ho1 3 rfl (vp_in_nI h100 (by decide)) dJ20_getChars_83 ?_
      rw [ev, ho2 v h100]
      refine xa_bast hx hb hK.1 hS (hR.2.2.2.1 _ _ (upX_self _ _ _)).2.1 (hR.X (upX_self _ _ _)) 3 rfl (vp_in_nI (n := p9 - 1) (N := m9) (by omega) (by omega)) (pk_nb _) dJ20_getChars_84 (fun H1 locs h1 hz ho hS => ?_)
      have hR := hR.putX2 h1 hz ho
      clear h1 hz ho
      generalize H1 = H at hR hS ⊢
      have hR : Rp κ w y (upX X a (byC κ m9 (upd g (p9 - 1) (sb_b (48 + v % 10))))) [] H := by rw [nI_clamp (n := p9 - 1) (by omega)] at hR; exact hR
      refine lv_iload_n hx hb dJ20_getChars_85 rfl (lv_at hl 1 rfl) ?_
      refine lv_bipush (v := (-9 : Int32)) hx hb dJ20_getChars_86 (by decide) ?_
      by_cases h9 : v < 10
      · have hd : sb_dg v = 1 := if_pos h9
        refine lv_icmp_ge (tgt := 104) hx hb dJ20_getChars_88 (by decide) (fun _ => ?_) (fun c9 => absurd ((sb_nle (a := 9) (b := v) (by decide) hv).mpr (by omega)) c9)
        refine kk _ H locs ls (fun j hj => pk_un (by omega)) (fun i hi => ?_) (sb_fitU hf (sb_fitB _)) hR hS (by have h7 := lv_sub hl [0, 3] (l' := [(5, .int (nI (p9 - 1))), (6, .int 0)]) rfl; rw [show p9 - 1 = n by omega] at h7; exact h7)
        obtain rfl : i = 0 := by omega
        rw [Nat.sub_zero, pk_us, Nat.pow_zero, Nat.div_one]
      · have hd : sb_dg v = 2 := by rw [sb_dg, if_neg h9, if_pos h100]
        have d2 : v / 10 % 10 = v / 10 := by omega
        refine lv_icmp_ge (tgt := 104) hx hb dJ20_getChars_88 (by decide) (fun c9 => absurd ((sb_nle (a := 9) (b := v) (by decide) hv).mp c9) (by omega)) (fun _ => ?_)
        refine lv_aload_n hx hb dJ20_getChars_91 rfl (lv_at hl 2 rfl) ?_
        refine lv_iinc (v := nI (p9 - 1 - 1)) (lv' := [(5, .int (nI (p9 - 1 - 1))), (0, .int (-nI v)), (2, .ref a), (6, .int 0)]) hx hb dJ20_getChars_92 hl (k := 0) rfl (by rw [show Int32.ofInt (-1) = (-1 : Int32) from by decide, sb_m1 (show 0 < p9 - 1 by omega)]) (by decide) rfl (fun ls hl => ?_)
        refine lv_iload hx hb dJ20_getChars_95 (lv_at hl 0 rfl) ?_
        refine jr_gets (C := "java/lang/Integer") (n := "DigitTens") (d := "[B") (j := 32) hx hb hown hK hR hS (List.mem_of_getElem? (i := 8) rfl) q1727 hts dJ20_getChars_97 ?_
        refine lv_iload_n hx hb dJ20_getChars_100 rfl (lv_at hl 1 rfl) ?_
        refine lv_ineg hx hb dJ20_getChars_101 ?_
        rw [e1]
        obtain ⟨ft, ht1, ht2⟩ := BX.ten hK hR
        refine xa_bald hx hb hK.1 ht1 3 rfl (vp_in_nI h100 (by decide)) dJ20_getChars_102 ?_
        rw [ev, ht2 v h100]
        refine xa_bast hx hb hK.1 hS (hR.2.2.2.1 _ _ (upX_self _ _ _)).2.1 (hR.X (upX_self _ _ _)) 3 rfl (vp_in_nI (n := p9 - 1 - 1) (N := m9) (by omega) (by omega)) (pk_nb _) dJ20_getChars_103 (fun H1 locs h1 hz ho hS => ?_)
        have hR := hR.putX2 h1 hz ho
        clear h1 hz ho
        generalize H1 = H at hR hS ⊢
        have hR : Rp κ w y (upX X a (byC κ m9 (upd (upd g (p9 - 1) (sb_b (48 + v % 10))) (p9 - 1 - 1) (sb_b (48 + v / 10))))) [] H := by rw [nI_clamp (n := p9 - 1 - 1) (by omega)] at hR; exact hR
        refine kk _ H locs ls (fun j hj => by rw [pk_un (by omega), pk_un (by omega)]) (fun i hi => ?_) (sb_fitU (sb_fitU hf (sb_fitB _)) (sb_fitB _)) hR hS (by have h7 := lv_sub hl [0, 3] (l' := [(5, .int (nI (p9 - 1 - 1))), (6, .int 0)]) rfl; rw [show p9 - 1 - 1 = n by omega] at h7; exact h7)
        obtain rfl | rfl : i = 0 ∨ i = 1 := by omega
        · rw [Nat.sub_zero, pk_un (by omega), pk_us, Nat.pow_zero, Nat.div_one]
        · rw [pk_us, Nat.pow_one, d2]
    · have h100 : ¬ v < 100 := fun h => c9 ((sb_nlt (a := 100) (b := v) (by decide) hv).mpr h)
      have hd := sb_dg100 (w := v) (by omega) hv
      have hd2 := (sb_dg_in (v / 100)).1
      have hr100 : v % 100 < 100 := Nat.mod_lt _ (by decide)
      have er : (nI (v % 100)).toNatClampNeg = v % 100 := nI_clamp (by omega)
      refine lv_iload_n hx hb dJ20_getChars_28 rfl (lv_at hl 0 rfl) ?_
      refine lv_bipush (v := (100 : Int32)) hx hb dJ20_getChars_29 (by decide) ?_
      refine lv_idiv hx hb dJ20_getChars_31 (by decide) ?_
      rw [sb_ndiv hv]
      refine lv_istore_n (lv' := [(3, .int (-nI (v / 100))), (0, .int (-nI v)), (5, .int (nI p9)), (2, .ref a), (6, .int 0)]) hx hb dJ20_getChars_32 rfl hl (by decide) rfl (fun ls hl => ?_)
      refine lv_iload_n hx hb dJ20_getChars_33 rfl (lv_at hl 0 rfl) ?_
      refine lv_bipush (v := (100 : Int32)) hx hb dJ20_getChars_34 (by decide) ?_
      refine lv_imul hx hb dJ20_getChars_36 ?_
      refine lv_iload_n hx hb dJ20_getChars_37 rfl (lv_at hl 1 rfl) ?_
      refine lv_isub hx hb dJ20_getChars_38 ?_
      rw [sb_nrem hv]
      refine lv_istore (lv' := [(4, .int (nI (v % 100))), (3, .int (-nI (v / 100))), (0, .int (-nI v)), (5, .int (nI p9)), (2, .ref a), (6, .int 0)]) hx hb dJ20_getChars_39 hl (by decide) rfl (fun ls hl => ?_)
      refine lv_iload_n hx hb dJ20_getChars_41 rfl (lv_at hl 1 rfl) ?_
      refine lv_istore_n (lv' := [(0, .int (-nI (v / 100))), (4, .int (nI (v % 100))), (3, .int (-nI (v / 100))), (5, .int (nI p9)), (2, .ref a), (6, .int 0)]) hx hb dJ20_getChars_42 rfl hl (by decide) rfl (fun ls hl => ?_)
      refine lv_aload_n hx hb dJ20_getChars_43 rfl (lv_at hl 4 rfl) ?_
      refine lv_iinc (v := nI (p9 - 1)) (lv' := [(5, .int (nI (p9 - 1))), (0, .int (-nI (v / 100))), (4, .int (nI (v % 100))), (3, .int (-nI (v / 100))), (2, .ref a), (6, .int 0)]) hx hb dJ20_getChars_44 hl (k := 3) rfl (by rw [show Int32.ofInt (-1) = (-1 : Int32) from by decide, sb_m1 (show 0 < p9 by omega)]) (by decide) rfl (fun ls hl => ?_)
      refine lv_iload hx hb dJ20_getChars_47 (lv_at hl 0 rfl) ?_
      refine jr_gets (C := "java/lang/Integer") (n := "DigitOnes") (d := "[B") (j := 33) hx hb hown hK hR hS (List.mem_of_getElem? (i := 9) rfl) q1725 hts dJ20_getChars_49 ?_
      refine lv_iload hx hb dJ20_getChars_52 (lv_at hl 2 rfl) ?_
      obtain ⟨fo, ho1, ho2⟩ := BX.one hK hR
      refine xa_bald hx hb hK.1 ho1 3 rfl (vp_in_nI hr100 (by decide)) dJ20_getChars_54 ?_
      rw [er, ho2 _ hr100, show v % 100 % 10 = v % 10 by omega]
      refine xa_bast hx hb hK.1 hS (hR.2.2.2.1 _ _ (upX_self _ _ _)).2.1 (hR.X (upX_self _ _ _)) 3 rfl (vp_in_nI (n := p9 - 1) (N := m9) (by omega) (by omega)) (pk_nb _) dJ20_getChars_55 (fun H1 locs h1 hz ho hS => ?_)
      have hR := hR.putX2 h1 hz ho
      clear h1 hz ho
      generalize H1 = H at hR hS ⊢
      have hR : Rp κ w y (upX X a (byC κ m9 (upd g (p9 - 1) (sb_b (48 + v % 10))))) [] H := by rw [nI_clamp (n := p9 - 1) (by omega)] at hR; exact hR
      refine lv_aload_n hx hb dJ20_getChars_56 rfl (lv_at hl 4 rfl) ?_
      refine lv_iinc (v := nI (p9 - 1 - 1)) (lv' := [(5, .int (nI (p9 - 1 - 1))), (0, .int (-nI (v / 100))), (4, .int (nI (v % 100))), (3, .int (-nI (v / 100))), (2, .ref a), (6, .int 0)]) hx hb dJ20_getChars_57 hl (k := 0) rfl (by rw [show Int32.ofInt (-1) = (-1 : Int32) from by decide, sb_m1 (show 0 < p9 - 1 by omega)]) (by decide) rfl (fun ls hl => ?_)
      refine lv_iload hx hb dJ20_getChars_60 (lv_at hl 0 rfl) ?_
      refine jr_gets (C := "java/lang/Integer") (n := "DigitTens") (d := "[B") (j := 32) hx hb hown hK hR hS (List.mem_of_getElem? (i := 8) rfl) q1727 hts dJ20_getChars_62 ?_
      refine lv_iload hx hb dJ20_getChars_65 (lv_at hl 2 rfl) ?_
      obtain ⟨ft, ht1, ht2⟩ := BX.ten hK hR
      refine xa_bald hx hb hK.1 ht1 3 rfl (vp_in_nI hr100 (by decide)) dJ20_getChars_67 ?_
      rw [er, ht2 _ hr100, show v % 100 / 10 = v / 10 % 10 by omega]
      refine xa_bast hx hb hK.1 hS (hR.2.2.2.1 _ _ (upX_self _ _ _)).2.1 (hR.X (upX_self _ _ _)) 3 rfl (vp_in_nI (n := p9 - 1 - 1) (N := m9) (by omega) (by omega)) (pk_nb _) dJ20_getChars_68 (fun H1 locs h1 hz ho hS => ?_)
      have hR := hR.putX2 h1 hz ho
      clear h1 hz ho
      generalize H1 = H at hR hS ⊢
      have hR : Rp κ w y (upX X a (byC κ m9 (upd (upd g (p9 - 1) (sb_b (48 + v % 10))) (p9 - 1 - 1) (sb_b (48 + v / 10 % 10))))) [] H := by rw [nI_clamp (n := p9 - 1 - 1) (by omega)] at hR; exact hR
      refine lv_goto (tgt := 22) hx hb dJ20_getChars_69 (by decide) ?_
      refine ih (v / 100) (p9 - 1 - 1) _ H locs ls (by omega) (by omega) (by omega) (by omega) (sb_fitU (sb_fitU hf (sb_fitB _)) (sb_fitB _)) hR hS (lv_sub hl [1, 0, 4, 5] rfl) (fun g' H locs ls h1 h2 h3 hR hS hl => ?_)
      refine kk g' H locs ls (fun j hj => by rw [h1 j (by omega), pk_un (by omega), pk_un (by omega)]) (fun i hi => ?_) h3 hR hS hl
      match i, hi with
      | 0, _ => rw [Nat.sub_zero, h1 _ (by omega), pk_un (by omega), pk_us, Nat.pow_zero, Nat.div_one]
      | 1, _ => rw [h1 _ (by omega), pk_us, Nat.pow_one]
      | k + 2, hi =>
        rw [show p9 - 1 - (k + 2) = p9 - 1 - 1 - 1 - k by omega, h2 k (by omega), Nat.div_div_eq_div_mul, show 100 * 10 ^ k = 10 ^ (k + 2) by rw [show k + 2 = k + 1 + 1 from rfl, Nat.pow_succ, Nat.pow_succ]; omega]
theorem hds_J20_getChars : yJ20_getChars.cls ≠ "java/lang/invoke/MethodHandle" ∧ yJ20_getChars.cls ≠ "java/lang/invoke/VarHandle" ∧ (parseMethodDescriptor yJ20_getChars.desc).map (fun d => d.parameters.length) = some 3 := by decide +kernel
set_option maxHeartbeats 4000000 in
theorem m_J20_getChars {l : Launch} {κ : Kx} {w : Wd} {y : Ly} {X : XR} {a m9 n v : Nat} {f : Nat → Int32} (hA : X a (byC κ m9 f)) (hv : v < 2 ^ 31) (hm : m9 ≤ 140) (hp : n + sb_dg v ≤ m9) (hf : sb_Fit f) : Met l yJ20_getChars (ws_ yJ20_getChars cJ20_getChars 7 (Option.some Jvm.ClassFile.FieldType.int)) rm_J20_getChars (va_Pc [.int (nI v), .int (nI (n + sb_dg v)), .ref a] (RC κ w y X)) (va_Qi (fun _ (u : Nat → Int32) => (∀ j, j < n → u j = f j) ∧ (∀ i, i < sb_dg v → u (n + i) = sb_b (sb_dec v i)) ∧ sb_Fit u) (fun u t => Rp κ w y (upX X a (byC κ m9 u)) [] t.heap) (Af κ)) 0 0 (Af κ) := by
  refine Met.ofW (cc := cJ20_getChars) (maxL := 7) (ret := (Option.some Jvm.ClassFile.FieldType.int)) (by decide) rfl ?_
  intro p e s m args below meth c s₁ B hml hv
  obtain ⟨rfl, hR, hK⟩ := hv
  have hx := B.exec
  have hb := B.bytes
  have hr := B.returns
  have hts := atoms_spec (ws := ws_ yJ20_getChars cJ20_getChars 7 (Option.some Jvm.ClassFile.FieldType.int)) B.pre
  have hts : ∀ w ∈ lw_all, w.before _ s = true := fun w h => hts w (List.mem_cons_of_mem _ h)
  have hown : s.vm.findClass RJ20 = some m.cls := findClass_of_methodNamed B.named
  have hlocks := B.notSynchronized
  have hS : va_S (Af κ) s.heap s.heap [] := va_S.rf
  have hl := lv_entry ([.int (nI v), .int (nI (n + sb_dg v)), .ref a]) (n := 7) (Nat.le_of_ble_eq_true rfl)
  rw [lg_entry_eq]
  generalize (lg_sl ([.int (nI v), .int (nI (n + sb_dg v)), .ref a]) ++ List.replicate (7 - (lg_sl ([.int (nI v), .int (nI (n + sb_dg v)), .ref a])).length) Slot.unset).toArray = ls at hl ⊢
  have hl : lv_has ls 7 [(0, .int (nI v)), (1, .int (nI (n + sb_dg v))), (2, .ref a)] := hl
  refine lv_iload_n hx hb dJ20_getChars_0 rfl (lv_at hl 1 rfl) ?_
  refine lv_istore (lv' := [(5, .int (nI (n + sb_dg v))), (0, .int (nI v)), (1, .int (nI (n + sb_dg v))), (2, .ref a)]) hx hb dJ20_getChars_1 hl (by decide) rfl (fun ls hl => ?_)
  refine lv_iload_n hx hb dJ20_getChars_3 rfl (lv_at hl 1 rfl) ?_
  refine lv_if_ge (tgt := 11) hx hb dJ20_getChars_4 (by decide) (fun _ => ?_) (fun c9 => absurd (nI_pos' hv) c9)
  refine lv_iconst (v := (0 : Int32)) hx hb dJ20_getChars_11 (by decide) ?_
  refine lv_istore (lv' := [(6, .int 0), (5, .int (nI (n + sb_dg v))), (0, .int (nI v)), (1, .int (nI (n + sb_dg v))), (2, .ref a)]) hx hb dJ20_getChars_12 hl (by decide) rfl (fun ls hl => ?_)
  refine lv_iload hx hb dJ20_getChars_14 (lv_at hl 0 rfl) ?_
  refine lv_if_ne (tgt := 22) hx hb dJ20_getChars_16 (by decide) (fun c9 => absurd c9 (fun h => h rfl)) (fun _ => ?_)
  refine lv_iload_n hx hb dJ20_getChars_19 rfl (lv_at hl 2 rfl) ?_
  refine lv_ineg hx hb dJ20_getChars_20 ?_
  refine lv_istore_n (lv' := [(0, .int (-nI v)), (6, .int 0), (5, .int (nI (n + sb_dg v))), (1, .int (nI (n + sb_dg v))), (2, .ref a)]) hx hb dJ20_getChars_21 rfl hl (by decide) rfl (fun ls hl => ?_)
  refine lp_getChars (n := n) hx hb hml hown hts hK hm (v + 1) v (n + sb_dg v) f s.heap [] ls (by omega) hv rfl hp hf (hR.toUp hA) hS (lv_sub hl [0, 2, 4, 1] rfl) (fun g' H locs ls h1 h2 h3 hR hS hl => ?_)
  refine lv_iload hx hb dJ20_getChars_104 (lv_at hl 1 rfl) ?_
  refine lv_if_eq (tgt := 118) hx hb dJ20_getChars_106 (by decide) (fun _ => ?_) (fun c9 => absurd rfl c9)
  refine lv_iload hx hb dJ20_getChars_118 (lv_at hl 0 rfl) ?_
  exact W.iret (v := nI n) hx hb hr (fun t ht hW9 => ⟨⟨nI n, g', rfl, ⟨fun j hj => h1 j (Or.inl hj), fun i hi => by
    have h9 := h2 (sb_dg v - 1 - i) (by omega)
    rw [show n + sb_dg v - 1 - (sb_dg v - 1 - i) = n + i by omega] at h9
    exact h9, h3⟩, rpt ht hR⟩, hS.F ht⟩) hS.2.2 dJ20_getChars_120
theorem upX_mono {X X' : XR} (h : ∀ q e, X q e → X' q e) {a : Nat} {f : va_E} : ∀ q e, upX X a f q e → upX X' a f q e := fun q e hx => hx.imp id (fun z => ⟨z.1, h q e z.2⟩)
theorem xl_l {X : XR} {L : va_W} : ∀ q e, X q e → xl X L q e := fun _ _ h => Or.inl h
abbrev X2 (X : XR) (sb a : Nat) (e1 e2 : va_E) : XR := upX (upX X sb e1) a e2
theorem X2_a {X : XR} {sb a : Nat} {e1 e2 : va_E} : X2 X sb a e1 e2 a e2 := upX_self _ _ _
theorem X2_s {X : XR} {sb a : Nat} {e1 e2 : va_E} (h : a ≠ sb) : X2 X sb a e1 e2 sb e1 := Or.inr ⟨fun e => h e.symm, upX_self _ _ _⟩
theorem X2_o {X : XR} {sb a p : Nat} {e1 e2 e : va_E} (h1 : p ≠ sb) (h2 : p ≠ a) (h : X p e) : X2 X sb a e1 e2 p e := Or.inr ⟨h2, Or.inr ⟨h1, h⟩⟩
theorem X2_mono {X X' : XR} (h : ∀ q e, X q e → X' q e) {sb a : Nat} {e1 e2 : va_E} : ∀ q e, X2 X sb a e1 e2 q e → X2 X' sb a e1 e2 q e := upX_mono (upX_mono h)
/-- the two cells have been written once more -/
theorem Rp.X2w {κ : Kx} {w : Wd} {y : Ly} {X X' : XR} {L : va_W} {H : Heap} {sb a : Nat} {e1 e2 : va_E} (h : Rp κ w y X' L H) (h1 : X' sb e1) (h2 : X' a e2) (ho : ∀ p e, p ≠ sb → p ≠ a → X p e → X' p e) : Rp κ w y (X2 X sb a e1 e2) L H := h.wk (fun q e hx => by
  rcases hx with ⟨rfl, rfl⟩ | ⟨hq, ⟨rfl, rfl⟩ | ⟨hq2, hx⟩⟩
  · exact h2
  · exact h1
  · exact ho q e hq2 hq hx)
theorem hd_J23_append : yJ23_append.cls = RJ23 ∧ yJ23_append.cls ≠ "java/lang/invoke/MethodHandle" ∧ yJ23_append.cls ≠ "java/lang/invoke/VarHandle" ∧ (parseMethodDescriptor yJ23_append.desc).map (fun d => d.parameters.length) = some 1 := by decide +kernel
abbrev rm_J23_append : Room := { frames := 4, cells := 1, slots := 140, locals := 180 }
set_option maxHeartbeats 4000000 in
theorem m_J23_append {l : Launch} {κ : Kx} {w : Wd} {y : Ly} {X : XR} {sb a m9 n : Nat} {mb : Int32} {f : Nat → Int32} (hX : X sb (sbC a mb (nI n))) (hA : X a (byC κ m9 f)) (hne : a ≠ sb) (hm : m9 ≤ 140) (hf : sb_Fit f) {t : Nat → Nat} (hL : sb_Lat t n f) (hnm : n ≤ m9) {v : Nat} (hv : v < 2 ^ 31) (hn70 : n + sb_dg v ≤ 70) : Met l yJ23_append (ws_ yJ23_append cJ23_append 4 (Option.some (Jvm.ClassFile.FieldType.object "java/lang/AbstractStringBuilder"))) rm_J23_append (va_Pc [.ref sb, .int (nI v)] (RCt κ w y X)) (va_Qr (fun u : Nat × Nat × (Nat → Int32) => n + sb_dg v ≤ u.2.1 ∧ u.2.1 ≤ 140 ∧ u.1 ≠ sb ∧ sb_Fit u.2.2 ∧ sb_Lat (sb_cat t n (sb_dec v)) (n + sb_dg v) u.2.2 ∧ ∀ p e, p ≠ a → X p e → p ≠ u.1) (fun u ra t => ra = sb ∧ Rp κ w y (X2 X sb u.1 (sbC u.1 mb (nI (n + sb_dg v))) (byC κ u.2.1 u.2.2)) [] t.heap) (Af κ)) 1 140 (Af κ) := by
  refine Met.ofW (cc := cJ23_append) (maxL := 4) (ret := (Option.some (Jvm.ClassFile.FieldType.object "java/lang/AbstractStringBuilder"))) (by decide) rfl ?_
  intro p e s m args below meth c s₁ B hml hv
  obtain ⟨rfl, ⟨hR, hK⟩, hPx⟩ := hv
  have hx := B.exec
  have hb := B.bytes
  have hr := B.returns
  have hts := atoms_spec (ws := ws_ yJ23_append cJ23_append 4 (Option.some (Jvm.ClassFile.FieldType.object "java/lang/AbstractStringBuilder"))) B.pre
  have hts : ∀ w ∈ lw_all, w.before _ s = true := fun w h => hts w (List.mem_cons_of_mem _ h)
  have hown : s.vm.findClass RJ23 = some m.cls := findClass_of_methodNamed B.named
  have hlocks := B.notSynchronized
  have hS : va_S (Af κ) s.heap s.heap [] := va_S.rf
  have hl := lv_entry ([.ref sb, .int (nI v)]) (n := 4) (Nat.le_of_ble_eq_true rfl)
  rw [lg_entry_eq]
  generalize (lg_sl ([.ref sb, .int (nI v)]) ++ List.replicate (4 - (lg_sl ([.ref sb, .int (nI v)])).length) Slot.unset).toArray = ls at hl ⊢
  have hl : lv_has ls 4 [(0, .ref sb), (1, .int (nI v))] := hl
  have hdg := (sb_dg_in v).1
  refine lv_aload_n hx hb dJ23_append_0 rfl (lv_at hl 0 rfl) ?_
  refine xa_get (T := TJ24) (N := 4) (v := .int (nI n)) hx hb hts in_J24 hown hK.1 (hR.X hX) rfl 3 (by decide) q1679 rfl rfl dJ23_append_1 ?_
  refine lv_istore_n (lv' := [(2, .int (nI n)), (0, .ref sb), (1, .int (nI v))]) hx hb dJ23_append_4 rfl hl (by decide) rfl (fun ls hl => ?_)
  refine lv_iload_n hx hb dJ23_append_5 rfl (lv_at hl 0 rfl) ?_
  refine lv_iload_n hx hb dJ23_append_6 rfl (lv_at hl 2 rfl) ?_
  refine ce_s (cr_S (n := 1) (As := [.int (nI v)]) (rest := [.int (nI n)]) ⟨hx, hb, hml, hown, hts⟩ hK hR (m_J20_stringSize (X := xl X []) hv) q1696 q1697 q110 q1698 rfl rfl hds_J20_stringSize ⟨Nat.le_of_ble_eq_true rfl, Nat.le_of_ble_eq_true rfl⟩ rfl rfl hl.1 rfl (lv_room (Nat.le_of_ble_eq_true rfl)) dJ23_append_7 ⟨Nat.le_of_ble_eq_true rfl, Nat.le_of_ble_eq_true rfl⟩) ?_
  refine lv_iadd hx hb dJ23_append_10 ?_
  rw [nI_add]
  refine lv_istore_n (lv' := [(3, .int (nI (n + sb_dg v))), (2, .int (nI n)), (0, .ref sb), (1, .int (nI v))]) hx hb dJ23_append_11 rfl hl (by decide) rfl (fun ls hl => ?_)
  refine lv_aload_n hx hb dJ23_append_12 rfl (lv_at hl 2 rfl) ?_
  refine lv_iload_n hx hb dJ23_append_13 rfl (lv_at hl 0 rfl) ?_
  refine va_callv (crp_V (C := "java/lang/StringBuilder") (Z := yJ23_isLatin1) (n := 1) (As := [.int (nI (n + sb_dg v))]) (rest := []) ⟨hx, hb, hml, hown, hts⟩ hPx (m_J23_ensureCapacityInternal (X := xl X []) (Or.inl hX) (Or.inl hA) hne hm hf (q := n + sb_dg v) hn70) RCt.blind (RCt.pre hR hK hPx) q1699 q1701 q1720 rfl (List.mem_of_getElem? (i := 0) rfl) q118 q1702 rfl rfl (by decide +kernel) ⟨(Nat.le_of_ble_eq_true rfl), (Nat.le_of_ble_eq_true rfl)⟩ (rv_at2 hK (hR.X hX) rfl) rfl rfl hl.1 rfl (lv_room (Nat.le_of_ble_eq_true rfl)) dJ23_append_14 ⟨(Nat.le_of_ble_eq_true rfl), (Nat.le_of_ble_eq_true rfl)⟩) hS (fun _ _ h => h) (fun _ h => h) (fun u t H1 locs1 ht _ hp hB hz _ hS => ?_)
  rw [ht] at hB
  obtain ⟨a2, m2, f2⟩ := u
  obtain ⟨hq2, hm2, hne2, hf2, hk2, hmm, hnew⟩ := hp
  dsimp only at hB hq2 hm2 hne2 hf2 hk2 hmm hnew
  replace hnew : ∀ p e, p ≠ a → X p e → p ≠ a2 := fun p e h1 h2 => hnew p e h1 (Or.inl h2)
  have hR : Rp κ w y (X2 X sb a2 (sbC a2 mb (nI n)) (byC κ m2 f2)) [] H1 := hB.wk (X2_mono xl_l)
  clear hB ht hz
  generalize H1 = H at hR hS ⊢
  have hX2 : X2 X sb a2 (sbC a2 mb (nI n)) (byC κ m2 f2) sb (sbC a2 mb (nI n)) := X2_s hne2
  have hA2 : X2 X sb a2 (sbC a2 mb (nI n)) (byC κ m2 f2) a2 (byC κ m2 f2) := X2_a
  refine lv_aload_n hx hb dJ23_append_17 rfl (lv_at hl 2 rfl) ?_
  refine ce_s (cr_U (C := RJ24) (owner := "java/lang/AbstractStringBuilder") (Z := yJ23_isLatin1) (n := 0) (As := []) (rest := []) ⟨hx, hb, hml, hown, hts⟩ hK hR (m_J23_isLatin1 (Or.inl hX2)) q1717 q1719 q1720 q1718 q118 q1721 rfl rfl rfl (by decide +kernel) ⟨(Nat.le_of_ble_eq_true rfl), (Nat.le_of_ble_eq_true rfl)⟩ (rv_at2 hK (hR.X hX2) rfl) rfl rfl hl.1 rfl (lv_room (Nat.le_of_ble_eq_true rfl)) dJ23_append_18 ⟨(Nat.le_of_ble_eq_true rfl), (Nat.le_of_ble_eq_true rfl)⟩) ?_
  refine lv_if_eq (tgt := 37) hx hb dJ23_append_21 (by decide) (fun c9 => absurd c9 (by decide)) (fun _ => ?_)
  refine lv_iload_n hx hb dJ23_append_24 rfl (lv_at hl 3 rfl) ?_
  refine lv_iload_n hx hb dJ23_append_25 rfl (lv_at hl 0 rfl) ?_
  refine lv_aload_n hx hb dJ23_append_26 rfl (lv_at hl 2 rfl) ?_
  refine xa_get (T := TJ24) (N := 4) (v := .ref a2) hx hb hts in_J24 hown hK.1 (hR.X hX2) rfl 0 (by decide) q1676 rfl rfl dJ23_append_27 ?_
  refine va_calli (cr_S (n := 3) (As := [.int (nI v), .int (nI (n + sb_dg v)), .ref a2]) (rest := []) ⟨hx, hb, hml, hown, hts⟩ hK hR (m_J20_getChars (X := xl (X2 X sb a2 (sbC a2 mb (nI n)) (byC κ m2 f2)) []) (n := n) (Or.inl hA2) hv hm2 hq2 hf2) q1722 q1723 q110 q1724 rfl rfl hds_J20_getChars ⟨(Nat.le_of_ble_eq_true rfl), (Nat.le_of_ble_eq_true rfl)⟩ rfl rfl hl.1 rfl (lv_room (Nat.le_of_ble_eq_true rfl)) dJ23_append_30 ⟨(Nat.le_of_ble_eq_true rfl), (Nat.le_of_ble_eq_true rfl)⟩) hS (fun _ _ h => h) (fun _ h => h) (fun r u t H1 locs1 ht _ hp hB hz _ hS => ?_)
  rw [ht] at hB
  obtain ⟨g1, g2, g3⟩ := hp
  have hR : Rp κ w y (upX (X2 X sb a2 (sbC a2 mb (nI n)) (byC κ m2 f2)) a2 (byC κ m2 u)) [] H1 := hB.wk (upX_mono xl_l)
  clear hB ht hz
  generalize H1 = H at hR hS ⊢
  refine lv_pop hx hb dJ23_append_33 rfl ?_
  refine lv_goto (tgt := 48) hx hb dJ23_append_34 (by decide) ?_
  refine lv_aload_n hx hb dJ23_append_48 rfl (lv_at hl 2 rfl) ?_
  refine lv_iload_n hx hb dJ23_append_49 rfl (lv_at hl 0 rfl) ?_
  have hX3 : upX (X2 X sb a2 (sbC a2 mb (nI n)) (byC κ m2 f2)) a2 (byC κ m2 u) sb (sbC a2 mb (nI n)) := Or.inr ⟨fun e => hne2 e.symm, hX2⟩
  refine xa_put (T := TJ24) (N := 4) hx hb hts in_J24 tyJ24 tyJ24_ok nmJ24 hown hK.1 hS (hR.2.2.2.1 _ _ hX3).2.1 (hR.X hX3) rfl 3 (by decide) q1679 rfl rfl rfl rfl (Nat.le_of_ble_eq_true rfl) dJ23_append_50 (fun H1 locs h1 hz ho hS => ?_)
  have hR := hR.putX hX3 h1 hz ho
  clear h1 hz ho
  generalize H1 = H at hR hS ⊢
  have hR : Rp κ w y (X2 X sb a2 (sbC a2 mb (nI (n + sb_dg v))) (byC κ m2 u)) [] H := hR.X2w (Or.inl ⟨rfl, rfl⟩) (Or.inr ⟨hne2, upX_self _ _ _⟩) (fun p9 e9 h1 h2 h3 => Or.inr ⟨h1, Or.inr ⟨h2, X2_o h1 h2 h3⟩⟩)
  refine lv_aload_n hx hb dJ23_append_53 rfl (lv_at hl 2 rfl) ?_
  exact W.aret hx hb hr (Or.inl ⟨_, rfl⟩) (Or.inr ⟨_, rfl⟩) (fun t ht hW9 => ⟨⟨(a2, m2, u), sb, rfl, ⟨hq2, hm2, hne2, g3, sb_latPut hL (fun j hj => (g1 j hj).trans (hk2 j (by omega))) (fun i hi => ⟨by unfold sb_dec; omega, g2 i hi⟩), hnew⟩, rfl, rpt ht hR⟩, hS.F ht⟩) hS.2.2 dJ23_append_54
theorem hd_J24_append : yJ24_append.cls = RJ24 ∧ yJ24_append.cls ≠ "java/lang/invoke/MethodHandle" ∧ yJ24_append.cls ≠ "java/lang/invoke/VarHandle" ∧ (parseMethodDescriptor yJ24_append.desc).map (fun d => d.parameters.length) = some 1 := by decide +kernel
abbrev rm_J24_append : Room := { frames := 5, cells := 1, slots := 140, locals := 220 }
set_option maxHeartbeats 4000000 in
theorem m_J24_append {l : Launch} {κ : Kx} {w : Wd} {y : Ly} {X : XR} {sb a m9 n : Nat} {mb : Int32} {f : Nat → Int32} (hX : X sb (sbC a mb (nI n))) (hA : X a (byC κ m9 f)) (hne : a ≠ sb) (hm : m9 ≤ 140) (hf : sb_Fit f) {t : Nat → Nat} (hL : sb_Lat t n f) (hnm : n ≤ m9) {v : Nat} (hv : v < 2 ^ 31) (hn70 : n + sb_dg v ≤ 70) : Met l yJ24_append (ws_ yJ24_append cJ24_append 2 (Option.some (Jvm.ClassFile.FieldType.object "java/lang/StringBuilder"))) rm_J24_append (va_Pc [.ref sb, .int (nI v)] (RCt κ w y X)) (va_Qr (fun u : Nat × Nat × (Nat → Int32) => n + sb_dg v ≤ u.2.1 ∧ u.2.1 ≤ 140 ∧ u.1 ≠ sb ∧ sb_Fit u.2.2 ∧ sb_Lat (sb_cat t n (sb_dec v)) (n + sb_dg v) u.2.2 ∧ ∀ p e, p ≠ a → X p e → p ≠ u.1) (fun u ra t => ra = sb ∧ Rp κ w y (X2 X sb u.1 (sbC u.1 mb (nI (n + sb_dg v))) (byC κ u.2.1 u.2.2)) [] t.heap) (Af κ)) 1 140 (Af κ) := by
  refine Met.ofW (cc := cJ24_append) (maxL := 2) (ret := (Option.some (Jvm.ClassFile.FieldType.object "java/lang/StringBuilder"))) (by decide) rfl ?_
  intro p e s m args below meth c s₁ B hml hv
  obtain ⟨rfl, ⟨hR, hK⟩, hPx⟩ := hv
  have hx := B.exec
  have hb := B.bytes
  have hr := B.returns
  have hts := atoms_spec (ws := ws_ yJ24_append cJ24_append 2 (Option.some (Jvm.ClassFile.FieldType.object "java/lang/StringBuilder"))) B.pre
  have hts : ∀ w ∈ lw_all, w.before _ s = true := fun w h => hts w (List.mem_cons_of_mem _ h)
  have hown : s.vm.findClass RJ24 = some m.cls := findClass_of_methodNamed B.named
  have hlocks := B.notSynchronized
  have hS : va_S (Af κ) s.heap s.heap [] := va_S.rf
  have hl := lv_entry ([.ref sb, .int (nI v)]) (n := 2) (Nat.le_of_ble_eq_true rfl)
  rw [lg_entry_eq]
  generalize (lg_sl ([.ref sb, .int (nI v)]) ++ List.replicate (2 - (lg_sl ([.ref sb, .int (nI v)])).length) Slot.unset).toArray = ls at hl ⊢
  have hl : lv_has ls 2 [(0, .ref sb), (1, .int (nI v))] := hl
  refine lv_aload_n hx hb dJ24_append_0 rfl (lv_at hl 0 rfl) ?_
  refine lv_iload_n hx hb dJ24_append_1 rfl (lv_at hl 1 rfl) ?_
  refine va_callr (crt_SU (ci := 20) (n := 1) (As := [.int (nI v)]) (rest := []) ⟨hx, hb, hml, hown, hts⟩ hK (m_J23_append (X := xl X []) (Or.inl hX) (Or.inl hA) hne hm hf hL hnm hv hn70) RCt.blind (RCt.pre hR hK hPx) q1693 q2641 q1688 q1694 q118 q1695 rfl rfl (by decide +kernel) ⟨(Nat.le_of_ble_eq_true rfl), (Nat.le_of_ble_eq_true rfl)⟩ rfl (rv_at2 hK (hR.X hX) rfl) rfl rfl hl.1 rfl (lv_room (Nat.le_of_ble_eq_true rfl)) dJ24_append_2 ⟨(Nat.le_of_ble_eq_true rfl), (Nat.le_of_ble_eq_true rfl)⟩) hS (fun _ _ h => h) (fun _ h => h) (fun u ra t H1 locs1 ht _ hp hB hz _ hS => ?_)
  rw [ht] at hB
  obtain ⟨rfl, hB⟩ := hB
  have hR : Rp κ w y (X2 X ra u.1 (sbC u.1 mb (nI (n + sb_dg v))) (byC κ u.2.1 u.2.2)) [] H1 := hB.wk (X2_mono xl_l)
  refine lv_pop hx hb dJ24_append_5 rfl ?_
  refine lv_aload_n hx hb dJ24_append_6 rfl (lv_at hl 0 rfl) ?_
  exact W.aret hx hb hr (Or.inl ⟨_, rfl⟩) (Or.inr ⟨_, rfl⟩) (fun t ht hW9 => ⟨⟨u, ra, rfl, ⟨hp.1, hp.2.1, hp.2.2.1, hp.2.2.2.1, hp.2.2.2.2.1, fun p e h1 h2 => hp.2.2.2.2.2 p e h1 (Or.inl h2)⟩, rfl, rpt ht hR⟩, hS.F ht⟩) hS.2.2 dJ24_append_7
theorem hd_J23_inflateIfNeededFor : yJ23_inflateIfNeededFor.cls = RJ23 ∧ yJ23_inflateIfNeededFor.cls ≠ "java/lang/invoke/MethodHandle" ∧ yJ23_inflateIfNeededFor.cls ≠ "java/lang/invoke/VarHandle" ∧ (parseMethodDescriptor yJ23_inflateIfNeededFor.desc).map (fun d => d.parameters.length) = some 1 := by decide +kernel
abbrev rm_J23_inflateIfNeededFor : Room := { frames := 1, locals := 30 }
set_option maxHeartbeats 4000000 in
theorem m_J23_inflateIfNeededFor {l : Launch} {κ : Kx} {w : Wd} {y : Ly} {X : XR} {sb a : Nat} {mb cn : Int32} (hX : X sb (sbC a mb cn)) {q bA : Nat} {hh zz : Int32} (hq : ∀ H, Rp κ w y X [] H → va_at (kD κ) Cl (q, stC bA hh zz) H) : Met l yJ23_inflateIfNeededFor (ws_ yJ23_inflateIfNeededFor cJ23_inflateIfNeededFor 2 (Option.none : Option Jvm.ClassFile.FieldType)) rm_J23_inflateIfNeededFor (va_Pc [.ref sb, .ref q] (RC κ w y X)) (Qu) 0 0 (nofree) := by
  refine Met.ofW (cc := cJ23_inflateIfNeededFor) (maxL := 2) (ret := (Option.none : Option Jvm.ClassFile.FieldType)) (by decide) rfl ?_
  intro p e s m args below meth c s₁ B hml hv
  obtain ⟨rfl, hR, hK⟩ := hv
  have hx := B.exec
  have hb := B.bytes
  have hr := B.returns
  have hts := atoms_spec (ws := ws_ yJ23_inflateIfNeededFor cJ23_inflateIfNeededFor 2 (Option.none : Option Jvm.ClassFile.FieldType)) B.pre
  have hts : ∀ w ∈ lw_all, w.before _ s = true := fun w h => hts w (List.mem_cons_of_mem _ h)
  have hown : s.vm.findClass RJ23 = some m.cls := findClass_of_methodNamed B.named
  have hlocks := B.notSynchronized
  have hS : va_S (Af κ) s.heap s.heap [] := va_S.rf
  have hl := lv_entry ([.ref sb, .ref q]) (n := 2) (Nat.le_of_ble_eq_true rfl)
  rw [lg_entry_eq]
  generalize (lg_sl ([.ref sb, .ref q]) ++ List.replicate (2 - (lg_sl ([.ref sb, .ref q])).length) Slot.unset).toArray = ls at hl ⊢
  have hl : lv_has ls 2 [(0, .ref sb), (1, .ref q)] := hl
  refine jr_getsI (C := "java/lang/String") (n := "COMPACT_STRINGS") (d := "Z") (v := 1) hx hb hown hK hR (List.mem_of_getElem? (i := 0) rfl) q1667 hts dJ23_inflateIfNeededFor_0 ?_
  refine lv_if_eq (tgt := 21) hx hb dJ23_inflateIfNeededFor_3 (by decide) (fun c9 => absurd c9 (by decide)) (fun _ => ?_)
  refine lv_aload_n hx hb dJ23_inflateIfNeededFor_6 rfl (lv_at hl 0 rfl) ?_
  refine xa_get (T := TJ24) (N := 4) (v := .int 0) hx hb hts in_J24 hown hK.1 (hR.X hX) rfl 1 (by decide) q1677 rfl rfl dJ23_inflateIfNeededFor_7 ?_
  refine lv_aload_n hx hb dJ23_inflateIfNeededFor_10 rfl (lv_at hl 1 rfl) ?_
  refine ce_s (cr_V (n := 0) (As := []) (rest := [.int 0]) ⟨hx, hb, hml, hown, hts⟩ hK hR (m_J17_coder (X := xl X []) (fun H h => hq H h.xl0)) q1792 q1780 q1781 q104 q1782 rfl rfl hd_J17_coder ⟨Nat.le_of_ble_eq_true rfl, Nat.le_of_ble_eq_true rfl⟩ (rv_at2 hK (hq _ hR) rfl) rfl rfl hl.1 rfl (lv_room (Nat.le_of_ble_eq_true rfl)) dJ23_inflateIfNeededFor_11 ⟨Nat.le_of_ble_eq_true rfl, Nat.le_of_ble_eq_true rfl⟩) ?_
  refine lv_icmp_eq (tgt := 21) hx hb dJ23_inflateIfNeededFor_14 (by decide) (fun _ => ?_) (fun c9 => absurd rfl c9)
  exact W.vret hx hb hr (fun t ht _ => ⟨rfl, ht⟩) (fun q h => by cases h) dJ23_inflateIfNeededFor_21
theorem hd_J17_getBytes : yJ17_getBytes.cls = RJ17 ∧ yJ17_getBytes.cls ≠ "java/lang/invoke/MethodHandle" ∧ yJ17_getBytes.cls ≠ "java/lang/invoke/VarHandle" ∧ (parseMethodDescriptor yJ17_getBytes.desc).map (fun d => d.parameters.length) = some 3 := by decide +kernel
abbrev rm_J17_getBytes : Room := { frames := 1, locals := 60 }
set_option maxHeartbeats 4000000 in
theorem m_J17_getBytes {l : Launch} {κ : Kx} {w : Wd} {y : Ly} {X : XR} {a m9 n : Nat} {f : Nat → Int32} (hA : X a (byC κ m9 f)) (hm : m9 ≤ 140) {q bA k : Nat} {hh zz : Int32} {sf : Nat → Int32} {s9 : Nat → Nat} (hq : ∀ H, Rp κ w y X [] H → va_at (kD κ) Cl (q, stC bA hh zz) H ∧ va_at (kD κ) Cl (bA, byC κ k sf) H) (hsf : sb_Fit sf) (hnk : n + k ≤ m9) : Met l yJ17_getBytes (ws_ yJ17_getBytes cJ17_getBytes 4 (Option.none : Option Jvm.ClassFile.FieldType)) rm_J17_getBytes (va_Pc [.ref q, .ref a, .int (nI n), .int 0] (RC κ w y X)) (va_Qv (fun _ : Unit => True) (fun _ t => Rp κ w y (upX X a (byC κ m9 (va_cpy sf f 0 n k))) [] t.heap) (Af κ)) 0 0 (Af κ) := by
  refine Met.ofW (cc := cJ17_getBytes) (maxL := 4) (ret := (Option.none : Option Jvm.ClassFile.FieldType)) (by decide) rfl ?_
  intro p e s m args below meth c s₁ B hml hv
  obtain ⟨rfl, hR, hK⟩ := hv
  have hx := B.exec
  have hb := B.bytes
  have hr := B.returns
  have hts := atoms_spec (ws := ws_ yJ17_getBytes cJ17_getBytes 4 (Option.none : Option Jvm.ClassFile.FieldType)) B.pre
  have hts : ∀ w ∈ lw_all, w.before _ s = true := fun w h => hts w (List.mem_cons_of_mem _ h)
  have hown : s.vm.findClass RJ17 = some m.cls := findClass_of_methodNamed B.named
  have hlocks := B.notSynchronized
  have hS : va_S (Af κ) s.heap s.heap [] := va_S.rf
  have hl := lv_entry ([.ref q, .ref a, .int (nI n), .int 0]) (n := 4) (Nat.le_of_ble_eq_true rfl)
  rw [lg_entry_eq]
  generalize (lg_sl ([.ref q, .ref a, .int (nI n), .int 0]) ++ List.replicate (4 - (lg_sl ([.ref q, .ref a, .int (nI n), .int 0])).length) Slot.unset).toArray = ls at hl ⊢
  have hl : lv_has ls 4 [(0, .ref q), (1, .ref a), (2, .int (nI n)), (3, .int 0)] := hl
  refine lv_aload_n hx hb dJ17_getBytes_0 rfl (lv_at hl 0 rfl) ?_
  refine ce_s (cr_V (n := 0) (As := []) (rest := []) ⟨hx, hb, hml, hown, hts⟩ hK hR (m_J17_coder (X := xl X []) (fun H h => (hq H h.xl0).1)) q1779 q1780 q1781 q104 q1782 rfl rfl hd_J17_coder ⟨Nat.le_of_ble_eq_true rfl, Nat.le_of_ble_eq_true rfl⟩ (rv_at2 hK (hq _ hR).1 rfl) rfl rfl hl.1 rfl (lv_room (Nat.le_of_ble_eq_true rfl)) dJ17_getBytes_1 ⟨Nat.le_of_ble_eq_true rfl, Nat.le_of_ble_eq_true rfl⟩) ?_
  refine lv_iload_n hx hb dJ17_getBytes_4 rfl (lv_at hl 3 rfl) ?_
  refine lv_icmp_ne (tgt := 28) hx hb dJ17_getBytes_5 (by decide) (fun c9 => absurd c9 (fun h => h rfl)) (fun _ => ?_)
  refine lv_aload_n hx hb dJ17_getBytes_8 rfl (lv_at hl 0 rfl) ?_
  refine xa_get (T := TJ17) (N := 4) (v := .ref bA) hx hb hts in_J17 hown hK.1 (hq _ hR).1 rfl 0 (by decide) q1878 rfl rfl dJ17_getBytes_9 ?_
  refine lv_iconst (v := (0 : Int32)) hx hb dJ17_getBytes_12 (by decide) ?_
  refine lv_aload_n hx hb dJ17_getBytes_13 rfl (lv_at hl 1 rfl) ?_
  refine lv_iload_n hx hb dJ17_getBytes_14 rfl (lv_at hl 2 rfl) ?_
  refine lv_iload_n hx hb dJ17_getBytes_15 rfl (lv_at hl 3 rfl) ?_
  refine lv_ishl hx hb dJ17_getBytes_16 ?_
  have e0 : nI n <<< ((0 : Int32) &&& 31) = nI n := sb_shl0 _
  refine W.eq (g2 := F0 m 17 ls [.int (nI n), .ref a, .int 0, .ref bA]) (congrArg (fun z9 => F0 m 17 ls [.int z9, .ref a, .int 0, .ref bA]) e0) ?_
  refine lv_aload_n hx hb dJ17_getBytes_17 rfl (lv_at hl 0 rfl) ?_
  refine xa_get (T := TJ17) (N := 4) (v := .ref bA) hx hb hts in_J17 hown hK.1 (hq _ hR).1 rfl 0 (by decide) q1878 rfl rfl dJ17_getBytes_18 ?_
  refine xa_alen hx hb hK.1 (hq _ hR).2 3 rfl dJ17_getBytes_21 ?_
  have ez : (0 : Int32).toNatClampNeg = 0 := sb_cl0
  have en : (nI n).toNatClampNeg = n := nI_clamp (by omega)
  have ek : (nI k).toNatClampNeg = k := nI_clamp (by omega)
  refine xa_copyb (f := sf) (g := f) (n0 := k) (n1 := m9) (rest := []) hx hb (hml.trans hl.1.symm) hown q1816 hts hK.1 hS (hR.2.2.2.1 _ _ hA).2.1 3 (hq _ hR).2 (hR.X hA) rfl (by decide) (nI_pos (by omega)) (nI_pos (by omega)) (by rw [ez, ek]; omega) (by rw [en, ek]; omega) hsf (Nat.le_of_ble_eq_true rfl) (Nat.le_of_ble_eq_true rfl) dJ17_getBytes_22 (fun H1 locs h1 hz ho hS => ?_)
  rw [ez, en, ek] at h1
  have hR := hR.putX hA h1 hz ho
  clear h1 hz ho
  generalize H1 = H at hR hS ⊢
  refine lv_goto (tgt := 43) hx hb dJ17_getBytes_25 (by decide) ?_
  exact W.vret hx hb hr (fun t ht hW9 => ⟨⟨(), rfl, trivial, rpt ht hR⟩, hS.F ht⟩) hS.2.2 dJ17_getBytes_43
theorem hd_J23_putStringAt : yJ23_putStringAt.cls = RJ23 ∧ yJ23_putStringAt.cls ≠ "java/lang/invoke/MethodHandle" ∧ yJ23_putStringAt.cls ≠ "java/lang/invoke/VarHandle" ∧ (parseMethodDescriptor yJ23_putStringAt.desc).map (fun d => d.parameters.length) = some 2 := by decide +kernel
abbrev rm_J23_putStringAt : Room := { frames := 2, locals := 100 }
set_option maxHeartbeats 4000000 in
theorem m_J23_putStringAt {l : Launch} {κ : Kx} {w : Wd} {y : Ly} {X : XR} {sb a m9 n : Nat} {mb : Int32} {cn : Int32} {f : Nat → Int32} (hX : X sb (sbC a mb cn)) (hA : X a (byC κ m9 f)) (hne : a ≠ sb) (hm : m9 ≤ 140) {q bA k : Nat} {hh zz : Int32} {sf : Nat → Int32} {s9 : Nat → Nat} (hq : ∀ H, Rp κ w y X [] H → va_at (kD κ) Cl (q, stC bA hh zz) H ∧ va_at (kD κ) Cl (bA, byC κ k sf) H) (hsf : sb_Fit sf) (hnk : n + k ≤ m9) : Met l yJ23_putStringAt (ws_ yJ23_putStringAt cJ23_putStringAt 3 (Option.none : Option Jvm.ClassFile.FieldType)) rm_J23_putStringAt (va_Pc [.ref sb, .int (nI n), .ref q] (RCt κ w y X)) (va_Qv (fun _ : Unit => True) (fun _ t => Rp κ w y (upX X a (byC κ m9 (va_cpy sf f 0 n k))) [] t.heap) (Af κ)) 0 0 (Af κ) := by
  refine Met.ofW (cc := cJ23_putStringAt) (maxL := 3) (ret := (Option.none : Option Jvm.ClassFile.FieldType)) (by decide) rfl ?_
  intro p e s m args below meth c s₁ B hml hv
  obtain ⟨rfl, ⟨hR, hK⟩, hPx⟩ := hv
  have hx := B.exec
  have hb := B.bytes
  have hr := B.returns
  have hts := atoms_spec (ws := ws_ yJ23_putStringAt cJ23_putStringAt 3 (Option.none : Option Jvm.ClassFile.FieldType)) B.pre
  have hts : ∀ w ∈ lw_all, w.before _ s = true := fun w h => hts w (List.mem_cons_of_mem _ h)
  have hown : s.vm.findClass RJ23 = some m.cls := findClass_of_methodNamed B.named
  have hlocks := B.notSynchronized
  have hS : va_S (Af κ) s.heap s.heap [] := va_S.rf
  have hl := lv_entry ([.ref sb, .int (nI n), .ref q]) (n := 3) (Nat.le_of_ble_eq_true rfl)
  rw [lg_entry_eq]
  generalize (lg_sl ([.ref sb, .int (nI n), .ref q]) ++ List.replicate (3 - (lg_sl ([.ref sb, .int (nI n), .ref q])).length) Slot.unset).toArray = ls at hl ⊢
  have hl : lv_has ls 3 [(0, .ref sb), (1, .int (nI n)), (2, .ref q)] := hl
  refine lv_aload_n hx hb dJ23_putStringAt_0 rfl (lv_at hl 0 rfl) ?_
  refine lv_aload_n hx hb dJ23_putStringAt_1 rfl (lv_at hl 2 rfl) ?_
  refine ce_u (crp_V (C := "java/lang/StringBuilder") (Z := yJ23_isLatin1) (n := 1) (As := [.ref q]) (rest := []) ⟨hx, hb, hml, hown, hts⟩ hPx (m_J23_inflateIfNeededFor (X := xl X []) (Or.inl hX) (fun H h => (hq H h.xl0).1)) RC.blind (RC.pre hR hK) q1788 q1790 q1720 rfl (List.mem_of_getElem? (i := 3) rfl) q118 q1791 rfl rfl (by decide +kernel) ⟨(Nat.le_of_ble_eq_true rfl), (Nat.le_of_ble_eq_true rfl)⟩ (rv_at2 hK (hR.X hX) rfl) rfl rfl hl.1 rfl (lv_room (Nat.le_of_ble_eq_true rfl)) dJ23_putStringAt_2 ⟨(Nat.le_of_ble_eq_true rfl), (Nat.le_of_ble_eq_true rfl)⟩) ?_
  refine lv_aload_n hx hb dJ23_putStringAt_5 rfl (lv_at hl 2 rfl) ?_
  refine lv_aload_n hx hb dJ23_putStringAt_6 rfl (lv_at hl 0 rfl) ?_
  refine xa_get (T := TJ24) (N := 4) (v := .ref a) hx hb hts in_J24 hown hK.1 (hR.X hX) rfl 0 (by decide) q1676 rfl rfl dJ23_putStringAt_7 ?_
  refine lv_iload_n hx hb dJ23_putStringAt_10 rfl (lv_at hl 1 rfl) ?_
  refine lv_aload_n hx hb dJ23_putStringAt_11 rfl (lv_at hl 0 rfl) ?_
  refine xa_get (T := TJ24) (N := 4) (v := .int 0) hx hb hts in_J24 hown hK.1 (hR.X hX) rfl 1 (by decide) q1677 rfl rfl dJ23_putStringAt_12 ?_
  refine va_callv (cr_V (n := 3) (As := [.ref a, .int (nI n), .int 0]) (rest := []) ⟨hx, hb, hml, hown, hts⟩ hK hR (m_J17_getBytes (s9 := s9) (X := xl X []) (Or.inl hA) hm (fun H h => hq H h.xl0) hsf hnk) q1812 q1813 q1814 q104 q1815 rfl rfl hd_J17_getBytes ⟨(Nat.le_of_ble_eq_true rfl), (Nat.le_of_ble_eq_true rfl)⟩ (rv_at2 hK (hq _ hR).1 rfl) rfl rfl hl.1 rfl (lv_room (Nat.le_of_ble_eq_true rfl)) dJ23_putStringAt_15 ⟨(Nat.le_of_ble_eq_true rfl), (Nat.le_of_ble_eq_true rfl)⟩) hS (fun _ _ h => h) (fun _ h => h) (fun u t H1 locs1 ht _ hp hB hz _ hS => ?_)
  rw [ht] at hB
  have hR : Rp κ w y (upX X a (byC κ m9 (va_cpy sf f 0 n k))) [] H1 := hB.wk (upX_mono xl_l)
  exact W.vret hx hb hr (fun t ht hW9 => ⟨⟨(), rfl, trivial, rpt ht hR⟩, hS.F ht⟩) hS.2.2 dJ23_putStringAt_18
theorem hd_J23_append_2 : yJ23_append_2.cls = RJ23 ∧ yJ23_append_2.cls ≠ "java/lang/invoke/MethodHandle" ∧ yJ23_append_2.cls ≠ "java/lang/invoke/VarHandle" ∧ (parseMethodDescriptor yJ23_append_2.desc).map (fun d => d.parameters.length) = some 1 := by decide +kernel
abbrev rm_J23_append_2 : Room := { frames := 4, cells := 1, slots := 140, locals := 180 }
set_option maxHeartbeats 4000000 in
theorem m_J23_append_2 {l : Launch} {κ : Kx} {w : Wd} {y : Ly} {X : XR} {sb a m9 n : Nat} {mb : Int32} {f : Nat → Int32} (hX : X sb (sbC a mb (nI n))) (hA : X a (byC κ m9 f)) (hne : a ≠ sb) (hm : m9 ≤ 140) (hf : sb_Fit f) {t : Nat → Nat} (hL : sb_Lat t n f) (hnm : n ≤ m9) {q bA k : Nat} {hh zz : Int32} {sf : Nat → Int32} {s9 : Nat → Nat} (hq : ∀ (X9 : XR) H, (∀ p e, p ≠ sb → p ≠ a → X p e → X9 p e) → Rp κ w y X9 [] H → va_at (kD κ) Cl (q, stC bA hh zz) H ∧ va_at (kD κ) Cl (bA, byC κ k sf) H) (hsL : sb_Lat s9 k sf) (hsf : sb_Fit sf) (hn70 : n + k ≤ 70) : Met l yJ23_append_2 (ws_ yJ23_append_2 cJ23_append_2 3 (Option.some (Jvm.ClassFile.FieldType.object "java/lang/AbstractStringBuilder"))) rm_J23_append_2 (va_Pc [.ref sb, .ref q] (RCt κ w y X)) (va_Qr (fun u : Nat × Nat × (Nat → Int32) => n + k ≤ u.2.1 ∧ u.2.1 ≤ 140 ∧ u.1 ≠ sb ∧ sb_Fit u.2.2 ∧ sb_Lat (sb_cat t n s9) (n + k) u.2.2 ∧ ∀ p e, p ≠ a → X p e → p ≠ u.1) (fun u ra t => ra = sb ∧ Rp κ w y (X2 X sb u.1 (sbC u.1 mb (nI (n + k))) (byC κ u.2.1 u.2.2)) [] t.heap) (Af κ)) 1 140 (Af κ) := by
  refine Met.ofW (cc := cJ23_append_2) (maxL := 3) (ret := (Option.some (Jvm.ClassFile.FieldType.object "java/lang/AbstractStringBuilder"))) (by decide) rfl ?_
  intro p e s m args below meth c s₁ B hml hv
  obtain ⟨rfl, ⟨hR, hK⟩, hPx⟩ := hv
  have hx := B.exec
  have hb := B.bytes
  have hr := B.returns
  have hts := atoms_spec (ws := ws_ yJ23_append_2 cJ23_append_2 3 (Option.some (Jvm.ClassFile.FieldType.object "java/lang/AbstractStringBuilder"))) B.pre
  have hts : ∀ w ∈ lw_all, w.before _ s = true := fun w h => hts w (List.mem_cons_of_mem _ h)
  have hown : s.vm.findClass RJ23 = some m.cls := findClass_of_methodNamed B.named
  have hlocks := B.notSynchronized
  have hS : va_S (Af κ) s.heap s.heap [] := va_S.rf
  have hl := lv_entry ([.ref sb, .ref q]) (n := 3) (Nat.le_of_ble_eq_true rfl)
  rw [lg_entry_eq]
  generalize (lg_sl ([.ref sb, .ref q]) ++ List.replicate (3 - (lg_sl ([.ref sb, .ref q])).length) Slot.unset).toArray = ls at hl ⊢
  have hl : lv_has ls 3 [(0, .ref sb), (1, .ref q)] := hl
  refine lv_aload_n hx hb dJ23_append_2_0 rfl (lv_at hl 1 rfl) ?_
  refine lv_ifnonnull (tgt := 9) hx hb dJ23_append_2_1 (by decide) ?_
  refine lv_aload_n hx hb dJ23_append_2_9 rfl (lv_at hl 1 rfl) ?_
  refine ce_s (cr_V (n := 0) (As := []) (rest := []) ⟨hx, hb, hml, hown, hts⟩ hK hR (m_J17_length (X := xl X []) (fun H h => (hq X H (fun _ _ _ _ h => h) h.xl0).1) (fun H h => (hq X H (fun _ _ _ _ h => h) h.xl0).2)) q1775 q1776 q1777 q104 q1778 rfl rfl hd_J17_length ⟨Nat.le_of_ble_eq_true rfl, Nat.le_of_ble_eq_true rfl⟩ (rv_at2 hK (hq X _ (fun _ _ _ _ h => h) hR).1 rfl) rfl rfl hl.1 rfl (lv_room (Nat.le_of_ble_eq_true rfl)) dJ23_append_2_10 ⟨Nat.le_of_ble_eq_true rfl, Nat.le_of_ble_eq_true rfl⟩) ?_
  refine lv_istore_n (lv' := [(2, .int (nI k)), (0, .ref sb), (1, .ref q)]) hx hb dJ23_append_2_13 rfl hl (by decide) rfl (fun ls hl => ?_)
  refine lv_aload_n hx hb dJ23_append_2_14 rfl (lv_at hl 1 rfl) ?_
  refine lv_aload_n hx hb dJ23_append_2_15 rfl (lv_at hl 1 rfl) ?_
  refine xa_get (T := TJ24) (N := 4) (v := .int (nI n)) hx hb hts in_J24 hown hK.1 (hR.X hX) rfl 3 (by decide) q1679 rfl rfl dJ23_append_2_16 ?_
  refine lv_iload_n hx hb dJ23_append_2_19 rfl (lv_at hl 0 rfl) ?_
  refine lv_iadd hx hb dJ23_append_2_20 ?_
  rw [nI_add]
  refine va_callv (crp_V (C := "java/lang/StringBuilder") (Z := yJ23_isLatin1) (n := 1) (As := [.int (nI (n + k))]) (rest := []) ⟨hx, hb, hml, hown, hts⟩ hPx (m_J23_ensureCapacityInternal (X := xl X []) (Or.inl hX) (Or.inl hA) hne hm hf (q := n + k) hn70) RCt.blind (RCt.pre hR hK hPx) q1699 q1701 q1720 rfl (List.mem_of_getElem? (i := 0) rfl) q118 q1702 rfl rfl (by decide +kernel) ⟨(Nat.le_of_ble_eq_true rfl), (Nat.le_of_ble_eq_true rfl)⟩ (rv_at2 hK (hR.X hX) rfl) rfl rfl hl.1 rfl (lv_room (Nat.le_of_ble_eq_true rfl)) dJ23_append_2_21 ⟨(Nat.le_of_ble_eq_true rfl), (Nat.le_of_ble_eq_true rfl)⟩) hS (fun _ _ h => h) (fun _ h => h) (fun u t H1 locs1 ht _ hp hB hz _ hS => ?_)
  rw [ht] at hB
  obtain ⟨a2, m2, f2⟩ := u
  obtain ⟨hq2, hm2, hne2, hf2, hk2, hmm, hnew⟩ := hp
  dsimp only at hB hq2 hm2 hne2 hf2 hk2 hmm hnew
  replace hnew : ∀ p e, p ≠ a → X p e → p ≠ a2 := fun p e h1 h2 => hnew p e h1 (Or.inl h2)
  have hR : Rp κ w y (X2 X sb a2 (sbC a2 mb (nI n)) (byC κ m2 f2)) [] H1 := hB.wk (X2_mono xl_l)
  clear hB ht hz
  generalize H1 = H at hR hS ⊢
  have hX2 : X2 X sb a2 (sbC a2 mb (nI n)) (byC κ m2 f2) sb (sbC a2 mb (nI n)) := X2_s hne2
  have hA2 : X2 X sb a2 (sbC a2 mb (nI n)) (byC κ m2 f2) a2 (byC κ m2 f2) := X2_a
  have hfr : ∀ p9 e9, p9 ≠ sb → p9 ≠ a → X p9 e9 → X2 X sb a2 (sbC a2 mb (nI n)) (byC κ m2 f2) p9 e9 := fun p9 e9 h1 h2 h3 => X2_o h1 (hnew p9 e9 h2 h3) h3
  have hq3 : ∀ H, Rp κ w y (X2 X sb a2 (sbC a2 mb (nI n)) (byC κ m2 f2)) [] H → va_at (kD κ) Cl (q, stC bA hh zz) H ∧ va_at (kD κ) Cl (bA, byC κ k sf) H := fun H h => hq _ H hfr h
  refine lv_aload_n hx hb dJ23_append_2_24 rfl (lv_at hl 1 rfl) ?_
  refine lv_aload_n hx hb dJ23_append_2_25 rfl (lv_at hl 1 rfl) ?_
  refine xa_get (T := TJ24) (N := 4) (v := .int (nI n)) hx hb hts in_J24 hown hK.1 (hR.X hX2) rfl 3 (by decide) q1679 rfl rfl dJ23_append_2_26 ?_
  refine lv_aload_n hx hb dJ23_append_2_29 rfl (lv_at hl 2 rfl) ?_
  refine va_callv (crp_V (C := "java/lang/StringBuilder") (Z := yJ23_isLatin1) (n := 2) (As := [.int (nI n), .ref q]) (rest := []) ⟨hx, hb, hml, hown, hts⟩ hPx (m_J23_putStringAt (s9 := s9) (X := xl (X2 X sb a2 (sbC a2 mb (nI n)) (byC κ m2 f2)) []) (Or.inl hX2) (Or.inl hA2) hne2 hm2 (fun H h => hq3 H h.xl0) hsf hq2) RCt.blind (RCt.pre hR hK hPx) q1784 q1786 q1720 rfl (List.mem_of_getElem? (i := 2) rfl) q118 q1787 rfl rfl (by decide +kernel) ⟨(Nat.le_of_ble_eq_true rfl), (Nat.le_of_ble_eq_true rfl)⟩ (rv_at2 hK (hR.X hX2) rfl) rfl rfl hl.1 rfl (lv_room (Nat.le_of_ble_eq_true rfl)) dJ23_append_2_30 ⟨(Nat.le_of_ble_eq_true rfl), (Nat.le_of_ble_eq_true rfl)⟩) hS (fun _ _ h => h) (fun _ h => h) (fun u t H1 locs1 ht _ hp hB hz _ hS => ?_)
  rw [ht] at hB
  have hR : Rp κ w y (upX (X2 X sb a2 (sbC a2 mb (nI n)) (byC κ m2 f2)) a2 (byC κ m2 (va_cpy sf f2 0 n k))) [] H1 := hB.wk (upX_mono xl_l)
  clear hB ht hz
  generalize H1 = H at hR hS ⊢
  refine lv_aload_n hx hb dJ23_append_2_33 rfl (lv_at hl 1 rfl) ?_
  refine lv_dup hx hb dJ23_append_2_34 rfl ?_
  have hX9 : upX (X2 X sb a2 (sbC a2 mb (nI n)) (byC κ m2 f2)) a2 (byC κ m2 (va_cpy sf f2 0 n k)) sb (sbC a2 mb (nI n)) := Or.inr ⟨fun e => hne2 e.symm, hX2⟩
  refine xa_get (T := TJ24) (N := 4) (v := .int (nI n)) hx hb hts in_J24 hown hK.1 (hR.X hX9) rfl 3 (by decide) q1679 rfl rfl dJ23_append_2_35 ?_
  refine lv_iload_n hx hb dJ23_append_2_38 rfl (lv_at hl 0 rfl) ?_
  refine lv_iadd hx hb dJ23_append_2_39 ?_
  rw [nI_add]
  have hX3 : upX (X2 X sb a2 (sbC a2 mb (nI n)) (byC κ m2 f2)) a2 (byC κ m2 (va_cpy sf f2 0 n k)) sb (sbC a2 mb (nI n)) := Or.inr ⟨fun e => hne2 e.symm, hX2⟩
  refine xa_put (T := TJ24) (N := 4) hx hb hts in_J24 tyJ24 tyJ24_ok nmJ24 hown hK.1 hS (hR.2.2.2.1 _ _ hX3).2.1 (hR.X hX3) rfl 3 (by decide) q1679 rfl rfl rfl rfl (Nat.le_of_ble_eq_true rfl) dJ23_append_2_40 (fun H1 locs h1 hz ho hS => ?_)
  have hR := hR.putX hX3 h1 hz ho
  clear h1 hz ho
  generalize H1 = H at hR hS ⊢
  have hR : Rp κ w y (X2 X sb a2 (sbC a2 mb (nI (n + k))) (byC κ m2 (va_cpy sf f2 0 n k))) [] H := hR.X2w (Or.inl ⟨rfl, rfl⟩) (Or.inr ⟨hne2, upX_self _ _ _⟩) (fun p9 e9 h1 h2 h3 => Or.inr ⟨h1, Or.inr ⟨h2, X2_o h1 h2 h3⟩⟩)
  refine lv_aload_n hx hb dJ23_append_2_43 rfl (lv_at hl 1 rfl) ?_
  exact W.aret hx hb hr (Or.inl ⟨_, rfl⟩) (Or.inr ⟨_, rfl⟩) (fun t ht hW9 => ⟨⟨(a2, m2, va_cpy sf f2 0 n k), sb, rfl, ⟨hq2, hm2, hne2, sb_fitC hsf hf2, sb_latPut hL (fun j hj => (pk_cpy_out (Or.inl hj)).trans (hk2 j (by omega))) (fun i hi => ⟨(hsL i hi).1, by show va_cpy sf f2 0 n k (n + i) = sb_b (s9 i); rw [pk_cpy_in (by omega) (by omega), show 0 + (n + i - n) = i by omega]; exact (hsL i hi).2⟩), hnew⟩, rfl, rpt ht hR⟩, hS.F ht⟩) hS.2.2 dJ23_append_2_44
theorem hd_J24_append_2 : yJ24_append_2.cls = RJ24 ∧ yJ24_append_2.cls ≠ "java/lang/invoke/MethodHandle" ∧ yJ24_append_2.cls ≠ "java/lang/invoke/VarHandle" ∧ (parseMethodDescriptor yJ24_append_2.desc).map (fun d => d.parameters.length) = some 1 := by decide +kernel
abbrev rm_J24_append_2 : Room := { frames := 5, cells := 1, slots := 140, locals := 220 }
set_option maxHeartbeats 4000000 in
theorem m_J24_append_2 {l : Launch} {κ : Kx} {w : Wd} {y : Ly} {X : XR} {sb a m9 n : Nat} {mb : Int32} {f : Nat → Int32} (hX : X sb (sbC a mb (nI n))) (hA : X a (byC κ m9 f)) (hne : a ≠ sb) (hm : m9 ≤ 140) (hf : sb_Fit f) {t : Nat → Nat} (hL : sb_Lat t n f) (hnm : n ≤ m9) {q bA k : Nat} {hh zz : Int32} {sf : Nat → Int32} {s9 : Nat → Nat} (hq : ∀ (X9 : XR) H, (∀ p e, p ≠ sb → p ≠ a → X p e → X9 p e) → Rp κ w y X9 [] H → va_at (kD κ) Cl (q, stC bA hh zz) H ∧ va_at (kD κ) Cl (bA, byC κ k sf) H) (hsL : sb_Lat s9 k sf) (hsf : sb_Fit sf) (hn70 : n + k ≤ 70) : Met l yJ24_append_2 (ws_ yJ24_append_2 cJ24_append_2 2 (Option.some (Jvm.ClassFile.FieldType.object "java/lang/StringBuilder"))) rm_J24_append_2 (va_Pc [.ref sb, .ref q] (RCt κ w y X)) (va_Qr (fun u : Nat × Nat × (Nat → Int32) => n + k ≤ u.2.1 ∧ u.2.1 ≤ 140 ∧ u.1 ≠ sb ∧ sb_Fit u.2.2 ∧ sb_Lat (sb_cat t n s9) (n + k) u.2.2 ∧ ∀ p e, p ≠ a → X p e → p ≠ u.1) (fun u ra t => ra = sb ∧ Rp κ w y (X2 X sb u.1 (sbC u.1 mb (nI (n + k))) (byC κ u.2.1 u.2.2)) [] t.heap) (Af κ)) 1 140 (Af κ) := by
  refine Met.ofW (cc := cJ24_append_2) (maxL := 2) (ret := (Option.some (Jvm.ClassFile.FieldType.object "java/lang/StringBuilder"))) (by decide) rfl ?_
  intro p e s m args below meth c s₁ B hml hv
  obtain ⟨rfl, ⟨hR, hK⟩, hPx⟩ := hv
  have hx := B.exec
  have hb := B.bytes
  have hr := B.returns
  have hts := atoms_spec (ws := ws_ yJ24_append_2 cJ24_append_2 2 (Option.some (Jvm.ClassFile.FieldType.object "java/lang/StringBuilder"))) B.pre
  have hts : ∀ w ∈ lw_all, w.before _ s = true := fun w h => hts w (List.mem_cons_of_mem _ h)
  have hown : s.vm.findClass RJ24 = some m.cls := findClass_of_methodNamed B.named
  have hlocks := B.notSynchronized
  have hS : va_S (Af κ) s.heap s.heap [] := va_S.rf
  have hl := lv_entry ([.ref sb, .ref q]) (n := 2) (Nat.le_of_ble_eq_true rfl)
  rw [lg_entry_eq]
  generalize (lg_sl ([.ref sb, .ref q]) ++ List.replicate (2 - (lg_sl ([.ref sb, .ref q])).length) Slot.unset).toArray = ls at hl ⊢
  have hl : lv_has ls 2 [(0, .ref sb), (1, .ref q)] := hl
  refine lv_aload_n hx hb dJ24_append_2_0 rfl (lv_at hl 0 rfl) ?_
  refine lv_aload_n hx hb dJ24_append_2_1 rfl (lv_at hl 1 rfl) ?_
  refine va_callr (crt_SU (ci := 20) (n := 1) (As := [.ref q]) (rest := []) ⟨hx, hb, hml, hown, hts⟩ hK (m_J23_append_2 (X := xl X []) (Or.inl hX) (Or.inl hA) hne hm hf hL hnm (fun X9 H h9 h => hq X9 H (fun p e h1 h2 h3 => h9 p e h1 h2 (Or.inl h3)) h) hsL hsf hn70) RCt.blind (RCt.pre hR hK hPx) q1765 q2644 q1688 q1766 q118 q1767 rfl rfl (by decide +kernel) ⟨(Nat.le_of_ble_eq_true rfl), (Nat.le_of_ble_eq_true rfl)⟩ rfl (rv_at2 hK (hR.X hX) rfl) rfl rfl hl.1 rfl (lv_room (Nat.le_of_ble_eq_true rfl)) dJ24_append_2_2 ⟨(Nat.le_of_ble_eq_true rfl), (Nat.le_of_ble_eq_true rfl)⟩) hS (fun _ _ h => h) (fun _ h => h) (fun u ra t H1 locs1 ht _ hp hB hz _ hS => ?_)
  rw [ht] at hB
  obtain ⟨rfl, hB⟩ := hB
  have hR : Rp κ w y (X2 X ra u.1 (sbC u.1 mb (nI (n + k))) (byC κ u.2.1 u.2.2)) [] H1 := hB.wk (X2_mono xl_l)
  refine lv_pop hx hb dJ24_append_2_5 rfl ?_
  refine lv_aload_n hx hb dJ24_append_2_6 rfl (lv_at hl 0 rfl) ?_
  exact W.aret hx hb hr (Or.inl ⟨_, rfl⟩) (Or.inr ⟨_, rfl⟩) (fun t ht hW9 => ⟨⟨u, ra, rfl, ⟨hp.1, hp.2.1, hp.2.2.1, hp.2.2.2.1, hp.2.2.2.2.1, fun p e h1 h2 => hp.2.2.2.2.2 p e h1 (Or.inl h2)⟩, rfl, rpt ht hR⟩, hS.F ht⟩) hS.2.2 dJ24_append_2_7
theorem hds_J12_checkLength : yJ12_checkLength.cls ≠ "java/lang/invoke/MethodHandle" ∧ yJ12_checkLength.cls ≠ "java/lang/invoke/VarHandle" ∧ (parseMethodDescriptor yJ12_checkLength.desc).map (fun d => d.parameters.length) = some 2 := by decide +kernel
abbrev rm_J12_checkLength : Room := {}
set_option maxHeartbeats 4000000 in
theorem m_J12_checkLength {l : Launch} {κ : Kx} {w : Wd} {y : Ly} {X : XR} {a b : Nat} (h : a ≤ b) (hb9 : b < 2 ^ 31) : Met l yJ12_checkLength (ws_ yJ12_checkLength cJ12_checkLength 2 (Option.none : Option Jvm.ClassFile.FieldType)) rm_J12_checkLength (va_Pc [.int (nI a), .int (nI b)] (RC κ w y X)) (Qu) 0 0 (nofree) := by
  refine Met.ofW (cc := cJ12_checkLength) (maxL := 2) (ret := (Option.none : Option Jvm.ClassFile.FieldType)) (by decide) rfl ?_
  intro p e s m args below meth c s₁ B hml hv
  obtain ⟨rfl, hR, hK⟩ := hv
  have hx := B.exec
  have hb := B.bytes
  have hr := B.returns
  have hts := atoms_spec (ws := ws_ yJ12_checkLength cJ12_checkLength 2 (Option.none : Option Jvm.ClassFile.FieldType)) B.pre
  have hts : ∀ w ∈ lw_all, w.before _ s = true := fun w h => hts w (List.mem_cons_of_mem _ h)
  have hown : s.vm.findClass RJ12 = some m.cls := findClass_of_methodNamed B.named
  have hlocks := B.notSynchronized
  have hS : va_S (Af κ) s.heap s.heap [] := va_S.rf
  have hl := lv_entry ([.int (nI a), .int (nI b)]) (n := 2) (Nat.le_of_ble_eq_true rfl)
  rw [lg_entry_eq]
  generalize (lg_sl ([.int (nI a), .int (nI b)]) ++ List.replicate (2 - (lg_sl ([.int (nI a), .int (nI b)])).length) Slot.unset).toArray = ls at hl ⊢
  have hl : lv_has ls 2 [(0, .int (nI a)), (1, .int (nI b))] := hl
  refine lv_iload_n hx hb dJ12_checkLength_0 rfl (lv_at hl 1 rfl) ?_
  refine lv_iload_n hx hb dJ12_checkLength_1 rfl (lv_at hl 0 rfl) ?_
  refine lv_icmp_ge (tgt := 37) hx hb dJ12_checkLength_2 (by decide) (fun _ => ?_) (fun c9 => absurd (nI_le h hb9) c9)
  exact W.vret hx hb hr (fun t ht _ => ⟨rfl, ht⟩) (fun q h => by cases h) dJ12_checkLength_37
theorem hds_J12_copyOfRangeByte : yJ12_copyOfRangeByte.cls ≠ "java/lang/invoke/MethodHandle" ∧ yJ12_copyOfRangeByte.cls ≠ "java/lang/invoke/VarHandle" ∧ (parseMethodDescriptor yJ12_copyOfRangeByte.desc).map (fun d => d.parameters.length) = some 3 := by decide +kernel
abbrev rm_J12_copyOfRangeByte : Room := { frames := 1, cells := 1, slots := 140, locals := 60 }
set_option maxHeartbeats 4000000 in
theorem m_J12_copyOfRangeByte {l : Launch} {κ : Kx} {w : Wd} {y : Ly} {X : XR} {a m9 n : Nat} {f : Nat → Int32} (hA : X a (byC κ m9 f)) (hm : m9 ≤ 140) (hnm : n ≤ m9) (hf : sb_Fit f) : Met l yJ12_copyOfRangeByte (ws_ yJ12_copyOfRangeByte cJ12_copyOfRangeByte 5 (Option.some (Jvm.ClassFile.FieldType.array Jvm.ClassFile.FieldType.byte))) rm_J12_copyOfRangeByte (va_Pc [.ref a, .int 0, .int (nI n)] (RC κ w y X)) (va_Qr (fun u : Nat → Int32 => (∀ j, j < n → u j = f j) ∧ sb_Fit u) (fun u ra t => Rp κ w y X [(ra, byC κ n u)] t.heap) (Af κ)) 1 140 (Af κ) := by
  refine Met.ofW (cc := cJ12_copyOfRangeByte) (maxL := 5) (ret := (Option.some (Jvm.ClassFile.FieldType.array Jvm.ClassFile.FieldType.byte))) (by decide) rfl ?_
  intro p e s m args below meth c s₁ B hml hv
  obtain ⟨rfl, hR, hK⟩ := hv
  have hx := B.exec
  have hb := B.bytes
  have hr := B.returns
  have hts := atoms_spec (ws := ws_ yJ12_copyOfRangeByte cJ12_copyOfRangeByte 5 (Option.some (Jvm.ClassFile.FieldType.array Jvm.ClassFile.FieldType.byte))) B.pre
  have hts : ∀ w ∈ lw_all, w.before _ s = true := fun w h => hts w (List.mem_cons_of_mem _ h)
  have hown : s.vm.findClass RJ12 = some m.cls := findClass_of_methodNamed B.named
  have hlocks := B.notSynchronized
  have hS : va_S (Af κ) s.heap s.heap [] := va_S.rf
  have hl := lv_entry ([.ref a, .int 0, .int (nI n)]) (n := 5) (Nat.le_of_ble_eq_true rfl)
  rw [lg_entry_eq]
  generalize (lg_sl ([.ref a, .int 0, .int (nI n)]) ++ List.replicate (5 - (lg_sl ([.ref a, .int 0, .int (nI n)])).length) Slot.unset).toArray = ls at hl ⊢
  have hl : lv_has ls 5 [(0, .ref a), (1, .int 0), (2, .int (nI n))] := hl
  refine lv_iload_n hx hb dJ12_copyOfRangeByte_0 rfl (lv_at hl 1 rfl) ?_
  refine lv_iload_n hx hb dJ12_copyOfRangeByte_1 rfl (lv_at hl 2 rfl) ?_
  refine ce_u (cr_S (n := 2) (As := [.int (nI 0), .int (nI n)]) (rest := []) ⟨hx, hb, hml, hown, hts⟩ hK hR (m_J12_checkLength (X := xl X []) (a := 0) (b := n) (Nat.zero_le _) (by omega)) q1854 q1855 q96 q1856 rfl rfl hds_J12_checkLength ⟨Nat.le_of_ble_eq_true rfl, Nat.le_of_ble_eq_true rfl⟩ rfl rfl hl.1 rfl (lv_room (Nat.le_of_ble_eq_true rfl)) dJ12_copyOfRangeByte_2 ⟨Nat.le_of_ble_eq_true rfl, Nat.le_of_ble_eq_true rfl⟩) ?_
  have e0 : nI n - 0 = nI n := by rw [Int32.sub_zero]
  refine lv_iload_n hx hb dJ12_copyOfRangeByte_5 rfl (lv_at hl 2 rfl) ?_
  refine lv_iload_n hx hb dJ12_copyOfRangeByte_6 rfl (lv_at hl 1 rfl) ?_
  refine lv_isub hx hb dJ12_copyOfRangeByte_7 ?_
  refine W.eq (g2 := F0 m 8 ls [.int (nI n)]) (congrArg (fun z9 => F0 m 8 ls [.int z9]) e0) ?_
  refine lv_istore_n (lv' := [(3, .int (nI n)), (0, .ref a), (1, .int 0), (2, .int (nI n))]) hx hb dJ12_copyOfRangeByte_8 rfl hl (by decide) rfl (fun ls hl => ?_)
  refine lv_iload_n hx hb dJ12_copyOfRangeByte_9 rfl (lv_at hl 0 rfl) ?_
  refine xa_newa (ty := .byte) (N' := n) (a0 := (n, .inl (fun _ => 0))) hx hb hts q448 rfl hK.1 3 rfl (by intro C h9; cases h9) hS rfl (nI_pos (by omega)) (nI_clamp (by omega)) (by show n * 1 ≤ 536870912; omega) (Nat.le_of_ble_eq_true rfl) (Nat.le_trans (show 0 + n ≤ 140 by omega) (Nat.le_of_ble_eq_true rfl)) dJ12_copyOfRangeByte_10 (fun q9 H1 hq9 h1 hz ho hS => ?_)
  have hR := hR.newL hq9 h1 (by omega) ho
  clear hq9 h1 hz ho
  generalize H1 = H at hR hS ⊢
  have hR : Rp κ w y X [(q9, byC κ n (fun _ => 0))] H := hR
  refine lv_astore (lv' := [(4, .ref q9), (3, .int (nI n)), (0, .ref a), (1, .int 0), (2, .int (nI n))]) hx hb dJ12_copyOfRangeByte_12 hl (by decide) rfl (fun ls hl => ?_)
  refine lv_aload_n hx hb dJ12_copyOfRangeByte_14 rfl (lv_at hl 2 rfl) ?_
  refine lv_iload_n hx hb dJ12_copyOfRangeByte_15 rfl (lv_at hl 3 rfl) ?_
  refine lv_aload hx hb dJ12_copyOfRangeByte_16 (lv_at hl 0 rfl) ?_
  refine lv_iconst (v := (0 : Int32)) hx hb dJ12_copyOfRangeByte_18 (by decide) ?_
  refine lv_aload_n hx hb dJ12_copyOfRangeByte_19 rfl (lv_at hl 2 rfl) ?_
  refine xa_alen hx hb hK.1 (hR.X hA) 3 rfl dJ12_copyOfRangeByte_20 ?_
  refine lv_iload_n hx hb dJ12_copyOfRangeByte_21 rfl (lv_at hl 3 rfl) ?_
  have e1 : nI m9 - 0 = nI m9 := by rw [Int32.sub_zero]
  refine lv_isub hx hb dJ12_copyOfRangeByte_22 ?_
  refine W.eq (g2 := F0 m 23 ls [.int (nI m9), .int 0, .ref q9, .int 0, .ref a]) (congrArg (fun z9 => F0 m 23 ls [.int z9, .int 0, .ref q9, .int 0, .ref a]) e1) ?_
  refine lv_iload_n hx hb dJ12_copyOfRangeByte_23 rfl (lv_at hl 1 rfl) ?_
  refine va_mmin hx hb (hml.trans hl.1.symm) hown (hts _ q913) (hts _ q322) (hts _ q95) (hts _ q323) (Nat.le_of_ble_eq_true rfl) (Nat.le_of_ble_eq_true rfl) (Nat.le_of_ble_eq_true rfl) (Nat.le_trans (show 0 + n + 0 ≤ 140 by omega) (Nat.le_of_ble_eq_true rfl)) dJ12_copyOfRangeByte_24 ?_
  have e2 : jmin (nI m9) (nI n) = nI n := by
    by_cases h9 : n < m9
    · exact if_pos (nI_lt h9 (by omega))
    · rw [show m9 = n by omega]
      exact if_neg (nI_nlt (Nat.le_refl _) (by omega))
  refine W.eq (g2 := F0 m 27 ls [.int (nI n), .int 0, .ref q9, .int 0, .ref a]) (congrArg (fun z9 => F0 m 27 ls [.int z9, .int 0, .ref q9, .int 0, .ref a]) e2) ?_
  have ez : (0 : Int32).toNatClampNeg = 0 := sb_cl0
  have em : (nI n).toNatClampNeg = n := nI_clamp (by omega)
  refine xa_copyb (f := f) (g := fun _ => 0) (rest := []) hx hb (hml.trans hl.1.symm) hown q914 hts hK.1 hS (hR.LD.2 0 _ rfl) 3 (hR.X hA) (hR.L 0 _ rfl) rfl (by decide) (by decide) (nI_pos (by omega)) (by rw [ez, em]; omega) (by rw [ez, em]; omega) hf (Nat.le_of_ble_eq_true rfl) (Nat.le_of_ble_eq_true rfl) dJ12_copyOfRangeByte_27 (fun H1 locs h1 hz ho hS => ?_)
  rw [ez, em] at h1
  have hR := hR.putL (t := 0) rfl h1 hz ho
  clear h1 hz ho
  generalize H1 = H at hR hS ⊢
  have hR : Rp κ w y X [(q9, byC κ n (va_cpy f (fun _ => 0) 0 0 n))] H := hR
  refine lv_aload hx hb dJ12_copyOfRangeByte_30 (lv_at hl 0 rfl) ?_
  refine W.widen (k := 1) (n := 140) (Nat.le_refl _) (by omega) ?_
  exact W.aret hx hb hr (Or.inr ⟨_, rfl⟩) (Or.inr ⟨_, rfl⟩) (fun t ht hW9 => ⟨⟨va_cpy f (fun _ => 0) 0 0 n, _, rfl, ⟨fun j hj => show va_cpy f (fun _ => 0) 0 0 n j = f j from sb_cpy0 hj, sb_fitC hf sb_fit0⟩, rpt ht hR⟩, hS.F ht⟩) hS.2.2 dJ12_copyOfRangeByte_32
theorem hds_J12_copyOfRange : yJ12_copyOfRange.cls ≠ "java/lang/invoke/MethodHandle" ∧ yJ12_copyOfRange.cls ≠ "java/lang/invoke/VarHandle" ∧ (parseMethodDescriptor yJ12_copyOfRange.desc).map (fun d => d.parameters.length) = some 3 := by decide +kernel
abbrev rm_J12_copyOfRange : Room := { frames := 2, cells := 1, slots := 140, locals := 100 }
set_option maxHeartbeats 4000000 in
theorem m_J12_copyOfRange {l : Launch} {κ : Kx} {w : Wd} {y : Ly} {X : XR} {a m9 n : Nat} {f : Nat → Int32} (hA : X a (byC κ m9 f)) (hm : m9 ≤ 140) (hnm : n ≤ m9) (hf : sb_Fit f) : Met l yJ12_copyOfRange (ws_ yJ12_copyOfRange cJ12_copyOfRange 3 (Option.some (Jvm.ClassFile.FieldType.array Jvm.ClassFile.FieldType.byte))) rm_J12_copyOfRange (va_Pc [.ref a, .int 0, .int (nI n)] (RC κ w y X)) (va_Qr (fun u : Nat → Int32 => (∀ j, j < n → u j = f j) ∧ sb_Fit u) (fun u ra t => Rp κ w y X [(ra, byC κ n u)] t.heap) (Af κ)) 1 140 (Af κ) := by
  refine Met.ofW (cc := cJ12_copyOfRange) (maxL := 3) (ret := (Option.some (Jvm.ClassFile.FieldType.array Jvm.ClassFile.FieldType.byte))) (by decide) rfl ?_
  intro p e s m args below meth c s₁ B hml hv
  obtain ⟨rfl, hR, hK⟩ := hv
  have hx := B.exec
  have hb := B.bytes
  have hr := B.returns
  have hts := atoms_spec (ws := ws_ yJ12_copyOfRange cJ12_copyOfRange 3 (Option.some (Jvm.ClassFile.FieldType.array Jvm.ClassFile.FieldType.byte))) B.pre
  have hts : ∀ w ∈ lw_all, w.before _ s = true := fun w h => hts w (List.mem_cons_of_mem _ h)
  have hown : s.vm.findClass RJ12 = some m.cls := findClass_of_methodNamed B.named
  have hlocks := B.notSynchronized
  have hS : va_S (Af κ) s.heap s.heap [] := va_S.rf
  have hl := lv_entry ([.ref a, .int 0, .int (nI n)]) (n := 3) (Nat.le_of_ble_eq_true rfl)
  rw [lg_entry_eq]
  generalize (lg_sl ([.ref a, .int 0, .int (nI n)]) ++ List.replicate (3 - (lg_sl ([.ref a, .int 0, .int (nI n)])).length) Slot.unset).toArray = ls at hl ⊢
  have hl : lv_has ls 3 [(0, .ref a), (1, .int 0), (2, .int (nI n))] := hl
  refine lv_iload_n hx hb dJ12_copyOfRange_0 rfl (lv_at hl 1 rfl) ?_
  refine lv_if_ne (tgt := 10) hx hb dJ12_copyOfRange_1 (by decide) (fun c9 => absurd c9 (fun h => h rfl)) (fun _ => ?_)
  refine lv_iload_n hx hb dJ12_copyOfRange_4 rfl (lv_at hl 2 rfl) ?_
  refine lv_aload_n hx hb dJ12_copyOfRange_5 rfl (lv_at hl 0 rfl) ?_
  refine xa_alen hx hb hK.1 (hR.X hA) 3 rfl dJ12_copyOfRange_6 ?_
  refine lv_icmp_eq (tgt := 17) hx hb dJ12_copyOfRange_7 (by decide) (fun c9 => ?_) (fun c9 => ?_)
  · have en : n = m9 := (nI_eq (by omega) (by omega)).mp c9
    subst en
    refine lv_aload_n hx hb dJ12_copyOfRange_17 rfl (lv_at hl 0 rfl) ?_
    refine xa_clone hx hb (hml.trans hl.1.symm) hown (hts _ q1712) (hts _ q1713) (hts _ q213) (hts _ q214) (hts _ q1714) (hK.2.1.2.2.1 _ (List.mem_of_getElem? (i := 43) rfl)) hK.1 3 (hR.X hA) rfl (va_nm_byte (hK.1.2 3 _ rfl).2) ?_ (Nat.le_of_ble_eq_true rfl) (Nat.le_of_ble_eq_true rfl) (Nat.le_of_ble_eq_true rfl) (Nat.le_trans (show 0 + n ≤ 140 by omega) (Nat.le_of_ble_eq_true rfl)) dJ12_copyOfRange_18 (fun q H1 hq h1 hz ho => ?_)
    · intro i v hv
      by_cases hi : i < n
      · rw [show (vp_cell (kT κ 3) (n, .inl f)).slots[i]? = some (.int (f i)) from arrV_read _ _ hi] at hv
        cases hv
        exact hf i
      · have := (Array.getElem?_eq_some_iff.mp hv).1
        rw [show (vp_cell (kT κ 3) (n, .inl f)).slots.size = n from arrV_size _ _ _] at this
        exact absurd this hi
    have hS1 : va_S (Af κ) s.heap H1 [] := ⟨Nat.le_trans hS.1 (by omega), fun q h1 h2 => (ho q (Nat.lt_of_lt_of_le h1 hS.1)).trans (hS.2.1 q h1 h2), hS.2.2⟩
    have hR1 := hR.newL hq h1 (by omega) ho
    refine va_castA (q0 := 0) hx hb hown (hts _ q1716) (va_P1 h1) rfl (va_nm_byte (hK.1.2 3 _ rfl).2) dJ12_copyOfRange_21 ?_
    refine W.widen (k := 1) (n := 140) (Nat.le_refl _) (by show 0 + n ≤ 140; omega) ?_
    exact W.aret hx hb hr (Or.inr ⟨_, rfl⟩) (Or.inr ⟨_, rfl⟩) (fun t ht _ => ⟨⟨f, q, rfl, ⟨fun _ _ => rfl, hf⟩, rpt ht hR1⟩, hS1.F ht⟩) hS1.2.2 dJ12_copyOfRange_24
  · skip
    refine lv_aload_n hx hb dJ12_copyOfRange_10 rfl (lv_at hl 0 rfl) ?_
    refine lv_iload_n hx hb dJ12_copyOfRange_11 rfl (lv_at hl 1 rfl) ?_
    refine lv_iload_n hx hb dJ12_copyOfRange_12 rfl (lv_at hl 2 rfl) ?_
    refine va_callr (cr_S (n := 3) (As := [.ref a, .int 0, .int (nI n)]) (rest := []) ⟨hx, hb, hml, hown, hts⟩ hK hR (m_J12_copyOfRangeByte (X := xl X []) (Or.inl hA) hm hnm hf) q1851 q1852 q96 q1853 rfl rfl hds_J12_copyOfRangeByte ⟨(Nat.le_of_ble_eq_true rfl), (Nat.le_of_ble_eq_true rfl)⟩ rfl rfl hl.1 rfl (lv_room (Nat.le_of_ble_eq_true rfl)) dJ12_copyOfRange_13 ⟨(Nat.le_of_ble_eq_true rfl), (Nat.le_of_ble_eq_true rfl)⟩) hS (fun _ _ h => h) (fun _ h => h) (fun u ra t H1 locs1 ht _ hp hB hz _ hS => ?_)
    rw [ht] at hB
    have hR := hR.up2 hB
    exact W.aret hx hb hr (Or.inr ⟨_, rfl⟩) (Or.inr ⟨_, rfl⟩) (fun t ht hW9 => ⟨⟨u, ra, rfl, hp, rpt ht hR⟩, hS.F ht⟩) hS.2.2 dJ12_copyOfRange_16
theorem hd_J24_length : yJ24_length.cls = RJ24 ∧ yJ24_length.cls ≠ "java/lang/invoke/MethodHandle" ∧ yJ24_length.cls ≠ "java/lang/invoke/VarHandle" ∧ (parseMethodDescriptor yJ24_length.desc).map (fun d => d.parameters.length) = some 0 := by decide +kernel
abbrev rm_J24_length : Room := { frames := 1, locals := 24 }
set_option maxHeartbeats 4000000 in
theorem m_J24_length {l : Launch} {κ : Kx} {w : Wd} {y : Ly} {X : XR} {sb a : Nat} {mb cn : Int32} (hX : X sb (sbC a mb cn)) : Met l yJ24_length (ws_ yJ24_length cJ24_length 1 (Option.some Jvm.ClassFile.FieldType.int)) rm_J24_length (va_Pc [.ref sb] (RC κ w y X)) (Qs (.int cn)) 0 0 (nofree) := by
  refine Met.ofW (cc := cJ24_length) (maxL := 1) (ret := (Option.some Jvm.ClassFile.FieldType.int)) (by decide) rfl ?_
  intro p e s m args below meth c s₁ B hml hv
  obtain ⟨rfl, hR, hK⟩ := hv
  have hx := B.exec
  have hb := B.bytes
  have hr := B.returns
  have hts := atoms_spec (ws := ws_ yJ24_length cJ24_length 1 (Option.some Jvm.ClassFile.FieldType.int)) B.pre
  have hts : ∀ w ∈ lw_all, w.before _ s = true := fun w h => hts w (List.mem_cons_of_mem _ h)
  have hown : s.vm.findClass RJ24 = some m.cls := findClass_of_methodNamed B.named
  have hlocks := B.notSynchronized
  have hS : va_S (Af κ) s.heap s.heap [] := va_S.rf
  have hl := lv_entry ([.ref sb]) (n := 1) (Nat.le_of_ble_eq_true rfl)
  rw [lg_entry_eq]
  generalize (lg_sl ([.ref sb]) ++ List.replicate (1 - (lg_sl ([.ref sb])).length) Slot.unset).toArray = ls at hl ⊢
  have hl : lv_has ls 1 [(0, .ref sb)] := hl
  refine lv_aload_n hx hb dJ24_length_0 rfl (lv_at hl 0 rfl) ?_
  refine ce_s (crt_SU (ci := 20) (n := 0) (As := []) (rest := []) ⟨hx, hb, hml, hown, hts⟩ hK (m_J23_length (X := xl X []) (Or.inl hX)) RC.blind (RC.pre hR hK) q1845 q1841 q1688 q1840 q118 q1846 rfl rfl (by decide +kernel) ⟨(Nat.le_of_ble_eq_true rfl), (Nat.le_of_ble_eq_true rfl)⟩ rfl (rv_at2 hK (hR.X hX) rfl) rfl rfl hl.1 rfl (lv_room (Nat.le_of_ble_eq_true rfl)) dJ24_length_1 ⟨(Nat.le_of_ble_eq_true rfl), (Nat.le_of_ble_eq_true rfl)⟩) ?_
  exact W.iret (v := cn) hx hb hr (fun t ht _ => ⟨rfl, ht⟩) (fun q h => by cases h) dJ24_length_4
theorem hd_J17_init_2 : yJ17_init_2.cls = RJ17 ∧ yJ17_init_2.cls ≠ "java/lang/invoke/MethodHandle" ∧ yJ17_init_2.cls ≠ "java/lang/invoke/VarHandle" ∧ (parseMethodDescriptor yJ17_init_2.desc).map (fun d => d.parameters.length) = some 2 := by decide +kernel
abbrev rm_J17_init_2 : Room := { frames := 4, cells := 1, slots := 140, locals := 180 }
set_option maxHeartbeats 4000000 in
theorem m_J17_init_2 {l : Launch} {κ : Kx} {w : Wd} {y : Ly} {X : XR} {q sb a m9 n : Nat} {mb : Int32} {f : Nat → Int32} (hQ : X q (.inr (21, [.null, .int 0, .int 0, .int 0]))) (hX : X sb (sbC a mb (nI n))) (hA : X a (byC κ m9 f)) (hqs : sb ≠ q) (hqa : a ≠ q) (hm : m9 ≤ 140) (hnm : n ≤ m9) (hf : sb_Fit f) : Met l yJ17_init_2 (ws_ yJ17_init_2 cJ17_init_2 5 (Option.none : Option Jvm.ClassFile.FieldType)) rm_J17_init_2 (va_Pc [.ref q, .ref sb, .null] (RC κ w y X)) (va_Qv (fun u : Nat × (Nat → Int32) => (∀ j, j < n → u.2 j = f j) ∧ sb_Fit u.2) (fun u t => Rp κ w y (upX X q (stC u.1 0 0)) [(u.1, byC κ n u.2)] t.heap) (Af κ)) 1 140 (Af κ) := by
  refine Met.ofW (cc := cJ17_init_2) (maxL := 5) (ret := (Option.none : Option Jvm.ClassFile.FieldType)) (by decide) rfl ?_
  intro p e s m args below meth c s₁ B hml hv
  obtain ⟨rfl, hR, hK⟩ := hv
  have hx := B.exec
  have hb := B.bytes
  have hr := B.returns
  have hts := atoms_spec (ws := ws_ yJ17_init_2 cJ17_init_2 5 (Option.none : Option Jvm.ClassFile.FieldType)) B.pre
  have hts : ∀ w ∈ lw_all, w.before _ s = true := fun w h => hts w (List.mem_cons_of_mem _ h)
  have hown : s.vm.findClass RJ17 = some m.cls := findClass_of_methodNamed B.named
  have hlocks := B.notSynchronized
  have hS : va_S (Af κ) s.heap s.heap [] := va_S.rf
  have hl := lv_entry ([.ref q, .ref sb, .null]) (n := 5) (Nat.le_of_ble_eq_true rfl)
  rw [lg_entry_eq]
  generalize (lg_sl ([.ref q, .ref sb, .null]) ++ List.replicate (5 - (lg_sl ([.ref q, .ref sb, .null])).length) Slot.unset).toArray = ls at hl ⊢
  have hl : lv_has ls 5 [(0, .ref q), (1, .ref sb), (2, .null)] := hl
  have hin : meth.name = "<init>" := (name_of_methodNamed B.named B.method).1
  refine lv_aload_n hx hb dJ17_init_2_0 rfl (lv_at hl 0 rfl) ?_
  refine W.objInit hx hb hown (hts _ q1833) (hts _ q127) (hts _ q128) rfl (by rw [hml]; exact hl.1) rfl dJ17_init_2_1 (Nat.le_of_ble_eq_true rfl) (Nat.le_of_ble_eq_true rfl) ?_
  refine W.eq (g2 := F0 m 4 ls []) rfl ?_
  refine lv_aload_n hx hb dJ17_init_2_4 rfl (lv_at hl 1 rfl) ?_
  refine ce_s (cr_U (C := RJ24) (owner := "java/lang/AbstractStringBuilder") (Z := yJ23_getValue) (n := 0) (As := []) (rest := []) ⟨hx, hb, hml, hown, hts⟩ hK hR (m_J23_getValue (Or.inl hX)) q1834 q1836 q1837 q1835 q118 q1838 rfl rfl rfl (by decide +kernel) ⟨(Nat.le_of_ble_eq_true rfl), (Nat.le_of_ble_eq_true rfl)⟩ (rv_at2 hK (hR.X hX) rfl) rfl rfl hl.1 rfl (lv_room (Nat.le_of_ble_eq_true rfl)) dJ17_init_2_5 ⟨(Nat.le_of_ble_eq_true rfl), (Nat.le_of_ble_eq_true rfl)⟩) ?_
  refine lv_astore_n (lv' := [(3, .ref a), (0, .ref q), (1, .ref sb), (2, .null)]) hx hb dJ17_init_2_8 rfl hl (by decide) rfl (fun ls hl => ?_)
  refine lv_aload_n hx hb dJ17_init_2_9 rfl (lv_at hl 2 rfl) ?_
  refine ce_s (cr_O (C := RJ24) (owner := "java/lang/AbstractStringBuilder") (Z := yJ23_length) (n := 0) (As := []) (rest := []) ⟨hx, hb, hml, hown, hts⟩ hK hR (m_J24_length (Or.inl hX)) q1839 q1841 q1840 q1842 q1843 q119 q1844 q1846 rfl rfl (by decide +kernel) ⟨(Nat.le_of_ble_eq_true rfl), (Nat.le_of_ble_eq_true rfl)⟩ (rv_at2 hK (hR.X hX) rfl) rfl rfl hl.1 rfl (lv_room (Nat.le_of_ble_eq_true rfl)) dJ17_init_2_10 ⟨(Nat.le_of_ble_eq_true rfl), (Nat.le_of_ble_eq_true rfl)⟩) ?_
  refine lv_istore (lv' := [(4, .int (nI n)), (3, .ref a), (0, .ref q), (1, .ref sb), (2, .null)]) hx hb dJ17_init_2_13 hl (by decide) rfl (fun ls hl => ?_)
  refine lv_aload_n hx hb dJ17_init_2_15 rfl (lv_at hl 3 rfl) ?_
  refine ce_s (cr_U (C := RJ24) (owner := "java/lang/AbstractStringBuilder") (Z := yJ23_isLatin1) (n := 0) (As := []) (rest := []) ⟨hx, hb, hml, hown, hts⟩ hK hR (m_J23_isLatin1 (Or.inl hX)) q1847 q1719 q1720 q1718 q118 q1721 rfl rfl rfl (by decide +kernel) ⟨(Nat.le_of_ble_eq_true rfl), (Nat.le_of_ble_eq_true rfl)⟩ (rv_at2 hK (hR.X hX) rfl) rfl rfl hl.1 rfl (lv_room (Nat.le_of_ble_eq_true rfl)) dJ17_init_2_16 ⟨(Nat.le_of_ble_eq_true rfl), (Nat.le_of_ble_eq_true rfl)⟩) ?_
  refine lv_if_eq (tgt := 41) hx hb dJ17_init_2_19 (by decide) (fun c9 => absurd c9 (by decide)) (fun _ => ?_)
  refine lv_aload_n hx hb dJ17_init_2_22 rfl (lv_at hl 2 rfl) ?_
  refine lv_iconst (v := (0 : Int32)) hx hb dJ17_init_2_23 (by decide) ?_
  refine xa_putF (T := TJ17) (N := 4) hx hb hts in_J17 tyJ17 tyJ17_ok nmJ17 hown hK.1 hS (hR.2.2.2.1 _ _ hQ).2.1 (hR.X hQ) rfl 1 (by decide) q1879 rfl rfl hin rfl rfl rfl (Nat.le_of_ble_eq_true rfl) dJ17_init_2_24 (fun H1 locs h1 hz ho hS => ?_)
  have hR := hR.putX hQ h1 hz ho
  clear h1 hz ho
  generalize H1 = H at hR hS ⊢
  have hA2 : upX X q (.inr (21, [.null, .int 0, .int 0, .int 0])) a (byC κ m9 f) := Or.inr ⟨hqa, hA⟩
  refine lv_aload_n hx hb dJ17_init_2_27 rfl (lv_at hl 2 rfl) ?_
  refine lv_aload_n hx hb dJ17_init_2_28 rfl (lv_at hl 1 rfl) ?_
  refine lv_iconst (v := (0 : Int32)) hx hb dJ17_init_2_29 (by decide) ?_
  refine lv_iload hx hb dJ17_init_2_30 (lv_at hl 0 rfl) ?_
  have hR : Rp κ w y (upX X q (.inr (21, [.null, .int 0, .int 0, .int 0]))) [] H := hR
  refine va_callr (cr_S (n := 3) (As := [.ref a, .int 0, .int (nI n)]) (rest := [.ref q]) ⟨hx, hb, hml, hown, hts⟩ hK hR (m_J12_copyOfRange (X := xl (upX X q (.inr (21, [.null, .int 0, .int 0, .int 0]))) []) (Or.inl hA2) hm hnm hf) q1848 q1849 q96 q1850 rfl rfl hds_J12_copyOfRange ⟨(Nat.le_of_ble_eq_true rfl), (Nat.le_of_ble_eq_true rfl)⟩ rfl rfl hl.1 rfl (lv_room (Nat.le_of_ble_eq_true rfl)) dJ17_init_2_32 ⟨(Nat.le_of_ble_eq_true rfl), (Nat.le_of_ble_eq_true rfl)⟩) hS (fun _ _ h => h) (fun _ h => h) (fun u ra t H1 locs1 ht _ hp hB hz _ hS => ?_)
  rw [ht] at hB
  have hR := hR.up2 hB
  clear hB ht hz
  generalize H1 = H at hR hS ⊢
  have hR : Rp κ w y (upX X q (.inr (21, [.null, .int 0, .int 0, .int 0]))) [(ra, byC κ n u)] H := hR
  refine xa_putF (T := TJ17) (N := 4) hx hb hts in_J17 tyJ17 tyJ17_ok nmJ17 hown hK.1 hS (hR.2.2.2.1 _ _ (upX_self _ _ _)).2.1 (hR.X (upX_self _ _ _)) rfl 0 (by decide) q1878 rfl rfl hin rfl rfl rfl (Nat.le_of_ble_eq_true rfl) dJ17_init_2_35 (fun H1 locs h1 hz ho hS => ?_)
  have hR := hR.putXL2 h1 hz ho
  clear h1 hz ho
  generalize H1 = H at hR hS ⊢
  have hR : Rp κ w y (upX X q (stC ra 0 0)) [(ra, byC κ n u)] H := hR
  refine lv_goto (tgt := 97) hx hb dJ17_init_2_38 (by decide) ?_
  exact W.vret hx hb hr (fun t ht hW9 => ⟨⟨(ra, u), rfl, hp, rpt ht hR⟩, hS.F ht⟩) hS.2.2 dJ17_init_2_97
theorem hd_J17_init : yJ17_init.cls = RJ17 ∧ yJ17_init.cls ≠ "java/lang/invoke/MethodHandle" ∧ yJ17_init.cls ≠ "java/lang/invoke/VarHandle" ∧ (parseMethodDescriptor yJ17_init.desc).map (fun d => d.parameters.length) = some 1 := by decide +kernel
abbrev rm_J17_init : Room := { frames := 5, cells := 1, slots := 140, locals := 220 }
set_option maxHeartbeats 4000000 in
theorem m_J17_init {l : Launch} {κ : Kx} {w : Wd} {y : Ly} {X : XR} {q sb a m9 n : Nat} {mb : Int32} {f : Nat → Int32} (hQ : X q (.inr (21, [.null, .int 0, .int 0, .int 0]))) (hX : X sb (sbC a mb (nI n))) (hA : X a (byC κ m9 f)) (hqs : sb ≠ q) (hqa : a ≠ q) (hm : m9 ≤ 140) (hnm : n ≤ m9) (hf : sb_Fit f) : Met l yJ17_init (ws_ yJ17_init cJ17_init 2 (Option.none : Option Jvm.ClassFile.FieldType)) rm_J17_init (va_Pc [.ref q, .ref sb] (RC κ w y X)) (va_Qv (fun u : Nat × (Nat → Int32) => (∀ j, j < n → u.2 j = f j) ∧ sb_Fit u.2) (fun u t => Rp κ w y (upX X q (stC u.1 0 0)) [(u.1, byC κ n u.2)] t.heap) (Af κ)) 1 140 (Af κ) := by
  refine Met.ofW (cc := cJ17_init) (maxL := 2) (ret := (Option.none : Option Jvm.ClassFile.FieldType)) (by decide) rfl ?_
  intro p e s m args below meth c s₁ B hml hv
  obtain ⟨rfl, hR, hK⟩ := hv
  have hx := B.exec
  have hb := B.bytes
  have hr := B.returns
  have hts := atoms_spec (ws := ws_ yJ17_init cJ17_init 2 (Option.none : Option Jvm.ClassFile.FieldType)) B.pre
  have hts : ∀ w ∈ lw_all, w.before _ s = true := fun w h => hts w (List.mem_cons_of_mem _ h)
  have hown : s.vm.findClass RJ17 = some m.cls := findClass_of_methodNamed B.named
  have hlocks := B.notSynchronized
  have hS : va_S (Af κ) s.heap s.heap [] := va_S.rf
  have hl := lv_entry ([.ref q, .ref sb]) (n := 2) (Nat.le_of_ble_eq_true rfl)
  rw [lg_entry_eq]
  generalize (lg_sl ([.ref q, .ref sb]) ++ List.replicate (2 - (lg_sl ([.ref q, .ref sb])).length) Slot.unset).toArray = ls at hl ⊢
  have hl : lv_has ls 2 [(0, .ref q), (1, .ref sb)] := hl
  refine lv_aload_n hx hb dJ17_init_0 rfl (lv_at hl 0 rfl) ?_
  refine lv_aload_n hx hb dJ17_init_1 rfl (lv_at hl 1 rfl) ?_
  refine lv_null hx hb dJ17_init_2 ?_
  refine va_callv (va_runI (As := [.ref sb, .null]) (rest := []) ⟨hx, hb, hml, hown, hts⟩ (m_J17_init_2 (X := xl X []) (Or.inl hQ) (Or.inl hX) (Or.inl hA) hqs hqa hm hnm hf) (cwI 2 hts (lw_meth q1832) rfl rfl rfl (hts _ q104) (hts _ q1830) (hts _ q1831) rfl (by decide +kernel) ⟨(Nat.le_of_ble_eq_true rfl), (Nat.le_of_ble_eq_true rfl)⟩) ⟨RC.blind, RC.pre hR hK⟩ rfl rfl hl.1 rfl (lv_room (Nat.le_of_ble_eq_true rfl)) dJ17_init_3 ⟨(Nat.le_of_ble_eq_true rfl), (Nat.le_of_ble_eq_true rfl)⟩) hS (fun _ _ h => h) (fun _ h => h) (fun u t H1 locs1 ht _ hp hB hz _ hS => ?_)
  rw [ht] at hB
  have hR : Rp κ w y (upX X q (stC u.1 0 0)) [(u.1, byC κ n u.2)] H1 := hB.wk (upX_mono xl_l)
  exact W.vret hx hb hr (fun t ht hW9 => ⟨⟨u, rfl, hp, rpt ht hR⟩, hS.F ht⟩) hS.2.2 dJ17_init_6
theorem hd_J24_toString : yJ24_toString.cls = RJ24 ∧ yJ24_toString.cls ≠ "java/lang/invoke/MethodHandle" ∧ yJ24_toString.cls ≠ "java/lang/invoke/VarHandle" ∧ (parseMethodDescriptor yJ24_toString.desc).map (fun d => d.parameters.length) = some 0 := by decide +kernel
abbrev rm_J24_toString : Room := { frames := 6, cells := 2, slots := 144, locals := 260 }
set_option maxHeartbeats 4000000 in
theorem m_J24_toString {l : Launch} {κ : Kx} {w : Wd} {y : Ly} {X : XR} {sb a m9 n : Nat} {mb : Int32} {f : Nat → Int32} (hX : X sb (sbC a mb (nI n))) (hA : X a (byC κ m9 f)) (hm : m9 ≤ 140) (hnm : n ≤ m9) (hf : sb_Fit f) : Met l yJ24_toString (ws_ yJ24_toString cJ24_toString 1 (Option.some (Jvm.ClassFile.FieldType.object "java/lang/String"))) rm_J24_toString (va_Pc [.ref sb] (RC κ w y X)) (va_Qr (fun u : Nat × (Nat → Int32) => (∀ j, j < n → u.2 j = f j) ∧ sb_Fit u.2) (fun u ra t => Rp κ w y X [(ra, stC u.1 0 0), (u.1, byC κ n u.2)] t.heap) (Af κ)) 2 144 (Af κ) := by
  refine Met.ofW (cc := cJ24_toString) (maxL := 1) (ret := (Option.some (Jvm.ClassFile.FieldType.object "java/lang/String"))) (by decide) rfl ?_
  intro p e s m args below meth c s₁ B hml hv
  obtain ⟨rfl, hR, hK⟩ := hv
  have hx := B.exec
  have hb := B.bytes
  have hr := B.returns
  have hts := atoms_spec (ws := ws_ yJ24_toString cJ24_toString 1 (Option.some (Jvm.ClassFile.FieldType.object "java/lang/String"))) B.pre
  have hts : ∀ w ∈ lw_all, w.before _ s = true := fun w h => hts w (List.mem_cons_of_mem _ h)
  have hown : s.vm.findClass RJ24 = some m.cls := findClass_of_methodNamed B.named
  have hlocks := B.notSynchronized
  have hS : va_S (Af κ) s.heap s.heap [] := va_S.rf
  have hl := lv_entry ([.ref sb]) (n := 1) (Nat.le_of_ble_eq_true rfl)
  rw [lg_entry_eq]
  generalize (lg_sl ([.ref sb]) ++ List.replicate (1 - (lg_sl ([.ref sb])).length) Slot.unset).toArray = ls at hl ⊢
  have hl : lv_has ls 1 [(0, .ref sb)] := hl
  refine xa_new (C := RJ17) (T := TJ17) (N := 4) (ci := 21) (fs := [.null, .int 0, .int 0, .int 0]) hx hb hts in_J17 tyJ17 tyJ17_ok hown q1826 q447 q104 hK.1 hS rfl (fun j hj => by rcases (show j = 0 ∨ j = 1 ∨ j = 2 ∨ j = 3 by omega) with rfl | rfl | rfl | rfl <;> rfl) (Nat.le_of_ble_eq_true rfl) (Nat.le_of_ble_eq_true rfl) dJ24_toString_0 (fun q H1 hq h1 hz ho hS => ?_)
  have hR := hR.newL hq h1 (by omega) ho
  clear hq h1 hz ho
  generalize H1 = H at hR hS ⊢
  have hR : Rp κ w y X [(q, .inr (21, [.null, .int 0, .int 0, .int 0]))] H := hR
  have hqs : sb ≠ q := fun e => (hR.2.2.2.2.2.2 0 _ rfl).1 _ (by rw [← e]; exact hX)
  have hqa : a ≠ q := fun e => (hR.2.2.2.2.2.2 0 _ rfl).1 _ (by rw [← e]; exact hA)
  refine lv_dup hx hb dJ24_toString_3 rfl ?_
  refine lv_aload_n hx hb dJ24_toString_4 rfl (lv_at hl 0 rfl) ?_
  refine va_callv (va_runI (As := [.ref sb]) (rest := [.ref q]) ⟨hx, hb, hml, hown, hts⟩ (m_J17_init (X := xl X [(q, .inr (21, [.null, .int 0, .int 0, .int 0]))]) (Or.inr ⟨0, rfl⟩) (Or.inl hX) (Or.inl hA) hqs hqa hm hnm hf) (cwI 1 hts (lw_meth q1829) rfl rfl rfl (hts _ q104) (hts _ q1827) (hts _ q1828) rfl (by decide +kernel) ⟨(Nat.le_of_ble_eq_true rfl), (Nat.le_of_ble_eq_true rfl)⟩) ⟨RC.blind, RC.pre hR hK⟩ rfl rfl hl.1 rfl (lv_room (Nat.le_of_ble_eq_true rfl)) dJ24_toString_5 ⟨(Nat.le_of_ble_eq_true rfl), (Nat.le_of_ble_eq_true rfl)⟩) hS (fun _ _ h => h) (fun _ h => h) (fun u t H1 locs1 ht _ hp hB hz _ hS => ?_)
  rw [ht] at hB
  have hR : Rp κ w y X [(q, stC u.1 0 0), (u.1, byC κ n u.2)] H1 := hR.wrote2 hB
  exact W.aret hx hb hr (Or.inl ⟨_, rfl⟩) (Or.inr ⟨_, rfl⟩) (fun t ht hW9 => ⟨⟨u, q, rfl, hp, rpt ht hR⟩, hS.F ht⟩) hS.2.2 dJ24_toString_8
theorem hd_J23_init : yJ23_init.cls = RJ23 ∧ yJ23_init.cls ≠ "java/lang/invoke/MethodHandle" ∧ yJ23_init.cls ≠ "java/lang/invoke/VarHandle" ∧ (parseMethodDescriptor yJ23_init.desc).map (fun d => d.parameters.length) = some 1 := by decide +kernel
abbrev rm_J23_init : Room := { frames := 1, cells := 1, slots := 16, locals := 24 }
set_option maxHeartbeats 4000000 in
theorem m_J23_init {l : Launch} {κ : Kx} {w : Wd} {y : Ly} {X : XR} {sb : Nat} (hX : X sb (.inr (20, [.null, .int 0, .int 0, .int 0]))) : Met l yJ23_init (ws_ yJ23_init cJ23_init 2 (Option.none : Option Jvm.ClassFile.FieldType)) rm_J23_init (va_Pc [.ref sb, .int 16] (RC κ w y X)) (va_Qv (fun _ : Nat => True) (fun u t => Rp κ w y (upX X sb (sbC u 0 0)) [(u, byC κ 16 (fun _ => 0))] t.heap) (Af κ)) 1 16 (Af κ) := by
  refine Met.ofW (cc := cJ23_init) (maxL := 2) (ret := (Option.none : Option Jvm.ClassFile.FieldType)) (by decide) rfl ?_
  intro p e s m args below meth c s₁ B hml hv
  obtain ⟨rfl, hR, hK⟩ := hv
  have hx := B.exec
  have hb := B.bytes
  have hr := B.returns
  have hts := atoms_spec (ws := ws_ yJ23_init cJ23_init 2 (Option.none : Option Jvm.ClassFile.FieldType)) B.pre
  have hts : ∀ w ∈ lw_all, w.before _ s = true := fun w h => hts w (List.mem_cons_of_mem _ h)
  have hown : s.vm.findClass RJ23 = some m.cls := findClass_of_methodNamed B.named
  have hlocks := B.notSynchronized
  have hS : va_S (Af κ) s.heap s.heap [] := va_S.rf
  have hl := lv_entry ([.ref sb, .int 16]) (n := 2) (Nat.le_of_ble_eq_true rfl)
  rw [lg_entry_eq]
  generalize (lg_sl ([.ref sb, .int 16]) ++ List.replicate (2 - (lg_sl ([.ref sb, .int 16])).length) Slot.unset).toArray = ls at hl ⊢
  have hl : lv_has ls 2 [(0, .ref sb), (1, .int 16)] := hl
  refine lv_aload_n hx hb dJ23_init_0 rfl (lv_at hl 0 rfl) ?_
  refine W.objInit hx hb hown (hts _ q1666) (hts _ q127) (hts _ q128) rfl (by rw [hml]; exact hl.1) rfl dJ23_init_1 (Nat.le_of_ble_eq_true rfl) (Nat.le_of_ble_eq_true rfl) ?_
  refine W.eq (g2 := F0 m 4 ls []) rfl ?_
  refine jr_getsI (C := "java/lang/String") (n := "COMPACT_STRINGS") (d := "Z") (v := 1) hx hb hown hK hR (List.mem_of_getElem? (i := 0) rfl) q1667 hts dJ23_init_4 ?_
  refine lv_if_eq (tgt := 25) hx hb dJ23_init_7 (by decide) (fun c9 => absurd c9 (by decide)) (fun _ => ?_)
  refine lv_aload_n hx hb dJ23_init_10 rfl (lv_at hl 0 rfl) ?_
  refine lv_iload_n hx hb dJ23_init_11 rfl (lv_at hl 1 rfl) ?_
  refine xa_newa (ty := .byte) (N' := 16) (a0 := (16, .inl (fun _ => 0))) hx hb hts q448 rfl hK.1 3 rfl (by intro C h9; cases h9) hS rfl (by decide) (by decide) (by decide) (Nat.le_of_ble_eq_true rfl) (Nat.le_of_ble_eq_true rfl) dJ23_init_12 (fun q9 H1 hq9 h1 hz ho hS => ?_)
  have hR := hR.newL hq9 h1 (by omega) ho
  clear hq9 h1 hz ho
  generalize H1 = H at hR hS ⊢
  have hR : Rp κ w y X [(q9, byC κ 16 (fun _ => 0))] H := hR
  refine xa_put (T := TJ24) (N := 4) hx hb hts in_J24 tyJ24 tyJ24_ok nmJ24 hown hK.1 hS (hR.2.2.2.1 _ _ hX).2.1 (hR.X hX) rfl 0 (by decide) q1676 rfl rfl rfl rfl (Nat.le_of_ble_eq_true rfl) dJ23_init_14 (fun H1 locs h1 hz ho hS => ?_)
  have hR := hR.putXL hX h1 hz ho
  clear h1 hz ho
  generalize H1 = H at hR hS ⊢
  refine lv_aload_n hx hb dJ23_init_17 rfl (lv_at hl 0 rfl) ?_
  refine lv_iconst (v := (0 : Int32)) hx hb dJ23_init_18 (by decide) ?_
  refine xa_put (T := TJ24) (N := 4) hx hb hts in_J24 tyJ24 tyJ24_ok nmJ24 hown hK.1 hS (hR.2.2.2.1 _ _ (upX_self _ _ _)).2.1 (hR.X (upX_self _ _ _)) rfl 1 (by decide) q1677 rfl rfl rfl rfl (Nat.le_of_ble_eq_true rfl) dJ23_init_19 (fun H1 locs h1 hz ho hS => ?_)
  have hR := hR.putXL2 h1 hz ho
  clear h1 hz ho
  generalize H1 = H at hR hS ⊢
  refine lv_goto (tgt := 38) hx hb dJ23_init_22 (by decide) ?_
  have hR : Rp κ w y (upX X sb (sbC q9 0 0)) [(q9, byC κ 16 (fun _ => 0))] H := hR
  exact W.vret hx hb hr (fun t ht hW9 => ⟨⟨q9, rfl, trivial, rpt ht hR⟩, hS.F ht⟩) hS.2.2 dJ23_init_38
theorem hd_J24_init : yJ24_init.cls = RJ24 ∧ yJ24_init.cls ≠ "java/lang/invoke/MethodHandle" ∧ yJ24_init.cls ≠ "java/lang/invoke/VarHandle" ∧ (parseMethodDescriptor yJ24_init.desc).map (fun d => d.parameters.length) = some 0 := by decide +kernel
abbrev rm_J24_init : Room := { frames := 2, cells := 1, slots := 16, locals := 60 }
set_option maxHeartbeats 4000000 in
theorem m_J24_init {l : Launch} {κ : Kx} {w : Wd} {y : Ly} {X : XR} {sb : Nat} (hX : X sb (.inr (20, [.null, .int 0, .int 0, .int 0]))) : Met l yJ24_init (ws_ yJ24_init cJ24_init 1 (Option.none : Option Jvm.ClassFile.FieldType)) rm_J24_init (va_Pc [.ref sb] (RC κ w y X)) (va_Qv (fun _ : Nat => True) (fun u t => Rp κ w y (upX X sb (sbC u 0 0)) [(u, byC κ 16 (fun _ => 0))] t.heap) (Af κ)) 1 16 (Af κ) := by
  refine Met.ofW (cc := cJ24_init) (maxL := 1) (ret := (Option.none : Option Jvm.ClassFile.FieldType)) (by decide) rfl ?_
  intro p e s m args below meth c s₁ B hml hv
  obtain ⟨rfl, hR, hK⟩ := hv
  have hx := B.exec
  have hb := B.bytes
  have hr := B.returns
  have hts := atoms_spec (ws := ws_ yJ24_init cJ24_init 1 (Option.none : Option Jvm.ClassFile.FieldType)) B.pre
  have hts : ∀ w ∈ lw_all, w.before _ s = true := fun w h => hts w (List.mem_cons_of_mem _ h)
  have hown : s.vm.findClass RJ24 = some m.cls := findClass_of_methodNamed B.named
  have hlocks := B.notSynchronized
  have hS : va_S (Af κ) s.heap s.heap [] := va_S.rf
  have hl := lv_entry ([.ref sb]) (n := 1) (Nat.le_of_ble_eq_true rfl)
  rw [lg_entry_eq]
  generalize (lg_sl ([.ref sb]) ++ List.replicate (1 - (lg_sl ([.ref sb])).length) Slot.unset).toArray = ls at hl ⊢
  have hl : lv_has ls 1 [(0, .ref sb)] := hl
  refine lv_aload_n hx hb dJ24_init_0 rfl (lv_at hl 0 rfl) ?_
  refine lv_bipush (v := (16 : Int32)) hx hb dJ24_init_1 (by decide) ?_
  refine va_callv (va_runI (As := [.int 16]) (rest := []) ⟨hx, hb, hml, hown, hts⟩ (m_J23_init (X := xl X []) (Or.inl hX)) (cwI 1 hts (lw_meth q1665) rfl rfl rfl (hts _ q118) (hts _ q1663) (hts _ q1664) rfl (by decide +kernel) ⟨(Nat.le_of_ble_eq_true rfl), (Nat.le_of_ble_eq_true rfl)⟩) ⟨RC.blind, RC.pre hR hK⟩ rfl rfl hl.1 rfl (lv_room (Nat.le_of_ble_eq_true rfl)) dJ24_init_3 ⟨(Nat.le_of_ble_eq_true rfl), (Nat.le_of_ble_eq_true rfl)⟩) hS (fun _ _ h => h) (fun _ h => h) (fun u t H1 locs1 ht _ hp hB hz _ hS => ?_)
  rw [ht] at hB
  have hR : Rp κ w y (upX X sb (sbC u 0 0)) [(u, byC κ 16 (fun _ => 0))] H1 := hB.wk (upX_mono xl_l)
  exact W.vret hx hb hr (fun t ht hW9 => ⟨⟨u, rfl, trivial, rpt ht hR⟩, hS.F ht⟩) hS.2.2 dJ24_init_6
abbrev rm_J21_equals : Room := {}
set_option maxHeartbeats 4000000 in
theorem lp_eq {p : Program} {l : Launch} {e : Env} {s : State} {m : MethodId} {args : Array Value} {below : List Frame} {meth : Method} {c : Code} {Q : State → Prop} {κ : Kx} {w : Wd} {y : Ly} {X : XR} {H0 : Heap} {a b n : Nat} {f g : Nat → Int32} (hx : p.tables.exec = Jvm.exec) (hb : c.code = cJ21_equals) (hml : c.maxLocals = 3) (hK : KK κ s) (hA : ∀ H, Rp κ w y X [] H → va_at (kD κ) Cl (a, byC κ n f) H) (hB : ∀ H, Rp κ w y X [] H → va_at (kD κ) Cl (b, byC κ n g) H) (hn : n < 1000) (he : ∀ j, j < n → f j = g j) (hR : Rp κ w y X [] H0) :
    ∀ (d k : Nat) (ls : Array Slot), k + d = n → lv_has ls 3 [(2, .int (nI k)), (0, .ref a), (1, .ref b)] → (∀ ls : Array Slot, lv_has ls 3 [(0, .ref a)] → W p l e (headSpec (ws_ yJ21_equals cJ21_equals 3 (Option.some Jvm.ClassFile.FieldType.boolean)) rm_J21_equals).room s m args below meth c H0 [] 0 0 Q (F0 m 32 ls [])) → W p l e (headSpec (ws_ yJ21_equals cJ21_equals 3 (Option.some Jvm.ClassFile.FieldType.boolean)) rm_J21_equals).room s m args below meth c H0 [] 0 0 Q (F0 m 9 ls []) := by
  intro d
  induction d with
  | zero =>
    intro k ls hk hl kk
    obtain rfl : k = n := by omega
    refine lv_iload_n hx hb dJ21_equals_9 rfl (lv_at hl 0 rfl) ?_
    refine lv_aload_n hx hb dJ21_equals_10 rfl (lv_at hl 1 rfl) ?_
    refine xa_alen hx hb hK.1 (hA _ hR) 3 rfl dJ21_equals_11 ?_
    refine lv_icmp_ge (tgt := 32) hx hb dJ21_equals_12 (by decide) (fun _ => ?_) (fun c9 => absurd (nI_le (Nat.le_refl _) (by omega)) c9)
    exact kk ls (lv_sub hl [1] rfl)
  | succ d ih =>
    intro k ls hk hl kk
    refine lv_iload_n hx hb dJ21_equals_9 rfl (lv_at hl 0 rfl) ?_
    refine lv_aload_n hx hb dJ21_equals_10 rfl (lv_at hl 1 rfl) ?_
    refine xa_alen hx hb hK.1 (hA _ hR) 3 rfl dJ21_equals_11 ?_
    refine lv_icmp_ge (tgt := 32) hx hb dJ21_equals_12 (by decide) (fun c9 => absurd c9 (nI_ge (by omega) (by omega))) (fun _ => ?_)
    refine lv_aload_n hx hb dJ21_equals_15 rfl (lv_at hl 1 rfl) ?_
    refine lv_iload_n hx hb dJ21_equals_16 rfl (lv_at hl 0 rfl) ?_
    refine xa_bald hx hb hK.1 (hA _ hR) 3 rfl (vp_in_nI (by omega) (by omega)) dJ21_equals_17 ?_
    refine lv_aload_n hx hb dJ21_equals_18 rfl (lv_at hl 2 rfl) ?_
    refine lv_iload_n hx hb dJ21_equals_19 rfl (lv_at hl 0 rfl) ?_
    refine xa_bald hx hb hK.1 (hB _ hR) 3 rfl (vp_in_nI (by omega) (by omega)) dJ21_equals_20 ?_
    rw [nI_clamp (n := k) (by omega), he k (by omega)]
    refine lv_icmp_eq (tgt := 26) hx hb dJ21_equals_21 (by decide) (fun _ => ?_) (fun c9 => absurd rfl c9)
    refine lv_iinc (v := nI (k + 1)) (lv' := [(2, .int (nI (k + 1))), (0, .ref a), (1, .ref b)]) hx hb dJ21_equals_26 hl (k := 0) rfl (by rw [← nI_1]; rfl) (by decide) rfl (fun ls hl => ?_)
    refine lv_goto (tgt := 9) hx hb dJ21_equals_29 (by decide) ?_
    exact ih (k + 1) ls (by omega) hl kk
theorem hds_J21_equals : yJ21_equals.cls ≠ "java/lang/invoke/MethodHandle" ∧ yJ21_equals.cls ≠ "java/lang/invoke/VarHandle" ∧ (parseMethodDescriptor yJ21_equals.desc).map (fun d => d.parameters.length) = some 2 := by decide +kernel
set_option maxHeartbeats 4000000 in
theorem m_J21_equals {l : Launch} {κ : Kx} {w : Wd} {y : Ly} {X : XR} {a b n : Nat} {f g : Nat → Int32} (hA : ∀ H, Rp κ w y X [] H → va_at (kD κ) Cl (a, byC κ n f) H) (hB : ∀ H, Rp κ w y X [] H → va_at (kD κ) Cl (b, byC κ n g) H) (hn : n < 1000) (he : ∀ j, j < n → f j = g j) : Met l yJ21_equals (ws_ yJ21_equals cJ21_equals 3 (Option.some Jvm.ClassFile.FieldType.boolean)) rm_J21_equals (va_Pc [.ref a, .ref b] (RC κ w y X)) (Qs (.int 1)) 0 0 (nofree) := by
  refine Met.ofW (cc := cJ21_equals) (maxL := 3) (ret := (Option.some Jvm.ClassFile.FieldType.boolean)) (by decide) rfl ?_
  intro p e s m args below meth c s₁ B hml hv
  obtain ⟨rfl, hR, hK⟩ := hv
  have hx := B.exec
  have hb := B.bytes
  have hr := B.returns
  have hts := atoms_spec (ws := ws_ yJ21_equals cJ21_equals 3 (Option.some Jvm.ClassFile.FieldType.boolean)) B.pre
  have hts : ∀ w ∈ lw_all, w.before _ s = true := fun w h => hts w (List.mem_cons_of_mem _ h)
  have hown : s.vm.findClass RJ21 = some m.cls := findClass_of_methodNamed B.named
  have hlocks := B.notSynchronized
  have hS : va_S (Af κ) s.heap s.heap [] := va_S.rf
  have hl := lv_entry ([.ref a, .ref b]) (n := 3) (Nat.le_of_ble_eq_true rfl)
  rw [lg_entry_eq]
  generalize (lg_sl ([.ref a, .ref b]) ++ List.replicate (3 - (lg_sl ([.ref a, .ref b])).length) Slot.unset).toArray = ls at hl ⊢
  have hl : lv_has ls 3 [(0, .ref a), (1, .ref b)] := hl
  refine lv_aload_n hx hb dJ21_equals_0 rfl (lv_at hl 0 rfl) ?_
  refine xa_alen hx hb hK.1 (hA _ hR) 3 rfl dJ21_equals_1 ?_
  refine lv_aload_n hx hb dJ21_equals_2 rfl (lv_at hl 1 rfl) ?_
  refine xa_alen hx hb hK.1 (hB _ hR) 3 rfl dJ21_equals_3 ?_
  refine lv_icmp_ne (tgt := 34) hx hb dJ21_equals_4 (by decide) (fun c9 => absurd c9 (fun h => h rfl)) (fun _ => ?_)
  refine lv_iconst (v := (0 : Int32)) hx hb dJ21_equals_7 (by decide) ?_
  refine lv_istore_n (lv' := [(2, .int 0), (0, .ref a), (1, .ref b)]) hx hb dJ21_equals_8 rfl hl (by decide) rfl (fun ls hl => ?_)
  refine lp_eq hx hb hml hK hA hB hn he hR n 0 ls (by omega) hl (fun ls hl => ?_)
  refine lv_iconst (v := (1 : Int32)) hx hb dJ21_equals_32 (by decide) ?_
  exact W.zret (v := 1) hx hb hr rfl (fun t ht _ => ⟨rfl, ht⟩) (fun q h => by cases h) dJ21_equals_33
theorem hd_J17_equals : yJ17_equals.cls = RJ17 ∧ yJ17_equals.cls ≠ "java/lang/invoke/MethodHandle" ∧ yJ17_equals.cls ≠ "java/lang/invoke/VarHandle" ∧ (parseMethodDescriptor yJ17_equals.desc).map (fun d => d.parameters.length) = some 1 := by decide +kernel
abbrev rm_J17_equals : Room := { frames := 1, locals := 40 }
set_option maxHeartbeats 4000000 in
theorem m_J17_equals {l : Launch} {κ : Kx} {w : Wd} {y : Ly} {X : XR} {q1 b1 q2 b2 n : Nat} {h1 z1 h2 z2 : Int32} {f g : Nat → Int32} (hq1 : ∀ H, Rp κ w y X [] H → va_at (kD κ) Cl (q1, stC b1 h1 z1) H ∧ va_at (kD κ) Cl (b1, byC κ n f) H) (hq2 : ∀ H, Rp κ w y X [] H → va_at (kD κ) Cl (q2, stC b2 h2 z2) H ∧ va_at (kD κ) Cl (b2, byC κ n g) H) (hn : n < 1000) (he : ∀ j, j < n → f j = g j) : Met l yJ17_equals (ws_ yJ17_equals cJ17_equals 3 (Option.some Jvm.ClassFile.FieldType.boolean)) rm_J17_equals (va_Pc [.ref q1, .ref q2] (RC κ w y X)) (Qs (.int 1)) 0 0 (nofree) := by
  refine Met.ofW (cc := cJ17_equals) (maxL := 3) (ret := (Option.some Jvm.ClassFile.FieldType.boolean)) (by decide) rfl ?_
  intro p e s m args below meth c s₁ B hml hv
  obtain ⟨rfl, hR, hK⟩ := hv
  have hx := B.exec
  have hb := B.bytes
  have hr := B.returns
  have hts := atoms_spec (ws := ws_ yJ17_equals cJ17_equals 3 (Option.some Jvm.ClassFile.FieldType.boolean)) B.pre
  have hts : ∀ w ∈ lw_all, w.before _ s = true := fun w h => hts w (List.mem_cons_of_mem _ h)
  have hown : s.vm.findClass RJ17 = some m.cls := findClass_of_methodNamed B.named
  have hlocks := B.notSynchronized
  have hS : va_S (Af κ) s.heap s.heap [] := va_S.rf
  have hl := lv_entry ([.ref q1, .ref q2]) (n := 3) (Nat.le_of_ble_eq_true rfl)
  rw [lg_entry_eq]
  generalize (lg_sl ([.ref q1, .ref q2]) ++ List.replicate (3 - (lg_sl ([.ref q1, .ref q2])).length) Slot.unset).toArray = ls at hl ⊢
  have hl : lv_has ls 3 [(0, .ref q1), (1, .ref q2)] := hl
  refine lv_aload_n hx hb dJ17_equals_0 rfl (lv_at hl 0 rfl) ?_
  refine lv_aload_n hx hb dJ17_equals_1 rfl (lv_at hl 1 rfl) ?_
  refine lv_acmp_ne (rx := some q1) (ry := some q2) (tgt := 7) hx hb dJ17_equals_2 (by decide) (fun c9 => ?_) (fun c9 => ?_)
  · skip
    refine lv_aload_n hx hb dJ17_equals_7 rfl (lv_at hl 1 rfl) ?_
    refine va_instS hx hb hown (hts _ q2462) (hK.1.1 21 _ rfl).2 (rv_at2 hK (hq2 _ hR).1 rfl) dJ17_equals_8 ?_
    refine lv_if_eq (tgt := 54) hx hb dJ17_equals_11 (by decide) (fun c9 => absurd c9 (by decide)) (fun _ => ?_)
    refine lv_aload_n hx hb dJ17_equals_14 rfl (lv_at hl 1 rfl) ?_
    refine jr_castS (ci := 21) hx hb hown hK hts (hq2 _ hR).1 rfl q2462 dJ17_equals_15 ?_
    refine lv_astore_n (lv' := [(2, .ref q2), (0, .ref q1), (1, .ref q2)]) hx hb dJ17_equals_18 rfl hl (by decide) rfl (fun ls hl => ?_)
    refine jr_getsI (C := "java/lang/String") (n := "COMPACT_STRINGS") (d := "Z") (v := 1) hx hb hown hK hR (List.mem_of_getElem? (i := 0) rfl) q1783 hts dJ17_equals_19 ?_
    refine lv_if_eq (tgt := 36) hx hb dJ17_equals_22 (by decide) (fun c9 => absurd c9 (by decide)) (fun _ => ?_)
    refine lv_aload_n hx hb dJ17_equals_25 rfl (lv_at hl 1 rfl) ?_
    refine xa_get (T := TJ17) (N := 4) (v := .int 0) hx hb hts in_J17 hown hK.1 (hq1 _ hR).1 rfl 1 (by decide) q1879 rfl rfl dJ17_equals_26 ?_
    refine lv_aload_n hx hb dJ17_equals_29 rfl (lv_at hl 0 rfl) ?_
    refine xa_get (T := TJ17) (N := 4) (v := .int 0) hx hb hts in_J17 hown hK.1 (hq2 _ hR).1 rfl 1 (by decide) q1879 rfl rfl dJ17_equals_30 ?_
    refine lv_icmp_ne (tgt := 54) hx hb dJ17_equals_33 (by decide) (fun c9 => absurd c9 (fun h => h rfl)) (fun _ => ?_)
    refine lv_aload_n hx hb dJ17_equals_36 rfl (lv_at hl 1 rfl) ?_
    refine xa_get (T := TJ17) (N := 4) (v := .ref b1) hx hb hts in_J17 hown hK.1 (hq1 _ hR).1 rfl 0 (by decide) q1878 rfl rfl dJ17_equals_37 ?_
    refine lv_aload_n hx hb dJ17_equals_40 rfl (lv_at hl 0 rfl) ?_
    refine xa_get (T := TJ17) (N := 4) (v := .ref b2) hx hb hts in_J17 hown hK.1 (hq2 _ hR).1 rfl 0 (by decide) q1878 rfl rfl dJ17_equals_41 ?_
    refine ce_s (cr_S (n := 2) (As := [.ref b1, .ref b2]) (rest := []) ⟨hx, hb, hml, hown, hts⟩ hK hR (m_J21_equals (X := xl X []) (fun H h => (hq1 H h.xl0).2) (fun H h => (hq2 H h.xl0).2) hn he) q2463 q2464 q116 q2465 rfl rfl hds_J21_equals ⟨Nat.le_of_ble_eq_true rfl, Nat.le_of_ble_eq_true rfl⟩ rfl rfl hl.1 rfl (lv_room (Nat.le_of_ble_eq_true rfl)) dJ17_equals_44 ⟨Nat.le_of_ble_eq_true rfl, Nat.le_of_ble_eq_true rfl⟩) ?_
    refine lv_if_eq (tgt := 54) hx hb dJ17_equals_47 (by decide) (fun c9 => absurd c9 (by decide)) (fun _ => ?_)
    refine lv_iconst (v := (1 : Int32)) hx hb dJ17_equals_50 (by decide) ?_
    refine lv_goto (tgt := 55) hx hb dJ17_equals_51 (by decide) ?_
    exact W.zret (v := 1) hx hb hr rfl (fun t ht _ => ⟨rfl, ht⟩) (fun q h => by cases h) dJ17_equals_55
  · skip
    refine lv_iconst (v := (1 : Int32)) hx hb dJ17_equals_5 (by decide) ?_
    exact W.zret (v := 1) hx hb hr rfl (fun t ht _ => ⟨rfl, ht⟩) (fun q h => by cases h) dJ17_equals_6
