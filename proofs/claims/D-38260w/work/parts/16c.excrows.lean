/-! METHODS THAT MAY THROW (printed by wip gen/excrows.py) -/
set_option maxRecDepth 100000
/-- what a throw leaves: px of its class and the world, and the world in the heap -/
abbrev XCk (κ : Kx) (y : Ly) (X : XR) (px : String → Wd → Prop) : String → State → State → Prop := vx_X (fun _ : Wd => True) (fun E w t => px E w ∧ Rp κ w y X [] t.heap) (Af κ)
theorem Rp.nil {κ : Kx} {w : Wd} {y : Ly} {X : XR} {L : va_W} {H : Heap} (h : Rp κ w y X L H) : Rp κ w y X [] H := h.sub [] rfl rfl
theorem va_S.Fg {A : Nat → Prop} {s t : State} {H : Heap} {locs : List Loc} (h : va_S A s.heap H locs) (h1 : H.size ≤ t.heap.size) (h2 : ∀ q : Nat, q < H.size → t.heap[q]? = H[q]?) : va_F A s t :=
  ⟨Nat.le_trans h.1 h1, fun q hq hA => (h2 q (Nat.lt_of_lt_of_le hq h.1)).trans (h.2.1 q hq hA)⟩
theorem zq_at {κ : Kx} {w : Wd} {y : Ly} {X : XR} {L : va_W} {s : State} {H : Heap} (hR : Rp κ w y X L H) {C n d : String} (h : vx_Zq C n d (Af κ) s (kH κ)) : vx_Zq C n d (Af κ) s H := h.kept (fun a _ hA => hR.1.2 a (Nat.lt_of_not_le hA))
theorem jn_elim {T : Type} {f : T} {P : T → Prop} {G : Prop} (h : ∀ j : T, j = f → P j) (k : ∀ j : T, j = f → P j → G) : G := k f rfl (h f rfl)
section XR1
variable {p : Program} {l : Launch} {e : Env} {R : Room} {s : State} {m : MethodId} {args : Array Value} {below : List Frame} {meth : Method} {c : Code} {H : Heap} {locs : List Loc} {cells slots : Nat} {Q : State → Prop}
variable {cc : ByteArray} {pc nL mc ms MC MS n index maxL : Nat} {ls : Array Slot} {rest As st0 : List Value} {κ : Kx} {w w0 : Wd} {y : Ly} {X : XR} {L : va_W} {own C host : String} {Y : MethodName} {bytes : ByteArray} {ret : Option FieldType} {rm : Room} {Qc : Array Value → State → Outcome → State → Prop} {XC : String → State → State → Prop} {b : Addr} {g : JFrame} {free : Addr → Prop} {a : Array Value} {px : String → Wd → Prop}
theorem jr_throwA (hx : p.tables.exec = Jvm.exec) (hb : c.code = cc) (hfl : l.stackTraces = false) {cls : String} {ik ic sa : Nat} {k : Fin 4} {ki : Nat} (hown : s.vm.findClass own = some m.cls) (hK : KK κ s) (hts : ∀ w ∈ lw_all, w.before args s = true)
    (hcls : Bundle.fit cls = true) (hk : Cond.classLink own ik cls ∈ lw_all) (hini : Cond.initialized cls ∈ lw_all) (hki : (k : Nat) = ki) (hlk : ls[ki]? = some (.val (.ref sa))) (hat : ∀ w ∈ vx_atS own ic cls xnm, w.before args s = true) (hg : (vx_atS own ic cls xnm).all vx_ot = true)
    (hR0 : Rp κ w0 y X [] s.heap) (hR : Rp κ w y X L H) (hS : va_S (Af κ) s.heap H locs) (hsize : ls.size = c.maxLocals)
    (d0 : decode cc pc = .ok (.new ik, 3)) (d3 : decode cc (pc + 3) = .ok (.dup, 1)) (d4 : decode cc (pc + 4) = .ok (.aload_n k, 1)) (d5 : decode cc (pc + 5) = .ok (.invokespecial ic, 3)) (d8 : decode cc (pc + 8) = .ok (.athrow, 1))
    (ht : ∀ x ∈ c.exceptionTable.toList, False) (hRf : 6 ≤ R.frames) (hRl : (rest.map fun v => v.category).sum + 82 ≤ R.locals) (hRc : cells + 1 ≤ R.cells) (hRs : slots + 6 ≤ R.slots) (hlocks : meth.locks = false)
    (hp : px cls w) (hc : cells + 1 ≤ mc) (hs : slots + 6 ≤ ms) :
    W p l e R s m args below meth c H locs cells slots (vx_MQ below Qc (XCk κ y X px) args s mc ms (Af κ)) (F0 m pc ls rest) := by
  have h1 := zq_at (s := s) hR0 hK.2.1.2.2.2.2.2.2.2.2.2.2.2.1
  have h2 := zq_at (s := s) hR0 hK.2.1.2.2.2.2.2.2.2.2.2.2.2.2.1
  refine vx_throwA (A := Af κ) (own := own) (names := xnm) (k := k) hx hb hfl hown hcls (by decide) (hts _ hk) (hts _ hini) hki hlk hat ?_ h1 h2 hS hsize d0 d3 d4 d5 d8 (fun x hx => (ht x hx).elim) hRf (by exact hRl) hRc hRs hlocks ?_ hS.2.2 hc hs
  · intro w9 h9
    rcases List.mem_cons.mp h9 with e9 | h9
    · rw [e9]; rfl
    · rcases List.mem_cons.mp h9 with e9 | h9
      · rw [e9]; rfl
      · exact List.all_eq_true.mp hg w9 h9
  · intro t _ hz hq
    exact ⟨w, trivial, ⟨hp, hR.nil.grow hz hq⟩, hS.Fg hz hq⟩
theorem crx_V (S : CallFix p m c cc nL s args lw_all own) (hK : KK κ s) (hR : Rp κ w y X L H) (hM : vx_Met l Y (ws_ Y bytes maxL ret) rm (va_Pc (.ref b :: As) (RC κ w y (xl X L))) Qc XC mc ms free)
    (q1 : Cond.methodLink own index Y ∈ lw_all) (q2 : Cond.instanceMethod Y ∈ lw_all) (q3 : Cond.selects C Y Y ∈ lw_all) (q4 : Cond.initialized C ∈ lw_all) (q5 : Cond.code Y bytes maxL ret ∈ lw_all) (hrc : rm.cells = mc) (hrs : rm.slots = ms)
    (hd : Y.cls = C ∧ Y.cls ≠ "java/lang/invoke/MethodHandle" ∧ Y.cls ≠ "java/lang/invoke/VarHandle" ∧ (parseMethodDescriptor Y.desc).map (fun d => d.parameters.length) = some n) (hRm : rm.frames + 1 ≤ R.frames ∧ 8 + (maxL + 11) + rm.locals ≤ R.locals)
    (hrecv : ∃ cell : Cell, H[b]? = some cell ∧ cell.vm.isStatics = false ∧ s.vm.findClass C = some cell.cls)
    (hg : g.method = m) (hn : As.length = n) (hsize : g.locals.size = nL) (hstack : g.stack = As.reverse ++ .ref b :: rest) (hW : 2 * g.monitorRoom + (rest.map fun v => v.category).sum ≤ 8) (hdg : decode cc g.pc = .ok (.invokevirtual index, 3)) (hf : cells + mc ≤ R.cells ∧ slots + ms ≤ R.slots) :
    vx_Run p l e R s m args below meth c H locs cells slots mc ms g rest (Qc (Value.ref b :: As).toArray) XC free :=
  vx_runV S hM (cwV n S.2.2.2.2 (lw_V q1 q2 q3 q4 q5) rfl hrc hrs hd hRm) ⟨RC.blind, hrecv, RC.pre hR hK⟩ hg hn hsize hstack hW hdg hf
theorem crx_S (S : CallFix p m c cc nL s args lw_all own) (hK : KK κ s) (hR : Rp κ w y X L H) (hM : vx_Met l Y (ws_ Y bytes maxL ret) rm (va_Pc As (RC κ w y (xl X L))) Qc XC mc ms free)
    (q1 : Cond.methodLink own index Y ∈ lw_all) (q2 : Cond.static Y ∈ lw_all) (q3 : Cond.initialized Y.cls ∈ lw_all) (q5 : Cond.code Y bytes maxL ret ∈ lw_all) (hrc : rm.cells = mc) (hrs : rm.slots = ms)
    (hd : Y.cls ≠ "java/lang/invoke/MethodHandle" ∧ Y.cls ≠ "java/lang/invoke/VarHandle" ∧ (parseMethodDescriptor Y.desc).map (fun d => d.parameters.length) = some n) (hRm : rm.frames + 1 ≤ R.frames ∧ 8 + (maxL + 11) + rm.locals ≤ R.locals)
    (hg : g.method = m) (hn : As.length = n) (hsize : g.locals.size = nL) (hstack : g.stack = As.reverse ++ rest) (hW : 2 * g.monitorRoom + (rest.map fun v => v.category).sum ≤ 8) (hdg : decode cc g.pc = .ok (.invokestatic index, 3)) (hf : cells + mc ≤ R.cells ∧ slots + ms ≤ R.slots) :
    vx_Run p l e R s m args below meth c H locs cells slots mc ms g rest (Qc As.toArray) XC free :=
  vx_runS S hM (va_cwS n S.2.2.2.2 (lw_S q1 q2 q3 q5) rfl hrc hrs hd hRm) ⟨RC.blind, RC.pre hR hK⟩ hg hn hsize hstack hW hdg hf
/-- a callee's throw goes on to the caller -/
theorem cex_out {E : String} {ce : Cell} {q9 : Addr} {u : Wd} {t : State} {H1 : Heap} {locs1 : List Loc} (hR : Rp κ w y X L H) (ht : ∀ x ∈ c.exceptionTable.toList, False) (hlocks : meth.locks = false) (hc : cells ≤ MC) (hs : slots ≤ MS) (e1 : t.heap = H1) (hu : px E u ∧ Rp κ u y (xl X L) [] t.heap) (hS : va_S (Af κ) s.heap H1 locs1) (hcell : H1[q9]? = some ce) (hv : ce.vm = .none) (hcl : s.vm.findClass E = some ce.cls) :
    vx_W p l e R s m args below meth c H1 locs1 cells slots (vx_MQ below Qc (XCk κ y X px) args s MC MS (Af κ)) (F0 m pc ls rest) q9 :=
  vx_out (fun x hx => (ht x hx).elim) hlocks hcell hv hcl (fun t' ht' _ => ⟨u, trivial, ⟨hu.1, (hR.up (by rw [ht', ← e1]; exact hu.2)).nil⟩, hS.F ht'⟩) hS.2.2 hc hs
theorem cex_qi {Sg : Type} {fw : Sg → Wd} {fy : Sg → Ly} {post : Int32 → Sg → Prop} (hr : vx_Run p l e R s m args below meth c H locs cells slots mc ms (F0 m pc ls st0) rest (va_Qi post (fun u t => Rp κ (fw u) (fy u) (xl X L) [] t.heap) (Af κ) a) (XCk κ y (xl X L) px) (Af κ)) (hR : Rp κ w y X L H) (hS : va_S (Af κ) s.heap H locs) (ht : ∀ x ∈ c.exceptionTable.toList, False) (hlocks : meth.locks = false) (hc : cells + mc ≤ MC) (hs : slots + ms ≤ MS)
    (kk : ∀ (r : Int32) (u : Sg) (H1 : Heap) (locs1 : List Loc), post r u → Rp κ (fw u) (fy u) X L H1 → H.size ≤ H1.size → va_S (Af κ) s.heap H1 locs1 → W p l e R s m args below meth c H1 locs1 (cells + mc) (slots + ms) (vx_MQ below Qc (XCk κ y X px) args s MC MS (Af κ)) (F0 m (pc + 3) ls (.int r :: rest))) : W p l e R s m args below meth c H locs cells slots (vx_MQ below Qc (XCk κ y X px) args s MC MS (Af κ)) (F0 m pc ls st0) :=
  vx_calli hr hS (fun _ _ h => h) (fun _ h => h) (fun _ _ h => h) (fun E ce q9 u t H1 locs1 e1 _ _ hu _ _ hS hcell hv hcl => cex_out hR ht hlocks hc hs e1 hu hS hcell hv hcl) (fun r u t H1 locs1 ht _ hp hB hz _ hS => kk r u H1 locs1 hp (hR.up (by rw [← ht]; exact hB)) hz hS)
theorem cex_ql {Sg : Type} {fw : Sg → Wd} {fy : Sg → Ly} {post : Int64 → Sg → Prop} (hr : vx_Run p l e R s m args below meth c H locs cells slots mc ms (F0 m pc ls st0) rest (va_Ql post (fun u t => Rp κ (fw u) (fy u) (xl X L) [] t.heap) (Af κ) a) (XCk κ y (xl X L) px) (Af κ)) (hR : Rp κ w y X L H) (hS : va_S (Af κ) s.heap H locs) (ht : ∀ x ∈ c.exceptionTable.toList, False) (hlocks : meth.locks = false) (hc : cells + mc ≤ MC) (hs : slots + ms ≤ MS)
    (kk : ∀ (r : Int64) (u : Sg) (H1 : Heap) (locs1 : List Loc), post r u → Rp κ (fw u) (fy u) X L H1 → H.size ≤ H1.size → va_S (Af κ) s.heap H1 locs1 → W p l e R s m args below meth c H1 locs1 (cells + mc) (slots + ms) (vx_MQ below Qc (XCk κ y X px) args s MC MS (Af κ)) (F0 m (pc + 3) ls (.long r :: rest))) : W p l e R s m args below meth c H locs cells slots (vx_MQ below Qc (XCk κ y X px) args s MC MS (Af κ)) (F0 m pc ls st0) :=
  vx_calll hr hS (fun _ _ h => h) (fun _ h => h) (fun _ _ h => h) (fun E ce q9 u t H1 locs1 e1 _ _ hu _ _ hS hcell hv hcl => cex_out hR ht hlocks hc hs e1 hu hS hcell hv hcl) (fun r u t H1 locs1 ht _ hp hB hz _ hS => kk r u H1 locs1 hp (hR.up (by rw [← ht]; exact hB)) hz hS)
theorem cex_qv {Sg : Type} {fw : Sg → Wd} {fy : Sg → Ly} {post : Sg → Prop} (hr : vx_Run p l e R s m args below meth c H locs cells slots mc ms (F0 m pc ls st0) rest (va_Qv post (fun u t => Rp κ (fw u) (fy u) (xl X L) [] t.heap) (Af κ) a) (XCk κ y (xl X L) px) (Af κ)) (hR : Rp κ w y X L H) (hS : va_S (Af κ) s.heap H locs) (ht : ∀ x ∈ c.exceptionTable.toList, False) (hlocks : meth.locks = false) (hc : cells + mc ≤ MC) (hs : slots + ms ≤ MS)
    (kk : ∀ (u : Sg) (H1 : Heap) (locs1 : List Loc), post u → Rp κ (fw u) (fy u) X L H1 → H.size ≤ H1.size → va_S (Af κ) s.heap H1 locs1 → W p l e R s m args below meth c H1 locs1 (cells + mc) (slots + ms) (vx_MQ below Qc (XCk κ y X px) args s MC MS (Af κ)) (F0 m (pc + 3) ls rest)) : W p l e R s m args below meth c H locs cells slots (vx_MQ below Qc (XCk κ y X px) args s MC MS (Af κ)) (F0 m pc ls st0) :=
  vx_callv hr hS (fun _ _ h => h) (fun _ h => h) (fun _ _ h => h) (fun E ce q9 u t H1 locs1 e1 _ _ hu _ _ hS hcell hv hcl => cex_out hR ht hlocks hc hs e1 hu hS hcell hv hcl) (fun u t H1 locs1 ht _ hp hB hz _ hS => kk u H1 locs1 hp (hR.up (by rw [← ht]; exact hB)) hz hS)
theorem vx_callr {S SX : Type} {post : S → Prop} {ppx : SX → Prop} {B : S → Nat → State → Prop} {BX : String → SX → State → Prop} {A0 A1 AX : Nat → Prop} {H0 : Heap} (hr : vx_Run p l e R s m args below meth c H locs cells slots mc ms (F0 m pc ls st0) rest (va_Qr post B A1 a) (vx_X ppx BX AX) free) (hS : va_S A0 H0 H locs) (hA : ∀ q, q < H.size → A1 q → A0 q) (hf : ∀ q, free q → A0 q) (hAX : ∀ q, q < H.size → AX q → A0 q)
    (kx : ∀ (E : String) (ce : Cell) (q9 : Addr) (u : SX) (t : State) (H1 : Heap) (locs1 : List Loc), t.heap = H1 → s.vm.Alike t.vm → ppx u → BX E u t → H.size ≤ H1.size → (∀ q : Nat, q < H.size → ¬ AX q → H1[q]? = H[q]?) → va_S A0 H0 H1 locs1 → H1[q9]? = some ce → ce.vm = .none → s.vm.findClass E = some ce.cls → vx_W p l e R s m args below meth c H1 locs1 (cells + mc) (slots + ms) Q (F0 m pc ls rest) q9)
    (kk : ∀ (u : S) (ra : Nat) (t : State) (H1 : Heap) (locs1 : List Loc), t.heap = H1 → s.vm.Alike t.vm → post u → B u ra t → H.size ≤ H1.size → (∀ q : Nat, q < H.size → ¬ A1 q → H1[q]? = H[q]?) → va_S A0 H0 H1 locs1 → W p l e R s m args below meth c H1 locs1 (cells + mc) (slots + ms) Q (F0 m (pc + 3) ls (.ref ra :: rest))) : W p l e R s m args below meth c H locs cells slots Q (F0 m pc ls st0) := by
  intro T hT X
  rcases hr T hT X with ⟨v, st₀, t, T', L, h0, X', hL, e1, e2, ⟨⟨u, ra, hv, hp, hb⟩, hF⟩, st⟩ | ⟨q, st₀, t, T', L, E, ce, h0, X', hL, e1, e2, ⟨u, hp, hb, hF⟩, hce, hcv, hcl, st⟩
  · cases hv
    obtain ⟨k1, k2, k3⟩ := vx_keep h0 e1 hS hA hf hL hF
    obtain ⟨t2, a1, b1⟩ := kk u ra t T'.heap (locs ++ L) e1.symm (by rw [← e2]; exact X'.warmed.alike) hp hb k1 k2 k3 T' rfl X'
    exact ⟨t2, st t2 a1, b1⟩
  · obtain ⟨k1, k2, k3⟩ := vx_keep h0 e1 hS hAX hf hL hF
    obtain ⟨t2, a1, b1⟩ := kx E ce q u t T'.heap (locs ++ L) e1.symm (by rw [← e2]; exact X'.warmed.alike) hp hb k1 k2 k3 (by rw [e1]; exact hce) hcv hcl T' rfl X'
    exact ⟨t2, st.trans a1, b1⟩
theorem cex_qr {Sg : Type} {fw : Sg → Wd} {fy : Sg → Ly} {post : Sg → Prop} {P : Sg → Nat → Prop} (hr : vx_Run p l e R s m args below meth c H locs cells slots mc ms (F0 m pc ls st0) rest (va_Qr post (fun u ra t => Rp κ (fw u) (fy u) (xl X L) [] t.heap ∧ P u ra) (Af κ) a) (XCk κ y (xl X L) px) (Af κ)) (hR : Rp κ w y X L H) (hS : va_S (Af κ) s.heap H locs) (ht : ∀ x ∈ c.exceptionTable.toList, False) (hlocks : meth.locks = false) (hc : cells + mc ≤ MC) (hs : slots + ms ≤ MS)
    (kk : ∀ (u : Sg) (ra : Nat) (H1 : Heap) (locs1 : List Loc), post u → P u ra → Rp κ (fw u) (fy u) X L H1 → H.size ≤ H1.size → va_S (Af κ) s.heap H1 locs1 → W p l e R s m args below meth c H1 locs1 (cells + mc) (slots + ms) (vx_MQ below Qc (XCk κ y X px) args s MC MS (Af κ)) (F0 m (pc + 3) ls (.ref ra :: rest))) : W p l e R s m args below meth c H locs cells slots (vx_MQ below Qc (XCk κ y X px) args s MC MS (Af κ)) (F0 m pc ls st0) :=
  vx_callr hr hS (fun _ _ h => h) (fun _ h => h) (fun _ _ h => h) (fun E ce q9 u t H1 locs1 e1 _ _ hu _ _ hS hcell hv hcl => cex_out hR ht hlocks hc hs e1 hu hS hcell hv hcl) (fun u ra t H1 locs1 ht _ hp hB hz _ hS => kk u ra H1 locs1 hp hB.2 (hR.up (by rw [← ht]; exact hB.1)) hz hS)
theorem ce_qp {Sg : Type} {fw : Sg → Wd} {fy : Sg → Ly} {post : Sg → Prop} {P : Sg → Nat → Prop} (hr : va_Run p l e R s m args below meth c H locs cells slots mc ms (F0 m pc ls st0) rest (va_Qr post (fun u ra t => Rp κ (fw u) (fy u) (xl X L) [] t.heap ∧ P u ra) (Af κ) a) (Af κ)) (hR : Rp κ w y X L H) (hS : va_S (Af κ) s.heap H locs)
    (kk : ∀ (u : Sg) (ra : Nat) (H1 : Heap) (locs1 : List Loc), post u → P u ra → Rp κ (fw u) (fy u) X L H1 → H.size ≤ H1.size → va_S (Af κ) s.heap H1 locs1 → W p l e R s m args below meth c H1 locs1 (cells + mc) (slots + ms) Q (F0 m (pc + 3) ls (.ref ra :: rest))) : W p l e R s m args below meth c H locs cells slots Q (F0 m pc ls st0) :=
  va_callr hr hS (fun _ _ h => h) (fun _ h => h) (fun u ra t H1 locs1 ht _ hp hB hz _ hS => kk u ra H1 locs1 hp hB.2 (hR.up (by rw [← ht]; exact hB.1)) hz hS)
theorem jr_ldcwS (hx : p.tables.exec = Jvm.exec) (hb : c.code = cc) {tx : String} {k n : Nat} (hown : s.vm.findClass own = some m.cls) (hK : KK κ s) (hq : (own, k, tx, n) ∈ strL) (hdg : decode cc pc = .ok (.ldc_w k, 3))
    (kk : W p l e R s m args below meth c H locs cells slots Q (F0 m (pc + 3) ls (.ref (kA κ n) :: rest))) : W p l e R s m args below meth c H locs cells slots Q (F0 m pc ls rest) := by
  have hZ := hK.2.1.2.2.2.2.2.2.2.2.2.2.1 _ hq
  intro T hT X
  obtain ⟨t, a1, b1⟩ := kk T hT X
  exact ⟨t, X.ldcStringW hx hown (text := tx) (a := kA κ n) hZ.1 hZ.2 (g := F0 m pc ls rest) rfl (by rw [hb]; exact hdg) t a1, b1⟩
end XR1
