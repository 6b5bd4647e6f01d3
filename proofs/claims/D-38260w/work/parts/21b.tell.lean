/-! TELL: texts that are joined (printed by wip gen/tell.py) -/
set_option maxRecDepth 100000
abbrev Tx : Type := Nat × (Nat → Nat)
def tE : Tx := (0, fun _ => 0)
def tI (x : Int32) : Tx := (sb_dg x.toNatClampNeg, sb_dec x.toNatClampNeg)
def tS (l : List Nat) : Tx := (l.length, fun i => l.getD i 0)
def tCat (a b : Tx) : Tx := (a.1 + b.1, sb_cat a.2 a.1 b.2)
theorem nI_cl {x : Int32} (h : ¬ x < 0) : x = nI x.toNatClampNeg ∧ x.toNatClampNeg < 2 ^ 31 := by
  obtain ⟨j, hj, rfl⟩ := nI_of h
  rw [nI_clamp hj]
  exact ⟨rfl, hj⟩
theorem by_congr {κ : Kx} {a n : Nat} {f g : Nat → Int32} {H : Heap} (h : ∀ j, j < n → f j = g j) (he : va_at (kD κ) Cl (a, byC κ n f) H) : va_at (kD κ) Cl (a, byC κ n g) H := by
  have e1 : (fun j : Fin n => Value.int (f j.val)) = fun j : Fin n => Value.int (g j.val) := funext fun j => by rw [h j.val j.isLt]
  have e2 : arrV (kT κ 3) n (fun j => .int (f j)) = arrV (kT κ 3) n (fun j => .int (g j)) := by
    simp only [arrV, e1]
  show H[a]? = some (arrV (kT κ 3) n (fun j => .int (g j)))
  rw [← e2]
  exact he
/-- a text of the constants, at every heap over the start's -/
theorem str_const {κ : Kx} {s : State} (hK : KK κ s) {q : Nat × List Nat} (hq : q ∈ strB) (hl : ∀ b ∈ q.2, b < 128) : ∃ (bA : Nat) (hh zz : Int32) (f : Nat → Int32), (∀ (w : Wd) (y : Ly) (X : XR) (L : va_W) (H : Heap), Rp κ w y X L H → va_at (kD κ) Cl (kA κ q.1, stC bA hh zz) H ∧ va_at (kD κ) Cl (bA, byC κ q.2.length f) H) ∧ sb_Lat (tS q.2).2 q.2.length f ∧ sb_Fit f := by
  obtain ⟨bA, hh, zz, f, h1, h2, h3, h4, h5⟩ := hK.2.1.2.2.2.2.2.1.2.2.2.2.2.2.2 q hq
  have hf : ∀ j, j < q.2.length → (q.2.getD j 0) < 128 ∧ f j = sb_b (q.2.getD j 0) := fun j hj => by
    have hb : q.2.getD j 0 < 128 := by
      rw [List.getD_eq_getElem?_getD, List.getElem?_eq_getElem hj]
      exact hl _ (List.getElem_mem hj)
    exact ⟨hb, by rw [h3 j hj, sb_small _ hb]⟩
  refine ⟨bA, hh, zz, fun j => if j < q.2.length then f j else 0, fun w y X L H hR => ⟨h1.kept (hR.1.2 _ h5), by_congr (fun j hj => (if_pos hj).symm) (h2.kept (hR.1.2 _ h4))⟩, fun j hj => ⟨Nat.lt_trans (hf j hj).1 (by decide), by show (if j < q.2.length then f j else 0) = _; rw [if_pos hj]; exact (hf j hj).2⟩, fun j => ?_⟩
  show fits .byte (.int (if j < q.2.length then f j else 0)) = true
  split
  · rename_i hj
    rw [(hf j hj).2]
    exact sb_fitB _
  · decide
/-- a callee has written one of my temporaries and hands over its own -/
theorem Rp.wroteU {κ : Kx} {w w' : Wd} {y y' : Ly} {X : XR} {L L2 : va_W} {H H1 : Heap} {t a : Nat} {e0 e1 : va_E} (h : Rp κ w y X L H) (ht : L[t]? = some (a, e0)) (h1 : Rp κ w' y' (upX (xl X L) a e1) L2 H1) : Rp κ w' y' X (L.set t (a, e1) ++ L2) H1 := by
  have hL := h.wroteL ht (h1.sub (L' := []) [] rfl rfl)
  refine hL.up2 (h1.wk (fun q e hx => ?_))
  have hd := h.LD
  have ha : ∀ e, ¬ X a e := fun e hx => (h.2.2.2.2.2.2 t _ ht).1 e hx
  have hlt := (List.getElem?_eq_some_iff.mp ht).1
  rcases hx with hx | ⟨t2, ht2⟩
  · exact Or.inr ⟨fun e9 => ha e (by rw [← e9]; exact hx), Or.inl hx⟩
  · by_cases hc : t2 = t
    · subst hc
      rw [List.getElem?_set_self hlt] at ht2
      cases ht2
      exact Or.inl ⟨rfl, rfl⟩
    · rw [List.getElem?_set_ne (fun e => hc e.symm)] at ht2
      exact Or.inr ⟨fun e9 => hc (hd.1 t2 t (q, e) (a, e0) ht2 ht e9), Or.inr ⟨t2, ht2⟩⟩
/-- a StringBuilder of mine has been added to -/
theorem Rp.wroteSB {κ : Kx} {w w' : Wd} {y y' : Ly} {X : XR} {L L' : va_W} {H H1 : Heap} {i j sb a u : Nat} {e1 e2 f1 f2 : va_E} (h : Rp κ w y X L H) (hi : L[i]? = some (sb, e1)) (hj : L[j]? = some (a, e2)) (h1 : Rp κ w' y' (X2 (xl X L) sb u f1 f2) [] H1) (hnew : ∀ p e, p ≠ a → xl X L p e → p ≠ u) (hu : u ≠ sb)
    (hij : i ≠ j) (hL' : L' = (L.set i (sb, f1)).set j (u, f2)) : Rp κ w' y' X L' H1 := by
  subst hL'
  obtain ⟨a12, a3, a4, a5, a6, a7, a8⟩ := h
  obtain ⟨b12, b3, b4, b5, b6, b7, b8⟩ := h1
  have li := (List.getElem?_eq_some_iff.mp hi).1
  have lj := (List.getElem?_eq_some_iff.mp hj).1
  have key : ∀ (k : Nat) (q : Nat × va_E), ((L.set i (sb, f1)).set j (u, f2))[k]? = some q → (k = j ∧ q = (u, f2)) ∨ (k = i ∧ k ≠ j ∧ q = (sb, f1)) ∨ (k ≠ i ∧ k ≠ j ∧ L[k]? = some q) := by
    intro k q hk
    by_cases c1 : k = j
    · subst c1
      rw [List.getElem?_set_self (by simpa using lj)] at hk
      cases hk
      exact Or.inl ⟨rfl, rfl⟩
    · rw [List.getElem?_set_ne (fun e => c1 e.symm)] at hk
      by_cases c2 : k = i
      · subst c2
        rw [List.getElem?_set_self li] at hk
        cases hk
        exact Or.inr (Or.inl ⟨rfl, c1, rfl⟩)
      · rw [List.getElem?_set_ne (fun e => c2 e.symm)] at hk
        exact Or.inr (Or.inr ⟨c2, c1, hk⟩)
  have hLu : ∀ (k : Nat) (q : Nat × va_E), k ≠ j → L[k]? = some q → q.1 ≠ u := fun k q hk h9 => hnew q.1 q.2 (fun e => hk (a7.1 k j q (a, e2) h9 hj e)) (Or.inr ⟨k, h9⟩)
  have hXu : ∀ q e, X q e → q ≠ u := fun q e hx => hnew q e (fun e9 => (a8 j _ hj).1 e (by rw [← e9]; exact hx)) (Or.inl hx)
  have hXs : ∀ q e, X q e → q ≠ sb := fun q e hx e9 => (a8 i _ hi).1 e (by rw [← e9]; exact hx)
  have inX : ∀ (k : Nat) (q : Nat × va_E), ((L.set i (sb, f1)).set j (u, f2))[k]? = some q → X2 (xl X L) sb u f1 f2 q.1 q.2 := by
    intro k q hk
    rcases key k q hk with ⟨-, rfl⟩ | ⟨-, -, rfl⟩ | ⟨h1, h2, h3⟩
    · exact X2_a
    · exact X2_s hu
    · exact X2_o (fun e => h1 (a7.1 k i q (sb, e1) h3 hi e)) (hLu k q h2 h3) (Or.inr ⟨k, h3⟩)
  refine ⟨b12, b3, b4, fun q e hx => b5 q e (X2_o (hXs q e hx) (hXu q e hx) (Or.inl hx)), fun k q hk => (b5 q.1 q.2 (inX k q hk)).1, ⟨fun k1 k2 p q h1 h2 e => ?_, fun k q hk => (b5 q.1 q.2 (inX k q hk)).2.1⟩, fun k q hk => ⟨fun e hx => ?_, (b5 q.1 q.2 (inX k q hk)).2.2⟩⟩
  · rcases key k1 p h1 with ⟨c1, rfl⟩ | ⟨c1, -, rfl⟩ | ⟨c1, d1, g1⟩ <;> rcases key k2 q h2 with ⟨c2, rfl⟩ | ⟨c2, -, rfl⟩ | ⟨c2, d2, g2⟩
    · rw [c1, c2]
    · exact absurd e hu
    · exact absurd e.symm (hLu k2 q d2 g2)
    · exact absurd e.symm hu
    · rw [c1, c2]
    · exact absurd (a7.1 k2 i q (sb, e1) g2 hi e.symm) c2
    · exact absurd e (hLu k1 p d1 g1)
    · exact absurd (a7.1 k1 i p (sb, e1) g1 hi e) c1
    · exact a7.1 k1 k2 p q g1 g2 e
  · rcases key k q hk with ⟨-, rfl⟩ | ⟨-, -, rfl⟩ | ⟨-, -, g⟩
    · exact hXu u e hx rfl
    · exact hXs sb e hx rfl
    · exact (a8 k q g).1 e hx
section TLL
variable {p : Program} {l : Launch} {e : Env} {R : Room} {s : State} {m : MethodId} {args : Array Value} {below : List Frame} {meth : Method} {c : Code} {H : Heap} {locs : List Loc} {cells slots : Nat} {Q : State → Prop}
variable {cc : ByteArray} {pc nL mc ms n index maxL : Nat} {ls : Array Slot} {rest As st0 : List Value} {κ : Kx} {w : Wd} {y : Ly} {X : XR} {L : va_W} {own C host : String} {Y : MethodName} {bytes : ByteArray} {ret : Option FieldType} {rm : Room} {Pc : Array Value → State → Prop} {Qc : Array Value → State → Outcome → State → Prop} {b : Addr} {g : JFrame} {free : Addr → Prop}
/-- a call through an object, of a method that asks more than the world -/
theorem crt_V (S : CallFix p m c cc nL s args lw_all own) (hM : Met l Y (ws_ Y bytes maxL ret) rm Pc Qc mc ms free) (hbl : FrameBlind Pc) (hpre : ∀ U : State, U.heap = H → s.WarmedH U.vm → Pc (Value.ref b :: As).toArray U)
    (q1 : Cond.methodLink own index Y ∈ lw_all) (q2 : Cond.instanceMethod Y ∈ lw_all) (q3 : Cond.selects C Y Y ∈ lw_all) (q4 : Cond.initialized C ∈ lw_all) (q5 : Cond.code Y bytes maxL ret ∈ lw_all) (hrc : rm.cells = mc) (hrs : rm.slots = ms)
    (hd : Y.cls = C ∧ Y.cls ≠ "java/lang/invoke/MethodHandle" ∧ Y.cls ≠ "java/lang/invoke/VarHandle" ∧ (parseMethodDescriptor Y.desc).map (fun d => d.parameters.length) = some n) (hRm : rm.frames + 1 ≤ R.frames ∧ 8 + (maxL + 11) + rm.locals ≤ R.locals)
    (hrecv : ∃ cell : Cell, H[b]? = some cell ∧ cell.vm.isStatics = false ∧ s.vm.findClass C = some cell.cls)
    (hg : g.method = m) (hn : As.length = n) (hsize : g.locals.size = nL) (hstack : g.stack = As.reverse ++ .ref b :: rest) (hW : 2 * g.monitorRoom + (rest.map fun v => v.category).sum ≤ 8) (hdg : decode cc g.pc = .ok (.invokevirtual index, 3)) (hf : cells + mc ≤ R.cells ∧ slots + ms ≤ R.slots) :
    va_Run p l e R s m args below meth c H locs cells slots mc ms g rest (Qc (Value.ref b :: As).toArray) free :=
  va_runV S hM (cwV n S.2.2.2.2 (lw_V q1 q2 q3 q4 q5) rfl hrc hrs hd hRm) ⟨hbl, hrecv, hpre⟩ hg hn hsize hstack hW hdg hf
end TLL
abbrev rm_X1_tell : Room := { frames := 8, cells := 13, slots := 1290, locals := 280 }
def sp_X1_tell (κ : Kx) (y : Ly) (post : Option Tx → Wd → Prop) (px : String → Wd → Prop) (w : Wd) (p1 : Int32) : Prop := sp_X1_villageOf κ y (fun i_2 w_2 => (¬ p1 < 0) ∧ ((¬ (gv w_2 6 i_2 6) < 0) ∧ (((gv w_2 6 i_2 16 = 0) → (((gv w_2 6 i_2 17 = 0) → (((gv w_2 6 i_2 10 ≤ 0) → (post (some (tCat (tCat (tCat (tCat (tE) (tI p1)) (tS [58, 32])) (tI (gv w_2 6 i_2 6))) (tS [32, 104, 111, 117, 115, 101, 115]))) w_2)) ∧ ((¬ (gv w_2 6 i_2 10 ≤ 0)) → ((¬ (gv w_2 6 i_2 10) < 0) ∧ (post (some (tCat (tCat (tCat (tCat (tCat (tCat (tE) (tI p1)) (tS [58, 32])) (tI (gv w_2 6 i_2 6))) (tS [32, 104, 111, 117, 115, 101, 115])) (tS [44, 32, 111, 119, 101, 115, 32])) (tI (gv w_2 6 i_2 10)))) w_2))))) ∧ ((¬ (gv w_2 6 i_2 17 = 0)) → (((gv w_2 6 i_2 10 ≤ 0) → (post (some (tCat (tCat (tCat (tCat (tCat (tE) (tI p1)) (tS [58, 32])) (tI (gv w_2 6 i_2 6))) (tS [32, 104, 111, 117, 115, 101, 115])) (tS [44, 32, 98, 117, 114, 110, 116]))) w_2)) ∧ ((¬ (gv w_2 6 i_2 10 ≤ 0)) → ((¬ (gv w_2 6 i_2 10) < 0) ∧ (post (some (tCat (tCat (tCat (tCat (tCat (tCat (tCat (tE) (tI p1)) (tS [58, 32])) (tI (gv w_2 6 i_2 6))) (tS [32, 104, 111, 117, 115, 101, 115])) (tS [44, 32, 98, 117, 114, 110, 116])) (tS [44, 32, 111, 119, 101, 115, 32])) (tI (gv w_2 6 i_2 10)))) w_2))))))) ∧ ((¬ (gv w_2 6 i_2 16 = 0)) → (((gv w_2 6 i_2 17 = 0) → (((gv w_2 6 i_2 10 ≤ 0) → (post (some (tCat (tCat (tCat (tCat (tCat (tE) (tI p1)) (tS [58, 32])) (tI (gv w_2 6 i_2 6))) (tS [32, 104, 111, 117, 115, 101, 115])) (tS [44, 32, 114, 101, 118, 111, 108, 116]))) w_2)) ∧ ((¬ (gv w_2 6 i_2 10 ≤ 0)) → ((¬ (gv w_2 6 i_2 10) < 0) ∧ (post (some (tCat (tCat (tCat (tCat (tCat (tCat (tCat (tE) (tI p1)) (tS [58, 32])) (tI (gv w_2 6 i_2 6))) (tS [32, 104, 111, 117, 115, 101, 115])) (tS [44, 32, 114, 101, 118, 111, 108, 116])) (tS [44, 32, 111, 119, 101, 115, 32])) (tI (gv w_2 6 i_2 10)))) w_2))))) ∧ ((¬ (gv w_2 6 i_2 17 = 0)) → (((gv w_2 6 i_2 10 ≤ 0) → (post (some (tCat (tCat (tCat (tCat (tCat (tCat (tE) (tI p1)) (tS [58, 32])) (tI (gv w_2 6 i_2 6))) (tS [32, 104, 111, 117, 115, 101, 115])) (tS [44, 32, 114, 101, 118, 111, 108, 116])) (tS [44, 32, 98, 117, 114, 110, 116]))) w_2)) ∧ ((¬ (gv w_2 6 i_2 10 ≤ 0)) → ((¬ (gv w_2 6 i_2 10) < 0) ∧ (post (some (tCat (tCat (tCat (tCat (tCat (tCat (tCat (tCat (tE) (tI p1)) (tS [58, 32])) (tI (gv w_2 6 i_2 6))) (tS [32, 104, 111, 117, 115, 101, 115])) (tS [44, 32, 114, 101, 118, 111, 108, 116])) (tS [44, 32, 98, 117, 114, 110, 116])) (tS [44, 32, 111, 119, 101, 115, 32])) (tI (gv w_2 6 i_2 10)))) w_2)))))))))) px w p1
theorem hd_X1_tell : yX1_tell.cls = RX1 ∧ yX1_tell.cls ≠ "java/lang/invoke/MethodHandle" ∧ yX1_tell.cls ≠ "java/lang/invoke/VarHandle" ∧ (parseMethodDescriptor yX1_tell.desc).map (fun d => d.parameters.length) = some 1 := by decide +kernel
set_option maxHeartbeats 4000000 in
theorem m_X1_tell {l : Launch} {κ : Kx} {y : Ly} {X : XR} {post : Option Tx → Wd → Prop} {px : String → Wd → Prop} {w : Wd} {p1 : Int32}  (hfl : l.stackTraces = false) (hW : WFc κ y) (l0 : live y 0 0) (h : sp_X1_tell κ y post px w p1) : vx_Met l yX1_tell (ws_ yX1_tell cX1_tell 4 (Option.some (Jvm.ClassFile.FieldType.object "java/lang/String"))) rm_X1_tell (va_Pc [.ref (y.2 0 0), .int (p1)] (RCt κ w y X)) (va_Qr (fun u : Option Tx × Wd × Nat × (Nat → Int32) => post u.1 u.2.1) (fun u ra t => (u.1 = none ∧ Rp κ u.2.1 y X [] t.heap) ∨ ∃ T : Tx, u.1 = some T ∧ Rp κ u.2.1 y X [(ra, stC u.2.2.1 0 0), (u.2.2.1, byC κ T.1 u.2.2.2)] t.heap ∧ sb_Lat T.2 T.1 u.2.2.2 ∧ sb_Fit u.2.2.2 ∧ T.1 ≤ 70) (Af κ)) (XCk κ y X px) 13 1290 (Af κ) := by
  unfold sp_X1_tell at h
  refine vx_ofW (cc := cX1_tell) (maxL := 4) (ret := (Option.some (Jvm.ClassFile.FieldType.object "java/lang/String"))) (by decide) rfl ?_
  intro p e s m args below meth c s₁ B hml ht hv
  obtain ⟨rfl, ⟨hR, hK⟩, hPx⟩ := hv
  have hx := B.exec
  have hb := B.bytes
  have hr := B.returns
  have hts := atoms_spec (ws := ws_ yX1_tell cX1_tell 4 (Option.some (Jvm.ClassFile.FieldType.object "java/lang/String"))) B.pre
  have hts : ∀ w ∈ lw_all, w.before _ s = true := fun w h => hts w (List.mem_cons_of_mem _ h)
  have hown : s.vm.findClass RX1 = some m.cls := findClass_of_methodNamed B.named
  have hlocks := B.notSynchronized
  have hR0 := hR
  have hS : va_S (Af κ) s.heap s.heap [] := va_S.rf
  have hl := lv_entry ([.ref (y.2 0 0), .int (p1)]) (n := 4) (Nat.le_of_ble_eq_true rfl)
  rw [lg_entry_eq]
  generalize (lg_sl ([.ref (y.2 0 0), .int (p1)]) ++ List.replicate (4 - (lg_sl ([.ref (y.2 0 0), .int (p1)])).length) Slot.unset).toArray = ls at hl ⊢
  have hl : lv_has ls 4 [(0, .ref (y.2 0 0)), (1, .int (p1))] := hl
  refine lv_aload_n hx hb dX1_tell_0 rfl (lv_at hl 0 rfl) ?_
  refine lv_iload_n hx hb dX1_tell_1 rfl (lv_at hl 1 rfl) ?_
  refine cex_qr (fw := fun u : Nat × Wd => u.2) (fy := fun _ => y) (P := (fun (u : Nat × Wd) ra => ra = y.2 6 u.1 ∧ live y 6 u.1)) (crx_V (n := 1) (As := [.int (p1)]) (rest := []) ⟨hx, hb, hml, hown, hts⟩ hK hR (m_X1_villageOf hfl hW l0 h) q1029 q1031 qs20 q74 q1032 rfl rfl hd_X1_villageOf ⟨Nat.le_of_ble_eq_true rfl, Nat.le_of_ble_eq_true rfl⟩ (rv hK hR l0 (ci := 0) rfl rfl) rfl rfl hl.1 rfl (lv_room (Nat.le_of_ble_eq_true rfl)) dX1_tell_2 ⟨(Nat.le_of_ble_eq_true rfl), (Nat.le_of_ble_eq_true rfl)⟩) hR hS ht hlocks (Nat.le_of_ble_eq_true rfl) (Nat.le_of_ble_eq_true rfl) (fun u9 a_2 H locs h p9 hR _ hS => ?_)
  obtain ⟨i_2, w_2⟩ := u9
  obtain ⟨e9, lv_2⟩ := p9
  dsimp only at e9 lv_2 h
  subst e9
  refine lv_astore_n (lv' := [(2, .ref (y.2 6 i_2)), (0, .ref (y.2 0 0)), (1, .int (p1))]) hx hb dX1_tell_5 rfl hl (by decide) rfl (fun ls hl => ?_)
  refine xa_new (C := RJ24) (T := TJ24) (N := 4) (ci := 20) (fs := [.null, .int 0, .int 0, .int 0]) hx hb hts in_J24 tyJ24 tyJ24_ok hown q1658 q1659 q119 hK.1 hS rfl (fun j hj => by rcases (show j = 0 ∨ j = 1 ∨ j = 2 ∨ j = 3 by omega) with rfl | rfl | rfl | rfl <;> rfl) (Nat.le_of_ble_eq_true rfl) (Nat.le_of_ble_eq_true rfl) dX1_tell_6 (fun q_6 H1 hq h1 hz ho hS => ?_)
  have hR := hR.newL hq h1 (by omega) ho
  clear hq h1 hz ho
  generalize H1 = H at hR hS ⊢
  have hR : Rp κ w_2 y X [(q_6, .inr (20, [.null, .int 0, .int 0, .int 0]))] H := hR
  refine lv_dup hx hb dX1_tell_9 rfl ?_
  refine va_callv (va_runI (As := []) (rest := [.ref (q_6)]) ⟨hx, hb, hml, hown, hts⟩ (m_J24_init (X := xl X [(q_6, .inr (20, [.null, .int 0, .int 0, .int 0]))]) (Or.inr ⟨0, rfl⟩)) (cwI 0 hts (lw_meth q1662) rfl rfl rfl (hts _ q119) (hts _ q1660) (hts _ q1661) rfl (by decide +kernel) ⟨(Nat.le_of_ble_eq_true rfl), (Nat.le_of_ble_eq_true rfl)⟩) ⟨RC.blind, RC.pre hR hK⟩ rfl rfl hl.1 rfl (lv_room (Nat.le_of_ble_eq_true rfl)) dX1_tell_10 ⟨(Nat.le_of_ble_eq_true rfl), (Nat.le_of_ble_eq_true rfl)⟩) hS (fun _ _ h => h) (fun _ h => h) (fun ab_10 t H locs ht _ _ hB hz _ hS => ?_)
  rw [ht] at hB
  have hR := hR.wroteU (t := 0) rfl hB
  clear hB ht hz
  obtain ⟨T_10, eT_10⟩ : ∃ z, z = tE := ⟨_, rfl⟩
  have hT_10 : T_10.1 ≤ 0 := by rw [eT_10]; exact Nat.le_refl _
  obtain ⟨fT_10, efT_10⟩ : ∃ z : Nat → Int32, z = fun _ => 0 := ⟨_, rfl⟩
  have hfT_10 : sb_Fit fT_10 := by rw [efT_10]; exact sb_fit0
  have hlT_10 : sb_Lat T_10.2 T_10.1 fT_10 := fun j hj => absurd hj (by omega)
  have hmT_10 : (16 : Nat) ≤ 140 ∧ T_10.1 ≤ 16 := ⟨by decide, by omega⟩
  have hneT_10 : ab_10 ≠ q_6 := fun e9 => absurd (hR.LD.1 1 0 _ _ rfl rfl e9) (by decide)
  have hR : Rp κ w_2 y X [(q_6, sbC ab_10 0 (nI T_10.1)), (ab_10, byC κ 16 fT_10)] H := by rw [show (nI T_10.1) = (0 : Int32) by rw [eT_10]; rfl, efT_10]; exact hR
  refine lv_iload_n hx hb dX1_tell_13 rfl (lv_at hl 2 rfl) ?_
  have o_14 := h.1
  have h := h.2
  have eio_14 := nI_cl o_14
  have dio_14 := (sb_dg_in (p1).toNatClampNeg).2
  refine W.eq (g2 := F0 m 14 ls [.int (nI (p1).toNatClampNeg), .ref (q_6)]) (by rw [← eio_14.1]) ?_
  refine va_callr (crt_V (n := 1) (As := [.int (nI (p1).toNatClampNeg)]) (rest := []) ⟨hx, hb, hml, hown, hts⟩ (m_J24_append (X := xl X [(q_6, sbC ab_10 0 (nI T_10.1)), (ab_10, byC κ 16 fT_10)]) (n := T_10.1) (t := T_10.2) (Or.inr ⟨0, rfl⟩) (Or.inr ⟨1, rfl⟩) hneT_10 hmT_10.1 hfT_10 hlT_10 hmT_10.2 eio_14.2 (by omega)) RCt.blind (RCt.pre hR hK hPx) q1689 q1690 q1691 q119 q1692 rfl rfl hd_J24_append ⟨(Nat.le_of_ble_eq_true rfl), (Nat.le_of_ble_eq_true rfl)⟩ (rv_at2 hK (hR.L 0 _ rfl) rfl) rfl rfl hl.1 rfl (lv_room (Nat.le_of_ble_eq_true rfl)) dX1_tell_14 ⟨(Nat.le_of_ble_eq_true rfl), (Nat.le_of_ble_eq_true rfl)⟩) hS (fun _ _ h => h) (fun _ h => h) (fun u9 ra9 t H locs ht _ hp hB hz _ hS => ?_)
  rw [ht] at hB
  obtain ⟨e9, hB⟩ := hB
  replace e9 := e9.symm
  subst e9
  obtain ⟨abT_14, mmT_14, fT_14⟩ := u9
  obtain ⟨pp1, pp2, pp3, hfT_14, pp5, pp6⟩ := hp
  dsimp only at pp1 pp2 pp3 hfT_14 pp5 pp6 hB
  have hneT_14 : abT_14 ≠ q_6 := pp3
  have hmT_14 : mmT_14 ≤ 140 := pp2
  obtain ⟨T_14, eT_14⟩ : ∃ z, z = tCat T_10 (tI p1) := ⟨_, rfl⟩
  have e1T_14 : T_14.1 = T_10.1 + sb_dg (p1).toNatClampNeg := by rw [eT_14]; rfl
  have hT_14 : T_14.1 ≤ 10 := by omega
  have hlT_14 : sb_Lat T_14.2 T_14.1 fT_14 := by rw [eT_14]; exact pp5
  have hmT_14 : mmT_14 ≤ 140 ∧ T_14.1 ≤ mmT_14 := ⟨pp2, by rw [e1T_14]; exact pp1⟩
  have hR : Rp κ w_2 y X [(q_6, sbC abT_14 0 (nI T_14.1)), (abT_14, byC κ mmT_14 fT_14)] H := by
    rw [e1T_14]
    exact hR.wroteSB (i := 0) (j := 1) rfl rfl hB pp6 pp3 (by decide) rfl
  clear hB ht hz pp1 pp2 pp3 pp5 pp6
  refine jr_ldcwS (own := "Publicanry") (k := 632) (tx := ": ") (n := 1632) hx hb hown hK (List.mem_of_getElem? (i := 24) rfl) dX1_tell_17 ?_
  obtain ⟨bAc_20, hhc_20, zzc_20, sfc_20, hcc_20, hcLc_20, hcFc_20⟩ := str_const hK (q := (1632, [58, 32])) (List.mem_of_getElem? (i := 0) rfl) (by decide)
  refine va_callr (crt_V (n := 1) (As := [.ref (kA κ 1632)]) (rest := []) ⟨hx, hb, hml, hown, hts⟩ (m_J24_append_2 (X := xl X [(q_6, sbC abT_14 0 (nI T_14.1)), (abT_14, byC κ mmT_14 fT_14)]) (n := T_14.1) (t := T_14.2) (Or.inr ⟨0, rfl⟩) (Or.inr ⟨1, rfl⟩) hneT_14 hmT_14.1 hfT_14 hlT_14 hmT_14.2 (fun X9 H9 _ h9 => hcc_20 _ _ _ _ _ h9) hcLc_20 hcFc_20 (by show T_14.1 + 2 ≤ 70; omega)) RCt.blind (RCt.pre hR hK hPx) q1761 q1762 q1763 q119 q1764 rfl rfl hd_J24_append_2 ⟨(Nat.le_of_ble_eq_true rfl), (Nat.le_of_ble_eq_true rfl)⟩ (rv_at2 hK (hR.L 0 _ rfl) rfl) rfl rfl hl.1 rfl (lv_room (Nat.le_of_ble_eq_true rfl)) dX1_tell_20 ⟨(Nat.le_of_ble_eq_true rfl), (Nat.le_of_ble_eq_true rfl)⟩) hS (fun _ _ h => h) (fun _ h => h) (fun u9 ra9 t H locs ht _ hp hB hz _ hS => ?_)
  rw [ht] at hB
  obtain ⟨e9, hB⟩ := hB
  replace e9 := e9.symm
  subst e9
  obtain ⟨abT_20, mmT_20, fT_20⟩ := u9
  obtain ⟨pp1, pp2, pp3, hfT_20, pp5, pp6⟩ := hp
  dsimp only at pp1 pp2 pp3 hfT_20 pp5 pp6 hB
  have hneT_20 : abT_20 ≠ q_6 := pp3
  have hmT_20 : mmT_20 ≤ 140 := pp2
  obtain ⟨T_20, eT_20⟩ : ∃ z, z = tCat T_14 (tS [58, 32]) := ⟨_, rfl⟩
  have e1T_20 : T_20.1 = T_14.1 + 2 := by rw [eT_20]; rfl
  have hT_20 : T_20.1 ≤ 12 := by omega
  have hlT_20 : sb_Lat T_20.2 T_20.1 fT_20 := by rw [eT_20]; exact pp5
  have hmT_20 : mmT_20 ≤ 140 ∧ T_20.1 ≤ mmT_20 := ⟨pp2, by rw [e1T_20]; exact pp1⟩
  have hR : Rp κ w_2 y X [(q_6, sbC abT_20 0 (nI T_20.1)), (abT_20, byC κ mmT_20 fT_20)] H := by
    rw [e1T_20]
    exact hR.wroteSB (i := 0) (j := 1) rfl rfl hB pp6 pp3 (by decide) rfl
  clear hB ht hz pp1 pp2 pp3 pp5 pp6
  refine lv_aload_n hx hb dX1_tell_23 rfl (lv_at hl 0 rfl) ?_
  refine g6_6 hx hb hts hown hK hR lv_2 q932 dX1_tell_24 ?_
  have o_27 := h.1
  have h := h.2
  have eio_27 := nI_cl o_27
  have dio_27 := (sb_dg_in (gv w_2 6 i_2 6).toNatClampNeg).2
  refine W.eq (g2 := F0 m 27 ls [.int (nI (gv w_2 6 i_2 6).toNatClampNeg), .ref (q_6)]) (by rw [← eio_27.1]) ?_
  refine va_callr (crt_V (n := 1) (As := [.int (nI (gv w_2 6 i_2 6).toNatClampNeg)]) (rest := []) ⟨hx, hb, hml, hown, hts⟩ (m_J24_append (X := xl X [(q_6, sbC abT_20 0 (nI T_20.1)), (abT_20, byC κ mmT_20 fT_20)]) (n := T_20.1) (t := T_20.2) (Or.inr ⟨0, rfl⟩) (Or.inr ⟨1, rfl⟩) hneT_20 hmT_20.1 hfT_20 hlT_20 hmT_20.2 eio_27.2 (by omega)) RCt.blind (RCt.pre hR hK hPx) q1689 q1690 q1691 q119 q1692 rfl rfl hd_J24_append ⟨(Nat.le_of_ble_eq_true rfl), (Nat.le_of_ble_eq_true rfl)⟩ (rv_at2 hK (hR.L 0 _ rfl) rfl) rfl rfl hl.1 rfl (lv_room (Nat.le_of_ble_eq_true rfl)) dX1_tell_27 ⟨(Nat.le_of_ble_eq_true rfl), (Nat.le_of_ble_eq_true rfl)⟩) hS (fun _ _ h => h) (fun _ h => h) (fun u9 ra9 t H locs ht _ hp hB hz _ hS => ?_)
  rw [ht] at hB
  obtain ⟨e9, hB⟩ := hB
  replace e9 := e9.symm
  subst e9
  obtain ⟨abT_27, mmT_27, fT_27⟩ := u9
  obtain ⟨pp1, pp2, pp3, hfT_27, pp5, pp6⟩ := hp
  dsimp only at pp1 pp2 pp3 hfT_27 pp5 pp6 hB
  have hneT_27 : abT_27 ≠ q_6 := pp3
  have hmT_27 : mmT_27 ≤ 140 := pp2
  obtain ⟨T_27, eT_27⟩ : ∃ z, z = tCat T_20 (tI (gv w_2 6 i_2 6)) := ⟨_, rfl⟩
  have e1T_27 : T_27.1 = T_20.1 + sb_dg (gv w_2 6 i_2 6).toNatClampNeg := by rw [eT_27]; rfl
  have hT_27 : T_27.1 ≤ 22 := by omega
  have hlT_27 : sb_Lat T_27.2 T_27.1 fT_27 := by rw [eT_27]; exact pp5
  have hmT_27 : mmT_27 ≤ 140 ∧ T_27.1 ≤ mmT_27 := ⟨pp2, by rw [e1T_27]; exact pp1⟩
  have hR : Rp κ w_2 y X [(q_6, sbC abT_27 0 (nI T_27.1)), (abT_27, byC κ mmT_27 fT_27)] H := by
    rw [e1T_27]
    exact hR.wroteSB (i := 0) (j := 1) rfl rfl hB pp6 pp3 (by decide) rfl
  clear hB ht hz pp1 pp2 pp3 pp5 pp6
  refine jr_ldcwS (own := "Publicanry") (k := 637) (tx := " houses") (n := 1637) hx hb hown hK (List.mem_of_getElem? (i := 25) rfl) dX1_tell_30 ?_
  obtain ⟨bAc_33, hhc_33, zzc_33, sfc_33, hcc_33, hcLc_33, hcFc_33⟩ := str_const hK (q := (1637, [32, 104, 111, 117, 115, 101, 115])) (List.mem_of_getElem? (i := 1) rfl) (by decide)
  refine va_callr (crt_V (n := 1) (As := [.ref (kA κ 1637)]) (rest := []) ⟨hx, hb, hml, hown, hts⟩ (m_J24_append_2 (X := xl X [(q_6, sbC abT_27 0 (nI T_27.1)), (abT_27, byC κ mmT_27 fT_27)]) (n := T_27.1) (t := T_27.2) (Or.inr ⟨0, rfl⟩) (Or.inr ⟨1, rfl⟩) hneT_27 hmT_27.1 hfT_27 hlT_27 hmT_27.2 (fun X9 H9 _ h9 => hcc_33 _ _ _ _ _ h9) hcLc_33 hcFc_33 (by show T_27.1 + 7 ≤ 70; omega)) RCt.blind (RCt.pre hR hK hPx) q1761 q1762 q1763 q119 q1764 rfl rfl hd_J24_append_2 ⟨(Nat.le_of_ble_eq_true rfl), (Nat.le_of_ble_eq_true rfl)⟩ (rv_at2 hK (hR.L 0 _ rfl) rfl) rfl rfl hl.1 rfl (lv_room (Nat.le_of_ble_eq_true rfl)) dX1_tell_33 ⟨(Nat.le_of_ble_eq_true rfl), (Nat.le_of_ble_eq_true rfl)⟩) hS (fun _ _ h => h) (fun _ h => h) (fun u9 ra9 t H locs ht _ hp hB hz _ hS => ?_)
  rw [ht] at hB
  obtain ⟨e9, hB⟩ := hB
  replace e9 := e9.symm
  subst e9
  obtain ⟨abT_33, mmT_33, fT_33⟩ := u9
  obtain ⟨pp1, pp2, pp3, hfT_33, pp5, pp6⟩ := hp
  dsimp only at pp1 pp2 pp3 hfT_33 pp5 pp6 hB
  have hneT_33 : abT_33 ≠ q_6 := pp3
  have hmT_33 : mmT_33 ≤ 140 := pp2
  obtain ⟨T_33, eT_33⟩ : ∃ z, z = tCat T_27 (tS [32, 104, 111, 117, 115, 101, 115]) := ⟨_, rfl⟩
  have e1T_33 : T_33.1 = T_27.1 + 7 := by rw [eT_33]; rfl
  have hT_33 : T_33.1 ≤ 29 := by omega
  have hlT_33 : sb_Lat T_33.2 T_33.1 fT_33 := by rw [eT_33]; exact pp5
  have hmT_33 : mmT_33 ≤ 140 ∧ T_33.1 ≤ mmT_33 := ⟨pp2, by rw [e1T_33]; exact pp1⟩
  have hR : Rp κ w_2 y X [(q_6, sbC abT_33 0 (nI T_33.1)), (abT_33, byC κ mmT_33 fT_33)] H := by
    rw [e1T_33]
    exact hR.wroteSB (i := 0) (j := 1) rfl rfl hB pp6 pp3 (by decide) rfl
  clear hB ht hz pp1 pp2 pp3 pp5 pp6
  refine lv_astore_n (lv' := [(3, .ref (q_6)), (2, .ref (y.2 6 i_2)), (0, .ref (y.2 0 0)), (1, .int (p1))]) hx hb dX1_tell_36 rfl hl (by decide) rfl (fun ls hl => ?_)
  refine lv_aload_n hx hb dX1_tell_37 rfl (lv_at hl 1 rfl) ?_
  refine g6_16 hx hb hts hown hK hR lv_2 q955 dX1_tell_38 ?_
  refine lv_if_eq (tgt := 52) hx hb dX1_tell_41 (by decide) (fun c_41 => ?_) (fun c_41 => ?_)
  · have h := h.1 c_41
    refine lv_aload_n hx hb dX1_tell_52 rfl (lv_at hl 1 rfl) ?_
    refine g6_17 hx hb hts hown hK hR lv_2 q957 dX1_tell_53 ?_
    refine lv_if_eq (tgt := 67) hx hb dX1_tell_56 (by decide) (fun c_56 => ?_) (fun c_56 => ?_)
    · have h := h.1 c_56
      refine lv_aload_n hx hb dX1_tell_67 rfl (lv_at hl 1 rfl) ?_
      refine g6_10 hx hb hts hown hK hR lv_2 q942 dX1_tell_68 ?_
      refine lv_if_le (tgt := 89) hx hb dX1_tell_71 (by decide) (fun c_71 => ?_) (fun c_71 => ?_)
      · have h := h.1 c_71
        refine lv_aload_n hx hb dX1_tell_89 rfl (lv_at hl 0 rfl) ?_
        refine va_callr (cr_V (n := 0) (As := []) (rest := []) ⟨hx, hb, hml, hown, hts⟩ hK hR (m_J24_toString (X := xl X [(q_6, sbC abT_33 0 (nI T_33.1)), (abT_33, byC κ mmT_33 fT_33)]) (n := T_33.1) (Or.inr ⟨0, rfl⟩) (Or.inr ⟨1, rfl⟩) hmT_33.1 hmT_33.2 hfT_33) q1822 q1823 q1824 q119 q1825 rfl rfl hd_J24_toString ⟨(Nat.le_of_ble_eq_true rfl), (Nat.le_of_ble_eq_true rfl)⟩ (rv_at2 hK (hR.L 0 _ rfl) rfl) rfl rfl hl.1 rfl (lv_room (Nat.le_of_ble_eq_true rfl)) dX1_tell_90 ⟨(Nat.le_of_ble_eq_true rfl), (Nat.le_of_ble_eq_true rfl)⟩) hS (fun _ _ h => h) (fun _ h => h) (fun u9 q_90 t H locs ht _ hp hB hz _ hS => ?_)
        rw [ht] at hB
        have hR := hR.up2 hB
        clear hB ht hz
        obtain ⟨abq_90, fq_90⟩ := u9
        obtain ⟨gq_90, hfq_90⟩ := hp
        have hlq_90 : sb_Lat T_33.2 T_33.1 fq_90 := sb_latKeep hlT_33 gq_90
        have hR : Rp κ w_2 y X [(q_6, sbC abT_33 0 (nI T_33.1)), (abT_33, byC κ mmT_33 fT_33), (q_90, stC abq_90 0 0), (abq_90, byC κ T_33.1 fq_90)] H := hR
        have hR := hR.sub (L' := [(q_90, stC abq_90 0 0), (abq_90, byC κ T_33.1 fq_90)]) [2, 3] rfl rfl
        have eT : T_33 = tCat (tCat (tCat (tCat (tE) (tI p1)) (tS [58, 32])) (tI (gv w_2 6 i_2 6))) (tS [32, 104, 111, 117, 115, 101, 115]) := by rw [eT_33, eT_27, eT_20, eT_14, eT_10]
        rw [← eT] at h
        refine W.widen (k := 13) (n := 1290) (Nat.le_of_ble_eq_true rfl) (Nat.le_of_ble_eq_true rfl) ?_
        refine vx_ret ?_; exact W.aret hx hb hr (Or.inl ⟨_, rfl⟩) (Or.inr ⟨_, rfl⟩) (fun t ht hW9 => ⟨⟨(some T_33, w_2, abq_90, fq_90), _, rfl, h, Or.inr ⟨T_33, rfl, rpt ht hR, hlq_90, hfq_90, by omega⟩⟩, hS.F ht⟩) hS.2.2 dX1_tell_93
      · have h := h.2 c_71
        refine lv_aload_n hx hb dX1_tell_74 rfl (lv_at hl 0 rfl) ?_
        refine jr_ldcwS (own := "Publicanry") (k := 643) (tx := ", owes ") (n := 1643) hx hb hown hK (List.mem_of_getElem? (i := 28) rfl) dX1_tell_75 ?_
        obtain ⟨bAc_78, hhc_78, zzc_78, sfc_78, hcc_78, hcLc_78, hcFc_78⟩ := str_const hK (q := (1643, [44, 32, 111, 119, 101, 115, 32])) (List.mem_of_getElem? (i := 4) rfl) (by decide)
        refine va_callr (crt_V (n := 1) (As := [.ref (kA κ 1643)]) (rest := []) ⟨hx, hb, hml, hown, hts⟩ (m_J24_append_2 (X := xl X [(q_6, sbC abT_33 0 (nI T_33.1)), (abT_33, byC κ mmT_33 fT_33)]) (n := T_33.1) (t := T_33.2) (Or.inr ⟨0, rfl⟩) (Or.inr ⟨1, rfl⟩) hneT_33 hmT_33.1 hfT_33 hlT_33 hmT_33.2 (fun X9 H9 _ h9 => hcc_78 _ _ _ _ _ h9) hcLc_78 hcFc_78 (by show T_33.1 + 7 ≤ 70; omega)) RCt.blind (RCt.pre hR hK hPx) q1761 q1762 q1763 q119 q1764 rfl rfl hd_J24_append_2 ⟨(Nat.le_of_ble_eq_true rfl), (Nat.le_of_ble_eq_true rfl)⟩ (rv_at2 hK (hR.L 0 _ rfl) rfl) rfl rfl hl.1 rfl (lv_room (Nat.le_of_ble_eq_true rfl)) dX1_tell_78 ⟨(Nat.le_of_ble_eq_true rfl), (Nat.le_of_ble_eq_true rfl)⟩) hS (fun _ _ h => h) (fun _ h => h) (fun u9 ra9 t H locs ht _ hp hB hz _ hS => ?_)
        rw [ht] at hB
        obtain ⟨e9, hB⟩ := hB
        replace e9 := e9.symm
        subst e9
        obtain ⟨abT_78, mmT_78, fT_78⟩ := u9
        obtain ⟨pp1, pp2, pp3, hfT_78, pp5, pp6⟩ := hp
        dsimp only at pp1 pp2 pp3 hfT_78 pp5 pp6 hB
        have hneT_78 : abT_78 ≠ q_6 := pp3
        have hmT_78 : mmT_78 ≤ 140 := pp2
        obtain ⟨T_78, eT_78⟩ : ∃ z, z = tCat T_33 (tS [44, 32, 111, 119, 101, 115, 32]) := ⟨_, rfl⟩
        have e1T_78 : T_78.1 = T_33.1 + 7 := by rw [eT_78]; rfl
        have hT_78 : T_78.1 ≤ 36 := by omega
        have hlT_78 : sb_Lat T_78.2 T_78.1 fT_78 := by rw [eT_78]; exact pp5
        have hmT_78 : mmT_78 ≤ 140 ∧ T_78.1 ≤ mmT_78 := ⟨pp2, by rw [e1T_78]; exact pp1⟩
        have hR : Rp κ w_2 y X [(q_6, sbC abT_78 0 (nI T_78.1)), (abT_78, byC κ mmT_78 fT_78)] H := by
          rw [e1T_78]
          exact hR.wroteSB (i := 0) (j := 1) rfl rfl hB pp6 pp3 (by decide) rfl
        clear hB ht hz pp1 pp2 pp3 pp5 pp6
        refine lv_aload_n hx hb dX1_tell_81 rfl (lv_at hl 1 rfl) ?_
        refine g6_10 hx hb hts hown hK hR lv_2 q942 dX1_tell_82 ?_
        have o_85 := h.1
        have h := h.2
        have eio_85 := nI_cl o_85
        have dio_85 := (sb_dg_in (gv w_2 6 i_2 10).toNatClampNeg).2
        refine W.eq (g2 := F0 m 85 ls [.int (nI (gv w_2 6 i_2 10).toNatClampNeg), .ref (q_6)]) (by rw [← eio_85.1]) ?_
        refine va_callr (crt_V (n := 1) (As := [.int (nI (gv w_2 6 i_2 10).toNatClampNeg)]) (rest := []) ⟨hx, hb, hml, hown, hts⟩ (m_J24_append (X := xl X [(q_6, sbC abT_78 0 (nI T_78.1)), (abT_78, byC κ mmT_78 fT_78)]) (n := T_78.1) (t := T_78.2) (Or.inr ⟨0, rfl⟩) (Or.inr ⟨1, rfl⟩) hneT_78 hmT_78.1 hfT_78 hlT_78 hmT_78.2 eio_85.2 (by omega)) RCt.blind (RCt.pre hR hK hPx) q1689 q1690 q1691 q119 q1692 rfl rfl hd_J24_append ⟨(Nat.le_of_ble_eq_true rfl), (Nat.le_of_ble_eq_true rfl)⟩ (rv_at2 hK (hR.L 0 _ rfl) rfl) rfl rfl hl.1 rfl (lv_room (Nat.le_of_ble_eq_true rfl)) dX1_tell_85 ⟨(Nat.le_of_ble_eq_true rfl), (Nat.le_of_ble_eq_true rfl)⟩) hS (fun _ _ h => h) (fun _ h => h) (fun u9 ra9 t H locs ht _ hp hB hz _ hS => ?_)
        rw [ht] at hB
        obtain ⟨e9, hB⟩ := hB
        replace e9 := e9.symm
        subst e9
        obtain ⟨abT_85, mmT_85, fT_85⟩ := u9
        obtain ⟨pp1, pp2, pp3, hfT_85, pp5, pp6⟩ := hp
        dsimp only at pp1 pp2 pp3 hfT_85 pp5 pp6 hB
        have hneT_85 : abT_85 ≠ q_6 := pp3
        have hmT_85 : mmT_85 ≤ 140 := pp2
        obtain ⟨T_85, eT_85⟩ : ∃ z, z = tCat T_78 (tI (gv w_2 6 i_2 10)) := ⟨_, rfl⟩
        have e1T_85 : T_85.1 = T_78.1 + sb_dg (gv w_2 6 i_2 10).toNatClampNeg := by rw [eT_85]; rfl
        have hT_85 : T_85.1 ≤ 46 := by omega
        have hlT_85 : sb_Lat T_85.2 T_85.1 fT_85 := by rw [eT_85]; exact pp5
        have hmT_85 : mmT_85 ≤ 140 ∧ T_85.1 ≤ mmT_85 := ⟨pp2, by rw [e1T_85]; exact pp1⟩
        have hR : Rp κ w_2 y X [(q_6, sbC abT_85 0 (nI T_85.1)), (abT_85, byC κ mmT_85 fT_85)] H := by
          rw [e1T_85]
          exact hR.wroteSB (i := 0) (j := 1) rfl rfl hB pp6 pp3 (by decide) rfl
        clear hB ht hz pp1 pp2 pp3 pp5 pp6
        refine lv_pop hx hb dX1_tell_88 rfl ?_
        refine lv_aload_n hx hb dX1_tell_89 rfl (lv_at hl 0 rfl) ?_
        refine va_callr (cr_V (n := 0) (As := []) (rest := []) ⟨hx, hb, hml, hown, hts⟩ hK hR (m_J24_toString (X := xl X [(q_6, sbC abT_85 0 (nI T_85.1)), (abT_85, byC κ mmT_85 fT_85)]) (n := T_85.1) (Or.inr ⟨0, rfl⟩) (Or.inr ⟨1, rfl⟩) hmT_85.1 hmT_85.2 hfT_85) q1822 q1823 q1824 q119 q1825 rfl rfl hd_J24_toString ⟨(Nat.le_of_ble_eq_true rfl), (Nat.le_of_ble_eq_true rfl)⟩ (rv_at2 hK (hR.L 0 _ rfl) rfl) rfl rfl hl.1 rfl (lv_room (Nat.le_of_ble_eq_true rfl)) dX1_tell_90 ⟨(Nat.le_of_ble_eq_true rfl), (Nat.le_of_ble_eq_true rfl)⟩) hS (fun _ _ h => h) (fun _ h => h) (fun u9 q_90_a t H locs ht _ hp hB hz _ hS => ?_)
        rw [ht] at hB
        have hR := hR.up2 hB
        clear hB ht hz
        obtain ⟨abq_90_a, fq_90_a⟩ := u9
        obtain ⟨gq_90_a, hfq_90_a⟩ := hp
        have hlq_90_a : sb_Lat T_85.2 T_85.1 fq_90_a := sb_latKeep hlT_85 gq_90_a
        have hR : Rp κ w_2 y X [(q_6, sbC abT_85 0 (nI T_85.1)), (abT_85, byC κ mmT_85 fT_85), (q_90_a, stC abq_90_a 0 0), (abq_90_a, byC κ T_85.1 fq_90_a)] H := hR
        have hR := hR.sub (L' := [(q_90_a, stC abq_90_a 0 0), (abq_90_a, byC κ T_85.1 fq_90_a)]) [2, 3] rfl rfl
        have eT : T_85 = tCat (tCat (tCat (tCat (tCat (tCat (tE) (tI p1)) (tS [58, 32])) (tI (gv w_2 6 i_2 6))) (tS [32, 104, 111, 117, 115, 101, 115])) (tS [44, 32, 111, 119, 101, 115, 32])) (tI (gv w_2 6 i_2 10)) := by rw [eT_85, eT_78, eT_33, eT_27, eT_20, eT_14, eT_10]
        rw [← eT] at h
        refine W.widen (k := 13) (n := 1290) (Nat.le_of_ble_eq_true rfl) (Nat.le_of_ble_eq_true rfl) ?_
        refine vx_ret ?_; exact W.aret hx hb hr (Or.inl ⟨_, rfl⟩) (Or.inr ⟨_, rfl⟩) (fun t ht hW9 => ⟨⟨(some T_85, w_2, abq_90_a, fq_90_a), _, rfl, h, Or.inr ⟨T_85, rfl, rpt ht hR, hlq_90_a, hfq_90_a, by omega⟩⟩, hS.F ht⟩) hS.2.2 dX1_tell_93
    · have h := h.2 c_56
      refine lv_aload_n hx hb dX1_tell_59 rfl (lv_at hl 0 rfl) ?_
      refine jr_ldcwS (own := "Publicanry") (k := 641) (tx := ", burnt") (n := 1641) hx hb hown hK (List.mem_of_getElem? (i := 27) rfl) dX1_tell_60 ?_
      obtain ⟨bAc_63, hhc_63, zzc_63, sfc_63, hcc_63, hcLc_63, hcFc_63⟩ := str_const hK (q := (1641, [44, 32, 98, 117, 114, 110, 116])) (List.mem_of_getElem? (i := 3) rfl) (by decide)
      refine va_callr (crt_V (n := 1) (As := [.ref (kA κ 1641)]) (rest := []) ⟨hx, hb, hml, hown, hts⟩ (m_J24_append_2 (X := xl X [(q_6, sbC abT_33 0 (nI T_33.1)), (abT_33, byC κ mmT_33 fT_33)]) (n := T_33.1) (t := T_33.2) (Or.inr ⟨0, rfl⟩) (Or.inr ⟨1, rfl⟩) hneT_33 hmT_33.1 hfT_33 hlT_33 hmT_33.2 (fun X9 H9 _ h9 => hcc_63 _ _ _ _ _ h9) hcLc_63 hcFc_63 (by show T_33.1 + 7 ≤ 70; omega)) RCt.blind (RCt.pre hR hK hPx) q1761 q1762 q1763 q119 q1764 rfl rfl hd_J24_append_2 ⟨(Nat.le_of_ble_eq_true rfl), (Nat.le_of_ble_eq_true rfl)⟩ (rv_at2 hK (hR.L 0 _ rfl) rfl) rfl rfl hl.1 rfl (lv_room (Nat.le_of_ble_eq_true rfl)) dX1_tell_63 ⟨(Nat.le_of_ble_eq_true rfl), (Nat.le_of_ble_eq_true rfl)⟩) hS (fun _ _ h => h) (fun _ h => h) (fun u9 ra9 t H locs ht _ hp hB hz _ hS => ?_)
      rw [ht] at hB
      obtain ⟨e9, hB⟩ := hB
      replace e9 := e9.symm
      subst e9
      obtain ⟨abT_63, mmT_63, fT_63⟩ := u9
      obtain ⟨pp1, pp2, pp3, hfT_63, pp5, pp6⟩ := hp
      dsimp only at pp1 pp2 pp3 hfT_63 pp5 pp6 hB
      have hneT_63 : abT_63 ≠ q_6 := pp3
      have hmT_63 : mmT_63 ≤ 140 := pp2
      obtain ⟨T_63, eT_63⟩ : ∃ z, z = tCat T_33 (tS [44, 32, 98, 117, 114, 110, 116]) := ⟨_, rfl⟩
      have e1T_63 : T_63.1 = T_33.1 + 7 := by rw [eT_63]; rfl
      have hT_63 : T_63.1 ≤ 36 := by omega
      have hlT_63 : sb_Lat T_63.2 T_63.1 fT_63 := by rw [eT_63]; exact pp5
      have hmT_63 : mmT_63 ≤ 140 ∧ T_63.1 ≤ mmT_63 := ⟨pp2, by rw [e1T_63]; exact pp1⟩
      have hR : Rp κ w_2 y X [(q_6, sbC abT_63 0 (nI T_63.1)), (abT_63, byC κ mmT_63 fT_63)] H := by
        rw [e1T_63]
        exact hR.wroteSB (i := 0) (j := 1) rfl rfl hB pp6 pp3 (by decide) rfl
      clear hB ht hz pp1 pp2 pp3 pp5 pp6
      refine lv_pop hx hb dX1_tell_66 rfl ?_
      refine lv_aload_n hx hb dX1_tell_67 rfl (lv_at hl 1 rfl) ?_
      refine g6_10 hx hb hts hown hK hR lv_2 q942 dX1_tell_68 ?_
      refine lv_if_le (tgt := 89) hx hb dX1_tell_71 (by decide) (fun c_71_a => ?_) (fun c_71_a => ?_)
      · have h := h.1 c_71_a
        refine lv_aload_n hx hb dX1_tell_89 rfl (lv_at hl 0 rfl) ?_
        refine va_callr (cr_V (n := 0) (As := []) (rest := []) ⟨hx, hb, hml, hown, hts⟩ hK hR (m_J24_toString (X := xl X [(q_6, sbC abT_63 0 (nI T_63.1)), (abT_63, byC κ mmT_63 fT_63)]) (n := T_63.1) (Or.inr ⟨0, rfl⟩) (Or.inr ⟨1, rfl⟩) hmT_63.1 hmT_63.2 hfT_63) q1822 q1823 q1824 q119 q1825 rfl rfl hd_J24_toString ⟨(Nat.le_of_ble_eq_true rfl), (Nat.le_of_ble_eq_true rfl)⟩ (rv_at2 hK (hR.L 0 _ rfl) rfl) rfl rfl hl.1 rfl (lv_room (Nat.le_of_ble_eq_true rfl)) dX1_tell_90 ⟨(Nat.le_of_ble_eq_true rfl), (Nat.le_of_ble_eq_true rfl)⟩) hS (fun _ _ h => h) (fun _ h => h) (fun u9 q_90_b t H locs ht _ hp hB hz _ hS => ?_)
        rw [ht] at hB
        have hR := hR.up2 hB
        clear hB ht hz
        obtain ⟨abq_90_b, fq_90_b⟩ := u9
        obtain ⟨gq_90_b, hfq_90_b⟩ := hp
        have hlq_90_b : sb_Lat T_63.2 T_63.1 fq_90_b := sb_latKeep hlT_63 gq_90_b
        have hR : Rp κ w_2 y X [(q_6, sbC abT_63 0 (nI T_63.1)), (abT_63, byC κ mmT_63 fT_63), (q_90_b, stC abq_90_b 0 0), (abq_90_b, byC κ T_63.1 fq_90_b)] H := hR
        have hR := hR.sub (L' := [(q_90_b, stC abq_90_b 0 0), (abq_90_b, byC κ T_63.1 fq_90_b)]) [2, 3] rfl rfl
        have eT : T_63 = tCat (tCat (tCat (tCat (tCat (tE) (tI p1)) (tS [58, 32])) (tI (gv w_2 6 i_2 6))) (tS [32, 104, 111, 117, 115, 101, 115])) (tS [44, 32, 98, 117, 114, 110, 116]) := by rw [eT_63, eT_33, eT_27, eT_20, eT_14, eT_10]
        rw [← eT] at h
        refine W.widen (k := 13) (n := 1290) (Nat.le_of_ble_eq_true rfl) (Nat.le_of_ble_eq_true rfl) ?_
        refine vx_ret ?_; exact W.aret hx hb hr (Or.inl ⟨_, rfl⟩) (Or.inr ⟨_, rfl⟩) (fun t ht hW9 => ⟨⟨(some T_63, w_2, abq_90_b, fq_90_b), _, rfl, h, Or.inr ⟨T_63, rfl, rpt ht hR, hlq_90_b, hfq_90_b, by omega⟩⟩, hS.F ht⟩) hS.2.2 dX1_tell_93
      · have h := h.2 c_71_a
        refine lv_aload_n hx hb dX1_tell_74 rfl (lv_at hl 0 rfl) ?_
        refine jr_ldcwS (own := "Publicanry") (k := 643) (tx := ", owes ") (n := 1643) hx hb hown hK (List.mem_of_getElem? (i := 28) rfl) dX1_tell_75 ?_
        obtain ⟨bAc_78_a, hhc_78_a, zzc_78_a, sfc_78_a, hcc_78_a, hcLc_78_a, hcFc_78_a⟩ := str_const hK (q := (1643, [44, 32, 111, 119, 101, 115, 32])) (List.mem_of_getElem? (i := 4) rfl) (by decide)
        refine va_callr (crt_V (n := 1) (As := [.ref (kA κ 1643)]) (rest := []) ⟨hx, hb, hml, hown, hts⟩ (m_J24_append_2 (X := xl X [(q_6, sbC abT_63 0 (nI T_63.1)), (abT_63, byC κ mmT_63 fT_63)]) (n := T_63.1) (t := T_63.2) (Or.inr ⟨0, rfl⟩) (Or.inr ⟨1, rfl⟩) hneT_63 hmT_63.1 hfT_63 hlT_63 hmT_63.2 (fun X9 H9 _ h9 => hcc_78_a _ _ _ _ _ h9) hcLc_78_a hcFc_78_a (by show T_63.1 + 7 ≤ 70; omega)) RCt.blind (RCt.pre hR hK hPx) q1761 q1762 q1763 q119 q1764 rfl rfl hd_J24_append_2 ⟨(Nat.le_of_ble_eq_true rfl), (Nat.le_of_ble_eq_true rfl)⟩ (rv_at2 hK (hR.L 0 _ rfl) rfl) rfl rfl hl.1 rfl (lv_room (Nat.le_of_ble_eq_true rfl)) dX1_tell_78 ⟨(Nat.le_of_ble_eq_true rfl), (Nat.le_of_ble_eq_true rfl)⟩) hS (fun _ _ h => h) (fun _ h => h) (fun u9 ra9 t H locs ht _ hp hB hz _ hS => ?_)
        rw [ht] at hB
        obtain ⟨e9, hB⟩ := hB
        replace e9 := e9.symm
        subst e9
        obtain ⟨abT_78_a, mmT_78_a, fT_78_a⟩ := u9
        obtain ⟨pp1, pp2, pp3, hfT_78_a, pp5, pp6⟩ := hp
        dsimp only at pp1 pp2 pp3 hfT_78_a pp5 pp6 hB
        have hneT_78_a : abT_78_a ≠ q_6 := pp3
        have hmT_78_a : mmT_78_a ≤ 140 := pp2
        obtain ⟨T_78_a, eT_78_a⟩ : ∃ z, z = tCat T_63 (tS [44, 32, 111, 119, 101, 115, 32]) := ⟨_, rfl⟩
        have e1T_78_a : T_78_a.1 = T_63.1 + 7 := by rw [eT_78_a]; rfl
        have hT_78_a : T_78_a.1 ≤ 43 := by omega
        have hlT_78_a : sb_Lat T_78_a.2 T_78_a.1 fT_78_a := by rw [eT_78_a]; exact pp5
        have hmT_78_a : mmT_78_a ≤ 140 ∧ T_78_a.1 ≤ mmT_78_a := ⟨pp2, by rw [e1T_78_a]; exact pp1⟩
        have hR : Rp κ w_2 y X [(q_6, sbC abT_78_a 0 (nI T_78_a.1)), (abT_78_a, byC κ mmT_78_a fT_78_a)] H := by
          rw [e1T_78_a]
          exact hR.wroteSB (i := 0) (j := 1) rfl rfl hB pp6 pp3 (by decide) rfl
        clear hB ht hz pp1 pp2 pp3 pp5 pp6
        refine lv_aload_n hx hb dX1_tell_81 rfl (lv_at hl 1 rfl) ?_
        refine g6_10 hx hb hts hown hK hR lv_2 q942 dX1_tell_82 ?_
        have o_85_a := h.1
        have h := h.2
        have eio_85_a := nI_cl o_85_a
        have dio_85_a := (sb_dg_in (gv w_2 6 i_2 10).toNatClampNeg).2
        refine W.eq (g2 := F0 m 85 ls [.int (nI (gv w_2 6 i_2 10).toNatClampNeg), .ref (q_6)]) (by rw [← eio_85_a.1]) ?_
        refine va_callr (crt_V (n := 1) (As := [.int (nI (gv w_2 6 i_2 10).toNatClampNeg)]) (rest := []) ⟨hx, hb, hml, hown, hts⟩ (m_J24_append (X := xl X [(q_6, sbC abT_78_a 0 (nI T_78_a.1)), (abT_78_a, byC κ mmT_78_a fT_78_a)]) (n := T_78_a.1) (t := T_78_a.2) (Or.inr ⟨0, rfl⟩) (Or.inr ⟨1, rfl⟩) hneT_78_a hmT_78_a.1 hfT_78_a hlT_78_a hmT_78_a.2 eio_85_a.2 (by omega)) RCt.blind (RCt.pre hR hK hPx) q1689 q1690 q1691 q119 q1692 rfl rfl hd_J24_append ⟨(Nat.le_of_ble_eq_true rfl), (Nat.le_of_ble_eq_true rfl)⟩ (rv_at2 hK (hR.L 0 _ rfl) rfl) rfl rfl hl.1 rfl (lv_room (Nat.le_of_ble_eq_true rfl)) dX1_tell_85 ⟨(Nat.le_of_ble_eq_true rfl), (Nat.le_of_ble_eq_true rfl)⟩) hS (fun _ _ h => h) (fun _ h => h) (fun u9 ra9 t H locs ht _ hp hB hz _ hS => ?_)
        rw [ht] at hB
        obtain ⟨e9, hB⟩ := hB
        replace e9 := e9.symm
        subst e9
        obtain ⟨abT_85_a, mmT_85_a, fT_85_a⟩ := u9
        obtain ⟨pp1, pp2, pp3, hfT_85_a, pp5, pp6⟩ := hp
        dsimp only at pp1 pp2 pp3 hfT_85_a pp5 pp6 hB
        have hneT_85_a : abT_85_a ≠ q_6 := pp3
        have hmT_85_a : mmT_85_a ≤ 140 := pp2
        obtain ⟨T_85_a, eT_85_a⟩ : ∃ z, z = tCat T_78_a (tI (gv w_2 6 i_2 10)) := ⟨_, rfl⟩
        have e1T_85_a : T_85_a.1 = T_78_a.1 + sb_dg (gv w_2 6 i_2 10).toNatClampNeg := by rw [eT_85_a]; rfl
        have hT_85_a : T_85_a.1 ≤ 53 := by omega
        have hlT_85_a : sb_Lat T_85_a.2 T_85_a.1 fT_85_a := by rw [eT_85_a]; exact pp5
        have hmT_85_a : mmT_85_a ≤ 140 ∧ T_85_a.1 ≤ mmT_85_a := ⟨pp2, by rw [e1T_85_a]; exact pp1⟩
        have hR : Rp κ w_2 y X [(q_6, sbC abT_85_a 0 (nI T_85_a.1)), (abT_85_a, byC κ mmT_85_a fT_85_a)] H := by
          rw [e1T_85_a]
          exact hR.wroteSB (i := 0) (j := 1) rfl rfl hB pp6 pp3 (by decide) rfl
        clear hB ht hz pp1 pp2 pp3 pp5 pp6
        refine lv_pop hx hb dX1_tell_88 rfl ?_
        refine lv_aload_n hx hb dX1_tell_89 rfl (lv_at hl 0 rfl) ?_
        refine va_callr (cr_V (n := 0) (As := []) (rest := []) ⟨hx, hb, hml, hown, hts⟩ hK hR (m_J24_toString (X := xl X [(q_6, sbC abT_85_a 0 (nI T_85_a.1)), (abT_85_a, byC κ mmT_85_a fT_85_a)]) (n := T_85_a.1) (Or.inr ⟨0, rfl⟩) (Or.inr ⟨1, rfl⟩) hmT_85_a.1 hmT_85_a.2 hfT_85_a) q1822 q1823 q1824 q119 q1825 rfl rfl hd_J24_toString ⟨(Nat.le_of_ble_eq_true rfl), (Nat.le_of_ble_eq_true rfl)⟩ (rv_at2 hK (hR.L 0 _ rfl) rfl) rfl rfl hl.1 rfl (lv_room (Nat.le_of_ble_eq_true rfl)) dX1_tell_90 ⟨(Nat.le_of_ble_eq_true rfl), (Nat.le_of_ble_eq_true rfl)⟩) hS (fun _ _ h => h) (fun _ h => h) (fun u9 q_90_c t H locs ht _ hp hB hz _ hS => ?_)
        rw [ht] at hB
        have hR := hR.up2 hB
        clear hB ht hz
        obtain ⟨abq_90_c, fq_90_c⟩ := u9
        obtain ⟨gq_90_c, hfq_90_c⟩ := hp
        have hlq_90_c : sb_Lat T_85_a.2 T_85_a.1 fq_90_c := sb_latKeep hlT_85_a gq_90_c
        have hR : Rp κ w_2 y X [(q_6, sbC abT_85_a 0 (nI T_85_a.1)), (abT_85_a, byC κ mmT_85_a fT_85_a), (q_90_c, stC abq_90_c 0 0), (abq_90_c, byC κ T_85_a.1 fq_90_c)] H := hR
        have hR := hR.sub (L' := [(q_90_c, stC abq_90_c 0 0), (abq_90_c, byC κ T_85_a.1 fq_90_c)]) [2, 3] rfl rfl
        have eT : T_85_a = tCat (tCat (tCat (tCat (tCat (tCat (tCat (tE) (tI p1)) (tS [58, 32])) (tI (gv w_2 6 i_2 6))) (tS [32, 104, 111, 117, 115, 101, 115])) (tS [44, 32, 98, 117, 114, 110, 116])) (tS [44, 32, 111, 119, 101, 115, 32])) (tI (gv w_2 6 i_2 10)) := by rw [eT_85_a, eT_78_a, eT_63, eT_33, eT_27, eT_20, eT_14, eT_10]
        rw [← eT] at h
        refine W.widen (k := 13) (n := 1290) (Nat.le_of_ble_eq_true rfl) (Nat.le_of_ble_eq_true rfl) ?_
        refine vx_ret ?_; exact W.aret hx hb hr (Or.inl ⟨_, rfl⟩) (Or.inr ⟨_, rfl⟩) (fun t ht hW9 => ⟨⟨(some T_85_a, w_2, abq_90_c, fq_90_c), _, rfl, h, Or.inr ⟨T_85_a, rfl, rpt ht hR, hlq_90_c, hfq_90_c, by omega⟩⟩, hS.F ht⟩) hS.2.2 dX1_tell_93
  · have h := h.2 c_41
    refine lv_aload_n hx hb dX1_tell_44 rfl (lv_at hl 0 rfl) ?_
    refine jr_ldcwS (own := "Publicanry") (k := 639) (tx := ", revolt") (n := 1639) hx hb hown hK (List.mem_of_getElem? (i := 26) rfl) dX1_tell_45 ?_
    obtain ⟨bAc_48, hhc_48, zzc_48, sfc_48, hcc_48, hcLc_48, hcFc_48⟩ := str_const hK (q := (1639, [44, 32, 114, 101, 118, 111, 108, 116])) (List.mem_of_getElem? (i := 2) rfl) (by decide)
    refine va_callr (crt_V (n := 1) (As := [.ref (kA κ 1639)]) (rest := []) ⟨hx, hb, hml, hown, hts⟩ (m_J24_append_2 (X := xl X [(q_6, sbC abT_33 0 (nI T_33.1)), (abT_33, byC κ mmT_33 fT_33)]) (n := T_33.1) (t := T_33.2) (Or.inr ⟨0, rfl⟩) (Or.inr ⟨1, rfl⟩) hneT_33 hmT_33.1 hfT_33 hlT_33 hmT_33.2 (fun X9 H9 _ h9 => hcc_48 _ _ _ _ _ h9) hcLc_48 hcFc_48 (by show T_33.1 + 8 ≤ 70; omega)) RCt.blind (RCt.pre hR hK hPx) q1761 q1762 q1763 q119 q1764 rfl rfl hd_J24_append_2 ⟨(Nat.le_of_ble_eq_true rfl), (Nat.le_of_ble_eq_true rfl)⟩ (rv_at2 hK (hR.L 0 _ rfl) rfl) rfl rfl hl.1 rfl (lv_room (Nat.le_of_ble_eq_true rfl)) dX1_tell_48 ⟨(Nat.le_of_ble_eq_true rfl), (Nat.le_of_ble_eq_true rfl)⟩) hS (fun _ _ h => h) (fun _ h => h) (fun u9 ra9 t H locs ht _ hp hB hz _ hS => ?_)
    rw [ht] at hB
    obtain ⟨e9, hB⟩ := hB
    replace e9 := e9.symm
    subst e9
    obtain ⟨abT_48, mmT_48, fT_48⟩ := u9
    obtain ⟨pp1, pp2, pp3, hfT_48, pp5, pp6⟩ := hp
    dsimp only at pp1 pp2 pp3 hfT_48 pp5 pp6 hB
    have hneT_48 : abT_48 ≠ q_6 := pp3
    have hmT_48 : mmT_48 ≤ 140 := pp2
    obtain ⟨T_48, eT_48⟩ : ∃ z, z = tCat T_33 (tS [44, 32, 114, 101, 118, 111, 108, 116]) := ⟨_, rfl⟩
    have e1T_48 : T_48.1 = T_33.1 + 8 := by rw [eT_48]; rfl
    have hT_48 : T_48.1 ≤ 37 := by omega
    have hlT_48 : sb_Lat T_48.2 T_48.1 fT_48 := by rw [eT_48]; exact pp5
    have hmT_48 : mmT_48 ≤ 140 ∧ T_48.1 ≤ mmT_48 := ⟨pp2, by rw [e1T_48]; exact pp1⟩
    have hR : Rp κ w_2 y X [(q_6, sbC abT_48 0 (nI T_48.1)), (abT_48, byC κ mmT_48 fT_48)] H := by
      rw [e1T_48]
      exact hR.wroteSB (i := 0) (j := 1) rfl rfl hB pp6 pp3 (by decide) rfl
    clear hB ht hz pp1 pp2 pp3 pp5 pp6
    refine lv_pop hx hb dX1_tell_51 rfl ?_
    refine lv_aload_n hx hb dX1_tell_52 rfl (lv_at hl 1 rfl) ?_
    refine g6_17 hx hb hts hown hK hR lv_2 q957 dX1_tell_53 ?_
    refine lv_if_eq (tgt := 67) hx hb dX1_tell_56 (by decide) (fun c_56_a => ?_) (fun c_56_a => ?_)
    · have h := h.1 c_56_a
      refine lv_aload_n hx hb dX1_tell_67 rfl (lv_at hl 1 rfl) ?_
      refine g6_10 hx hb hts hown hK hR lv_2 q942 dX1_tell_68 ?_
      refine lv_if_le (tgt := 89) hx hb dX1_tell_71 (by decide) (fun c_71_b => ?_) (fun c_71_b => ?_)
      · have h := h.1 c_71_b
        refine lv_aload_n hx hb dX1_tell_89 rfl (lv_at hl 0 rfl) ?_
        refine va_callr (cr_V (n := 0) (As := []) (rest := []) ⟨hx, hb, hml, hown, hts⟩ hK hR (m_J24_toString (X := xl X [(q_6, sbC abT_48 0 (nI T_48.1)), (abT_48, byC κ mmT_48 fT_48)]) (n := T_48.1) (Or.inr ⟨0, rfl⟩) (Or.inr ⟨1, rfl⟩) hmT_48.1 hmT_48.2 hfT_48) q1822 q1823 q1824 q119 q1825 rfl rfl hd_J24_toString ⟨(Nat.le_of_ble_eq_true rfl), (Nat.le_of_ble_eq_true rfl)⟩ (rv_at2 hK (hR.L 0 _ rfl) rfl) rfl rfl hl.1 rfl (lv_room (Nat.le_of_ble_eq_true rfl)) dX1_tell_90 ⟨(Nat.le_of_ble_eq_true rfl), (Nat.le_of_ble_eq_true rfl)⟩) hS (fun _ _ h => h) (fun _ h => h) (fun u9 q_90_d t H locs ht _ hp hB hz _ hS => ?_)
        rw [ht] at hB
        have hR := hR.up2 hB
        clear hB ht hz
        obtain ⟨abq_90_d, fq_90_d⟩ := u9
        obtain ⟨gq_90_d, hfq_90_d⟩ := hp
        have hlq_90_d : sb_Lat T_48.2 T_48.1 fq_90_d := sb_latKeep hlT_48 gq_90_d
        have hR : Rp κ w_2 y X [(q_6, sbC abT_48 0 (nI T_48.1)), (abT_48, byC κ mmT_48 fT_48), (q_90_d, stC abq_90_d 0 0), (abq_90_d, byC κ T_48.1 fq_90_d)] H := hR
        have hR := hR.sub (L' := [(q_90_d, stC abq_90_d 0 0), (abq_90_d, byC κ T_48.1 fq_90_d)]) [2, 3] rfl rfl
        have eT : T_48 = tCat (tCat (tCat (tCat (tCat (tE) (tI p1)) (tS [58, 32])) (tI (gv w_2 6 i_2 6))) (tS [32, 104, 111, 117, 115, 101, 115])) (tS [44, 32, 114, 101, 118, 111, 108, 116]) := by rw [eT_48, eT_33, eT_27, eT_20, eT_14, eT_10]
        rw [← eT] at h
        refine W.widen (k := 13) (n := 1290) (Nat.le_of_ble_eq_true rfl) (Nat.le_of_ble_eq_true rfl) ?_
        refine vx_ret ?_; exact W.aret hx hb hr (Or.inl ⟨_, rfl⟩) (Or.inr ⟨_, rfl⟩) (fun t ht hW9 => ⟨⟨(some T_48, w_2, abq_90_d, fq_90_d), _, rfl, h, Or.inr ⟨T_48, rfl, rpt ht hR, hlq_90_d, hfq_90_d, by omega⟩⟩, hS.F ht⟩) hS.2.2 dX1_tell_93
      · have h := h.2 c_71_b
        refine lv_aload_n hx hb dX1_tell_74 rfl (lv_at hl 0 rfl) ?_
        refine jr_ldcwS (own := "Publicanry") (k := 643) (tx := ", owes ") (n := 1643) hx hb hown hK (List.mem_of_getElem? (i := 28) rfl) dX1_tell_75 ?_
        obtain ⟨bAc_78_b, hhc_78_b, zzc_78_b, sfc_78_b, hcc_78_b, hcLc_78_b, hcFc_78_b⟩ := str_const hK (q := (1643, [44, 32, 111, 119, 101, 115, 32])) (List.mem_of_getElem? (i := 4) rfl) (by decide)
        refine va_callr (crt_V (n := 1) (As := [.ref (kA κ 1643)]) (rest := []) ⟨hx, hb, hml, hown, hts⟩ (m_J24_append_2 (X := xl X [(q_6, sbC abT_48 0 (nI T_48.1)), (abT_48, byC κ mmT_48 fT_48)]) (n := T_48.1) (t := T_48.2) (Or.inr ⟨0, rfl⟩) (Or.inr ⟨1, rfl⟩) hneT_48 hmT_48.1 hfT_48 hlT_48 hmT_48.2 (fun X9 H9 _ h9 => hcc_78_b _ _ _ _ _ h9) hcLc_78_b hcFc_78_b (by show T_48.1 + 7 ≤ 70; omega)) RCt.blind (RCt.pre hR hK hPx) q1761 q1762 q1763 q119 q1764 rfl rfl hd_J24_append_2 ⟨(Nat.le_of_ble_eq_true rfl), (Nat.le_of_ble_eq_true rfl)⟩ (rv_at2 hK (hR.L 0 _ rfl) rfl) rfl rfl hl.1 rfl (lv_room (Nat.le_of_ble_eq_true rfl)) dX1_tell_78 ⟨(Nat.le_of_ble_eq_true rfl), (Nat.le_of_ble_eq_true rfl)⟩) hS (fun _ _ h => h) (fun _ h => h) (fun u9 ra9 t H locs ht _ hp hB hz _ hS => ?_)
        rw [ht] at hB
        obtain ⟨e9, hB⟩ := hB
        replace e9 := e9.symm
        subst e9
        obtain ⟨abT_78_b, mmT_78_b, fT_78_b⟩ := u9
        obtain ⟨pp1, pp2, pp3, hfT_78_b, pp5, pp6⟩ := hp
        dsimp only at pp1 pp2 pp3 hfT_78_b pp5 pp6 hB
        have hneT_78_b : abT_78_b ≠ q_6 := pp3
        have hmT_78_b : mmT_78_b ≤ 140 := pp2
        obtain ⟨T_78_b, eT_78_b⟩ : ∃ z, z = tCat T_48 (tS [44, 32, 111, 119, 101, 115, 32]) := ⟨_, rfl⟩
        have e1T_78_b : T_78_b.1 = T_48.1 + 7 := by rw [eT_78_b]; rfl
        have hT_78_b : T_78_b.1 ≤ 44 := by omega
        have hlT_78_b : sb_Lat T_78_b.2 T_78_b.1 fT_78_b := by rw [eT_78_b]; exact pp5
        have hmT_78_b : mmT_78_b ≤ 140 ∧ T_78_b.1 ≤ mmT_78_b := ⟨pp2, by rw [e1T_78_b]; exact pp1⟩
        have hR : Rp κ w_2 y X [(q_6, sbC abT_78_b 0 (nI T_78_b.1)), (abT_78_b, byC κ mmT_78_b fT_78_b)] H := by
          rw [e1T_78_b]
          exact hR.wroteSB (i := 0) (j := 1) rfl rfl hB pp6 pp3 (by decide) rfl
        clear hB ht hz pp1 pp2 pp3 pp5 pp6
        refine lv_aload_n hx hb dX1_tell_81 rfl (lv_at hl 1 rfl) ?_
        refine g6_10 hx hb hts hown hK hR lv_2 q942 dX1_tell_82 ?_
        have o_85_b := h.1
        have h := h.2
        have eio_85_b := nI_cl o_85_b
        have dio_85_b := (sb_dg_in (gv w_2 6 i_2 10).toNatClampNeg).2
        refine W.eq (g2 := F0 m 85 ls [.int (nI (gv w_2 6 i_2 10).toNatClampNeg), .ref (q_6)]) (by rw [← eio_85_b.1]) ?_
        refine va_callr (crt_V (n := 1) (As := [.int (nI (gv w_2 6 i_2 10).toNatClampNeg)]) (rest := []) ⟨hx, hb, hml, hown, hts⟩ (m_J24_append (X := xl X [(q_6, sbC abT_78_b 0 (nI T_78_b.1)), (abT_78_b, byC κ mmT_78_b fT_78_b)]) (n := T_78_b.1) (t := T_78_b.2) (Or.inr ⟨0, rfl⟩) (Or.inr ⟨1, rfl⟩) hneT_78_b hmT_78_b.1 hfT_78_b hlT_78_b hmT_78_b.2 eio_85_b.2 (by omega)) RCt.blind (RCt.pre hR hK hPx) q1689 q1690 q1691 q119 q1692 rfl rfl hd_J24_append ⟨(Nat.le_of_ble_eq_true rfl), (Nat.le_of_ble_eq_true rfl)⟩ (rv_at2 hK (hR.L 0 _ rfl) rfl) rfl rfl hl.1 rfl (lv_room (Nat.le_of_ble_eq_true rfl)) dX1_tell_85 ⟨(Nat.le_of_ble_eq_true rfl), (Nat.le_of_ble_eq_true rfl)⟩) hS (fun _ _ h => h) (fun _ h => h) (fun u9 ra9 t H locs ht _ hp hB hz _ hS => ?_)
        rw [ht] at hB
        obtain ⟨e9, hB⟩ := hB
        replace e9 := e9.symm
        subst e9
        obtain ⟨abT_85_b, mmT_85_b, fT_85_b⟩ := u9
        obtain ⟨pp1, pp2, pp3, hfT_85_b, pp5, pp6⟩ := hp
        dsimp only at pp1 pp2 pp3 hfT_85_b pp5 pp6 hB
        have hneT_85_b : abT_85_b ≠ q_6 := pp3
        have hmT_85_b : mmT_85_b ≤ 140 := pp2
        obtain ⟨T_85_b, eT_85_b⟩ : ∃ z, z = tCat T_78_b (tI (gv w_2 6 i_2 10)) := ⟨_, rfl⟩
        have e1T_85_b : T_85_b.1 = T_78_b.1 + sb_dg (gv w_2 6 i_2 10).toNatClampNeg := by rw [eT_85_b]; rfl
        have hT_85_b : T_85_b.1 ≤ 54 := by omega
        have hlT_85_b : sb_Lat T_85_b.2 T_85_b.1 fT_85_b := by rw [eT_85_b]; exact pp5
        have hmT_85_b : mmT_85_b ≤ 140 ∧ T_85_b.1 ≤ mmT_85_b := ⟨pp2, by rw [e1T_85_b]; exact pp1⟩
        have hR : Rp κ w_2 y X [(q_6, sbC abT_85_b 0 (nI T_85_b.1)), (abT_85_b, byC κ mmT_85_b fT_85_b)] H := by
          rw [e1T_85_b]
          exact hR.wroteSB (i := 0) (j := 1) rfl rfl hB pp6 pp3 (by decide) rfl
        clear hB ht hz pp1 pp2 pp3 pp5 pp6
        refine lv_pop hx hb dX1_tell_88 rfl ?_
        refine lv_aload_n hx hb dX1_tell_89 rfl (lv_at hl 0 rfl) ?_
        refine va_callr (cr_V (n := 0) (As := []) (rest := []) ⟨hx, hb, hml, hown, hts⟩ hK hR (m_J24_toString (X := xl X [(q_6, sbC abT_85_b 0 (nI T_85_b.1)), (abT_85_b, byC κ mmT_85_b fT_85_b)]) (n := T_85_b.1) (Or.inr ⟨0, rfl⟩) (Or.inr ⟨1, rfl⟩) hmT_85_b.1 hmT_85_b.2 hfT_85_b) q1822 q1823 q1824 q119 q1825 rfl rfl hd_J24_toString ⟨(Nat.le_of_ble_eq_true rfl), (Nat.le_of_ble_eq_true rfl)⟩ (rv_at2 hK (hR.L 0 _ rfl) rfl) rfl rfl hl.1 rfl (lv_room (Nat.le_of_ble_eq_true rfl)) dX1_tell_90 ⟨(Nat.le_of_ble_eq_true rfl), (Nat.le_of_ble_eq_true rfl)⟩) hS (fun _ _ h => h) (fun _ h => h) (fun u9 q_90_e t H locs ht _ hp hB hz _ hS => ?_)
        rw [ht] at hB
        have hR := hR.up2 hB
        clear hB ht hz
        obtain ⟨abq_90_e, fq_90_e⟩ := u9
        obtain ⟨gq_90_e, hfq_90_e⟩ := hp
        have hlq_90_e : sb_Lat T_85_b.2 T_85_b.1 fq_90_e := sb_latKeep hlT_85_b gq_90_e
        have hR : Rp κ w_2 y X [(q_6, sbC abT_85_b 0 (nI T_85_b.1)), (abT_85_b, byC κ mmT_85_b fT_85_b), (q_90_e, stC abq_90_e 0 0), (abq_90_e, byC κ T_85_b.1 fq_90_e)] H := hR
        have hR := hR.sub (L' := [(q_90_e, stC abq_90_e 0 0), (abq_90_e, byC κ T_85_b.1 fq_90_e)]) [2, 3] rfl rfl
        have eT : T_85_b = tCat (tCat (tCat (tCat (tCat (tCat (tCat (tE) (tI p1)) (tS [58, 32])) (tI (gv w_2 6 i_2 6))) (tS [32, 104, 111, 117, 115, 101, 115])) (tS [44, 32, 114, 101, 118, 111, 108, 116])) (tS [44, 32, 111, 119, 101, 115, 32])) (tI (gv w_2 6 i_2 10)) := by rw [eT_85_b, eT_78_b, eT_48, eT_33, eT_27, eT_20, eT_14, eT_10]
        rw [← eT] at h
        refine W.widen (k := 13) (n := 1290) (Nat.le_of_ble_eq_true rfl) (Nat.le_of_ble_eq_true rfl) ?_
        refine vx_ret ?_; exact W.aret hx hb hr (Or.inl ⟨_, rfl⟩) (Or.inr ⟨_, rfl⟩) (fun t ht hW9 => ⟨⟨(some T_85_b, w_2, abq_90_e, fq_90_e), _, rfl, h, Or.inr ⟨T_85_b, rfl, rpt ht hR, hlq_90_e, hfq_90_e, by omega⟩⟩, hS.F ht⟩) hS.2.2 dX1_tell_93
    · have h := h.2 c_56_a
      refine lv_aload_n hx hb dX1_tell_59 rfl (lv_at hl 0 rfl) ?_
      refine jr_ldcwS (own := "Publicanry") (k := 641) (tx := ", burnt") (n := 1641) hx hb hown hK (List.mem_of_getElem? (i := 27) rfl) dX1_tell_60 ?_
      obtain ⟨bAc_63_a, hhc_63_a, zzc_63_a, sfc_63_a, hcc_63_a, hcLc_63_a, hcFc_63_a⟩ := str_const hK (q := (1641, [44, 32, 98, 117, 114, 110, 116])) (List.mem_of_getElem? (i := 3) rfl) (by decide)
      refine va_callr (crt_V (n := 1) (As := [.ref (kA κ 1641)]) (rest := []) ⟨hx, hb, hml, hown, hts⟩ (m_J24_append_2 (X := xl X [(q_6, sbC abT_48 0 (nI T_48.1)), (abT_48, byC κ mmT_48 fT_48)]) (n := T_48.1) (t := T_48.2) (Or.inr ⟨0, rfl⟩) (Or.inr ⟨1, rfl⟩) hneT_48 hmT_48.1 hfT_48 hlT_48 hmT_48.2 (fun X9 H9 _ h9 => hcc_63_a _ _ _ _ _ h9) hcLc_63_a hcFc_63_a (by show T_48.1 + 7 ≤ 70; omega)) RCt.blind (RCt.pre hR hK hPx) q1761 q1762 q1763 q119 q1764 rfl rfl hd_J24_append_2 ⟨(Nat.le_of_ble_eq_true rfl), (Nat.le_of_ble_eq_true rfl)⟩ (rv_at2 hK (hR.L 0 _ rfl) rfl) rfl rfl hl.1 rfl (lv_room (Nat.le_of_ble_eq_true rfl)) dX1_tell_63 ⟨(Nat.le_of_ble_eq_true rfl), (Nat.le_of_ble_eq_true rfl)⟩) hS (fun _ _ h => h) (fun _ h => h) (fun u9 ra9 t H locs ht _ hp hB hz _ hS => ?_)
      rw [ht] at hB
      obtain ⟨e9, hB⟩ := hB
      replace e9 := e9.symm
      subst e9
      obtain ⟨abT_63_a, mmT_63_a, fT_63_a⟩ := u9
      obtain ⟨pp1, pp2, pp3, hfT_63_a, pp5, pp6⟩ := hp
      dsimp only at pp1 pp2 pp3 hfT_63_a pp5 pp6 hB
      have hneT_63_a : abT_63_a ≠ q_6 := pp3
      have hmT_63_a : mmT_63_a ≤ 140 := pp2
      obtain ⟨T_63_a, eT_63_a⟩ : ∃ z, z = tCat T_48 (tS [44, 32, 98, 117, 114, 110, 116]) := ⟨_, rfl⟩
      have e1T_63_a : T_63_a.1 = T_48.1 + 7 := by rw [eT_63_a]; rfl
      have hT_63_a : T_63_a.1 ≤ 44 := by omega
      have hlT_63_a : sb_Lat T_63_a.2 T_63_a.1 fT_63_a := by rw [eT_63_a]; exact pp5
      have hmT_63_a : mmT_63_a ≤ 140 ∧ T_63_a.1 ≤ mmT_63_a := ⟨pp2, by rw [e1T_63_a]; exact pp1⟩
      have hR : Rp κ w_2 y X [(q_6, sbC abT_63_a 0 (nI T_63_a.1)), (abT_63_a, byC κ mmT_63_a fT_63_a)] H := by
        rw [e1T_63_a]
        exact hR.wroteSB (i := 0) (j := 1) rfl rfl hB pp6 pp3 (by decide) rfl
      clear hB ht hz pp1 pp2 pp3 pp5 pp6
      refine lv_pop hx hb dX1_tell_66 rfl ?_
      refine lv_aload_n hx hb dX1_tell_67 rfl (lv_at hl 1 rfl) ?_
      refine g6_10 hx hb hts hown hK hR lv_2 q942 dX1_tell_68 ?_
      refine lv_if_le (tgt := 89) hx hb dX1_tell_71 (by decide) (fun c_71_c => ?_) (fun c_71_c => ?_)
      · have h := h.1 c_71_c
        refine lv_aload_n hx hb dX1_tell_89 rfl (lv_at hl 0 rfl) ?_
        refine va_callr (cr_V (n := 0) (As := []) (rest := []) ⟨hx, hb, hml, hown, hts⟩ hK hR (m_J24_toString (X := xl X [(q_6, sbC abT_63_a 0 (nI T_63_a.1)), (abT_63_a, byC κ mmT_63_a fT_63_a)]) (n := T_63_a.1) (Or.inr ⟨0, rfl⟩) (Or.inr ⟨1, rfl⟩) hmT_63_a.1 hmT_63_a.2 hfT_63_a) q1822 q1823 q1824 q119 q1825 rfl rfl hd_J24_toString ⟨(Nat.le_of_ble_eq_true rfl), (Nat.le_of_ble_eq_true rfl)⟩ (rv_at2 hK (hR.L 0 _ rfl) rfl) rfl rfl hl.1 rfl (lv_room (Nat.le_of_ble_eq_true rfl)) dX1_tell_90 ⟨(Nat.le_of_ble_eq_true rfl), (Nat.le_of_ble_eq_true rfl)⟩) hS (fun _ _ h => h) (fun _ h => h) (fun u9 q_90_f t H locs ht _ hp hB hz _ hS => ?_)
        rw [ht] at hB
        have hR := hR.up2 hB
        clear hB ht hz
        obtain ⟨abq_90_f, fq_90_f⟩ := u9
        obtain ⟨gq_90_f, hfq_90_f⟩ := hp
        have hlq_90_f : sb_Lat T_63_a.2 T_63_a.1 fq_90_f := sb_latKeep hlT_63_a gq_90_f
        have hR : Rp κ w_2 y X [(q_6, sbC abT_63_a 0 (nI T_63_a.1)), (abT_63_a, byC κ mmT_63_a fT_63_a), (q_90_f, stC abq_90_f 0 0), (abq_90_f, byC κ T_63_a.1 fq_90_f)] H := hR
        have hR := hR.sub (L' := [(q_90_f, stC abq_90_f 0 0), (abq_90_f, byC κ T_63_a.1 fq_90_f)]) [2, 3] rfl rfl
        have eT : T_63_a = tCat (tCat (tCat (tCat (tCat (tCat (tE) (tI p1)) (tS [58, 32])) (tI (gv w_2 6 i_2 6))) (tS [32, 104, 111, 117, 115, 101, 115])) (tS [44, 32, 114, 101, 118, 111, 108, 116])) (tS [44, 32, 98, 117, 114, 110, 116]) := by rw [eT_63_a, eT_48, eT_33, eT_27, eT_20, eT_14, eT_10]
        rw [← eT] at h
        refine W.widen (k := 13) (n := 1290) (Nat.le_of_ble_eq_true rfl) (Nat.le_of_ble_eq_true rfl) ?_
        refine vx_ret ?_; exact W.aret hx hb hr (Or.inl ⟨_, rfl⟩) (Or.inr ⟨_, rfl⟩) (fun t ht hW9 => ⟨⟨(some T_63_a, w_2, abq_90_f, fq_90_f), _, rfl, h, Or.inr ⟨T_63_a, rfl, rpt ht hR, hlq_90_f, hfq_90_f, by omega⟩⟩, hS.F ht⟩) hS.2.2 dX1_tell_93
      · have h := h.2 c_71_c
        refine lv_aload_n hx hb dX1_tell_74 rfl (lv_at hl 0 rfl) ?_
        refine jr_ldcwS (own := "Publicanry") (k := 643) (tx := ", owes ") (n := 1643) hx hb hown hK (List.mem_of_getElem? (i := 28) rfl) dX1_tell_75 ?_
        obtain ⟨bAc_78_c, hhc_78_c, zzc_78_c, sfc_78_c, hcc_78_c, hcLc_78_c, hcFc_78_c⟩ := str_const hK (q := (1643, [44, 32, 111, 119, 101, 115, 32])) (List.mem_of_getElem? (i := 4) rfl) (by decide)
        refine va_callr (crt_V (n := 1) (As := [.ref (kA κ 1643)]) (rest := []) ⟨hx, hb, hml, hown, hts⟩ (m_J24_append_2 (X := xl X [(q_6, sbC abT_63_a 0 (nI T_63_a.1)), (abT_63_a, byC κ mmT_63_a fT_63_a)]) (n := T_63_a.1) (t := T_63_a.2) (Or.inr ⟨0, rfl⟩) (Or.inr ⟨1, rfl⟩) hneT_63_a hmT_63_a.1 hfT_63_a hlT_63_a hmT_63_a.2 (fun X9 H9 _ h9 => hcc_78_c _ _ _ _ _ h9) hcLc_78_c hcFc_78_c (by show T_63_a.1 + 7 ≤ 70; omega)) RCt.blind (RCt.pre hR hK hPx) q1761 q1762 q1763 q119 q1764 rfl rfl hd_J24_append_2 ⟨(Nat.le_of_ble_eq_true rfl), (Nat.le_of_ble_eq_true rfl)⟩ (rv_at2 hK (hR.L 0 _ rfl) rfl) rfl rfl hl.1 rfl (lv_room (Nat.le_of_ble_eq_true rfl)) dX1_tell_78 ⟨(Nat.le_of_ble_eq_true rfl), (Nat.le_of_ble_eq_true rfl)⟩) hS (fun _ _ h => h) (fun _ h => h) (fun u9 ra9 t H locs ht _ hp hB hz _ hS => ?_)
        rw [ht] at hB
        obtain ⟨e9, hB⟩ := hB
        replace e9 := e9.symm
        subst e9
        obtain ⟨abT_78_c, mmT_78_c, fT_78_c⟩ := u9
        obtain ⟨pp1, pp2, pp3, hfT_78_c, pp5, pp6⟩ := hp
        dsimp only at pp1 pp2 pp3 hfT_78_c pp5 pp6 hB
        have hneT_78_c : abT_78_c ≠ q_6 := pp3
        have hmT_78_c : mmT_78_c ≤ 140 := pp2
        obtain ⟨T_78_c, eT_78_c⟩ : ∃ z, z = tCat T_63_a (tS [44, 32, 111, 119, 101, 115, 32]) := ⟨_, rfl⟩
        have e1T_78_c : T_78_c.1 = T_63_a.1 + 7 := by rw [eT_78_c]; rfl
        have hT_78_c : T_78_c.1 ≤ 51 := by omega
        have hlT_78_c : sb_Lat T_78_c.2 T_78_c.1 fT_78_c := by rw [eT_78_c]; exact pp5
        have hmT_78_c : mmT_78_c ≤ 140 ∧ T_78_c.1 ≤ mmT_78_c := ⟨pp2, by rw [e1T_78_c]; exact pp1⟩
        have hR : Rp κ w_2 y X [(q_6, sbC abT_78_c 0 (nI T_78_c.1)), (abT_78_c, byC κ mmT_78_c fT_78_c)] H := by
          rw [e1T_78_c]
          exact hR.wroteSB (i := 0) (j := 1) rfl rfl hB pp6 pp3 (by decide) rfl
        clear hB ht hz pp1 pp2 pp3 pp5 pp6
        refine lv_aload_n hx hb dX1_tell_81 rfl (lv_at hl 1 rfl) ?_
        refine g6_10 hx hb hts hown hK hR lv_2 q942 dX1_tell_82 ?_
        have o_85_c := h.1
        have h := h.2
        have eio_85_c := nI_cl o_85_c
        have dio_85_c := (sb_dg_in (gv w_2 6 i_2 10).toNatClampNeg).2
        refine W.eq (g2 := F0 m 85 ls [.int (nI (gv w_2 6 i_2 10).toNatClampNeg), .ref (q_6)]) (by rw [← eio_85_c.1]) ?_
        refine va_callr (crt_V (n := 1) (As := [.int (nI (gv w_2 6 i_2 10).toNatClampNeg)]) (rest := []) ⟨hx, hb, hml, hown, hts⟩ (m_J24_append (X := xl X [(q_6, sbC abT_78_c 0 (nI T_78_c.1)), (abT_78_c, byC κ mmT_78_c fT_78_c)]) (n := T_78_c.1) (t := T_78_c.2) (Or.inr ⟨0, rfl⟩) (Or.inr ⟨1, rfl⟩) hneT_78_c hmT_78_c.1 hfT_78_c hlT_78_c hmT_78_c.2 eio_85_c.2 (by omega)) RCt.blind (RCt.pre hR hK hPx) q1689 q1690 q1691 q119 q1692 rfl rfl hd_J24_append ⟨(Nat.le_of_ble_eq_true rfl), (Nat.le_of_ble_eq_true rfl)⟩ (rv_at2 hK (hR.L 0 _ rfl) rfl) rfl rfl hl.1 rfl (lv_room (Nat.le_of_ble_eq_true rfl)) dX1_tell_85 ⟨(Nat.le_of_ble_eq_true rfl), (Nat.le_of_ble_eq_true rfl)⟩) hS (fun _ _ h => h) (fun _ h => h) (fun u9 ra9 t H locs ht _ hp hB hz _ hS => ?_)
        rw [ht] at hB
        obtain ⟨e9, hB⟩ := hB
        replace e9 := e9.symm
        subst e9
        obtain ⟨abT_85_c, mmT_85_c, fT_85_c⟩ := u9
        obtain ⟨pp1, pp2, pp3, hfT_85_c, pp5, pp6⟩ := hp
        dsimp only at pp1 pp2 pp3 hfT_85_c pp5 pp6 hB
        have hneT_85_c : abT_85_c ≠ q_6 := pp3
        have hmT_85_c : mmT_85_c ≤ 140 := pp2
        obtain ⟨T_85_c, eT_85_c⟩ : ∃ z, z = tCat T_78_c (tI (gv w_2 6 i_2 10)) := ⟨_, rfl⟩
        have e1T_85_c : T_85_c.1 = T_78_c.1 + sb_dg (gv w_2 6 i_2 10).toNatClampNeg := by rw [eT_85_c]; rfl
        have hT_85_c : T_85_c.1 ≤ 61 := by omega
        have hlT_85_c : sb_Lat T_85_c.2 T_85_c.1 fT_85_c := by rw [eT_85_c]; exact pp5
        have hmT_85_c : mmT_85_c ≤ 140 ∧ T_85_c.1 ≤ mmT_85_c := ⟨pp2, by rw [e1T_85_c]; exact pp1⟩
        have hR : Rp κ w_2 y X [(q_6, sbC abT_85_c 0 (nI T_85_c.1)), (abT_85_c, byC κ mmT_85_c fT_85_c)] H := by
          rw [e1T_85_c]
          exact hR.wroteSB (i := 0) (j := 1) rfl rfl hB pp6 pp3 (by decide) rfl
        clear hB ht hz pp1 pp2 pp3 pp5 pp6
        refine lv_pop hx hb dX1_tell_88 rfl ?_
        refine lv_aload_n hx hb dX1_tell_89 rfl (lv_at hl 0 rfl) ?_
        refine va_callr (cr_V (n := 0) (As := []) (rest := []) ⟨hx, hb, hml, hown, hts⟩ hK hR (m_J24_toString (X := xl X [(q_6, sbC abT_85_c 0 (nI T_85_c.1)), (abT_85_c, byC κ mmT_85_c fT_85_c)]) (n := T_85_c.1) (Or.inr ⟨0, rfl⟩) (Or.inr ⟨1, rfl⟩) hmT_85_c.1 hmT_85_c.2 hfT_85_c) q1822 q1823 q1824 q119 q1825 rfl rfl hd_J24_toString ⟨(Nat.le_of_ble_eq_true rfl), (Nat.le_of_ble_eq_true rfl)⟩ (rv_at2 hK (hR.L 0 _ rfl) rfl) rfl rfl hl.1 rfl (lv_room (Nat.le_of_ble_eq_true rfl)) dX1_tell_90 ⟨(Nat.le_of_ble_eq_true rfl), (Nat.le_of_ble_eq_true rfl)⟩) hS (fun _ _ h => h) (fun _ h => h) (fun u9 q_90_g t H locs ht _ hp hB hz _ hS => ?_)
        rw [ht] at hB
        have hR := hR.up2 hB
        clear hB ht hz
        obtain ⟨abq_90_g, fq_90_g⟩ := u9
        obtain ⟨gq_90_g, hfq_90_g⟩ := hp
        have hlq_90_g : sb_Lat T_85_c.2 T_85_c.1 fq_90_g := sb_latKeep hlT_85_c gq_90_g
        have hR : Rp κ w_2 y X [(q_6, sbC abT_85_c 0 (nI T_85_c.1)), (abT_85_c, byC κ mmT_85_c fT_85_c), (q_90_g, stC abq_90_g 0 0), (abq_90_g, byC κ T_85_c.1 fq_90_g)] H := hR
        have hR := hR.sub (L' := [(q_90_g, stC abq_90_g 0 0), (abq_90_g, byC κ T_85_c.1 fq_90_g)]) [2, 3] rfl rfl
        have eT : T_85_c = tCat (tCat (tCat (tCat (tCat (tCat (tCat (tCat (tE) (tI p1)) (tS [58, 32])) (tI (gv w_2 6 i_2 6))) (tS [32, 104, 111, 117, 115, 101, 115])) (tS [44, 32, 114, 101, 118, 111, 108, 116])) (tS [44, 32, 98, 117, 114, 110, 116])) (tS [44, 32, 111, 119, 101, 115, 32])) (tI (gv w_2 6 i_2 10)) := by rw [eT_85_c, eT_78_c, eT_63_a, eT_48, eT_33, eT_27, eT_20, eT_14, eT_10]
        rw [← eT] at h
        refine W.widen (k := 13) (n := 1290) (Nat.le_of_ble_eq_true rfl) (Nat.le_of_ble_eq_true rfl) ?_
        refine vx_ret ?_; exact W.aret hx hb hr (Or.inl ⟨_, rfl⟩) (Or.inr ⟨_, rfl⟩) (fun t ht hW9 => ⟨⟨(some T_85_c, w_2, abq_90_g, fq_90_g), _, rfl, h, Or.inr ⟨T_85_c, rfl, rpt ht hR, hlq_90_g, hfq_90_g, by omega⟩⟩, hS.F ht⟩) hS.2.2 dX1_tell_93
abbrev rm_X8_tell : Room := { frames := 7, cells := 17, slots := 1588, locals := 280 }
def sp_X8_tell (κ : Kx) (y : Ly) (post : Option Tx → Wd → Prop) (w : Wd) (p1 : Int32) : Prop := sp_X8_isNoVillage κ y (fun r_3 w_3 => sp_X8_start κ y (fun r_7 w_7 => ((r_7 = 0) → ((vp_in (p1) (mV y)) ∧ ((¬ p1 < 0) ∧ ((¬ (gv w_7 21 (((p1).toNatClampNeg)) 0) < 0) ∧ (((gv w_7 21 (((p1).toNatClampNeg)) 10 = 0) → (((gv w_7 21 (((p1).toNatClampNeg)) 11 = 0) → (((gv w_7 21 (((p1).toNatClampNeg)) 6 ≤ 0) → (post (some (tCat (tCat (tCat (tCat (tCat (tCat (tCat (tE) (tI p1)) (tS [58, 32])) (tI (gv w_7 21 (((p1).toNatClampNeg)) 0))) (tS [32, 104, 111, 117, 115, 101, 115])) (tS [])) (tS [])) (tS []))) w_7)) ∧ ((¬ (gv w_7 21 (((p1).toNatClampNeg)) 6 ≤ 0)) → ((¬ (gv w_7 21 (((p1).toNatClampNeg)) 6) < 0) ∧ (post (some (tCat (tCat (tCat (tCat (tCat (tCat (tCat (tE) (tI p1)) (tS [58, 32])) (tI (gv w_7 21 (((p1).toNatClampNeg)) 0))) (tS [32, 104, 111, 117, 115, 101, 115])) (tS [])) (tS [])) (tCat (tCat (tE) (tS [44, 32, 111, 119, 101, 115, 32])) (tI (gv w_7 21 (((p1).toNatClampNeg)) 6))))) w_7))))) ∧ ((¬ (gv w_7 21 (((p1).toNatClampNeg)) 11 = 0)) → (((gv w_7 21 (((p1).toNatClampNeg)) 6 ≤ 0) → (post (some (tCat (tCat (tCat (tCat (tCat (tCat (tCat (tE) (tI p1)) (tS [58, 32])) (tI (gv w_7 21 (((p1).toNatClampNeg)) 0))) (tS [32, 104, 111, 117, 115, 101, 115])) (tS [])) (tS [44, 32, 98, 117, 114, 110, 116])) (tS []))) w_7)) ∧ ((¬ (gv w_7 21 (((p1).toNatClampNeg)) 6 ≤ 0)) → ((¬ (gv w_7 21 (((p1).toNatClampNeg)) 6) < 0) ∧ (post (some (tCat (tCat (tCat (tCat (tCat (tCat (tCat (tE) (tI p1)) (tS [58, 32])) (tI (gv w_7 21 (((p1).toNatClampNeg)) 0))) (tS [32, 104, 111, 117, 115, 101, 115])) (tS [])) (tS [44, 32, 98, 117, 114, 110, 116])) (tCat (tCat (tE) (tS [44, 32, 111, 119, 101, 115, 32])) (tI (gv w_7 21 (((p1).toNatClampNeg)) 6))))) w_7))))))) ∧ ((¬ (gv w_7 21 (((p1).toNatClampNeg)) 10 = 0)) → (((gv w_7 21 (((p1).toNatClampNeg)) 11 = 0) → (((gv w_7 21 (((p1).toNatClampNeg)) 6 ≤ 0) → (post (some (tCat (tCat (tCat (tCat (tCat (tCat (tCat (tE) (tI p1)) (tS [58, 32])) (tI (gv w_7 21 (((p1).toNatClampNeg)) 0))) (tS [32, 104, 111, 117, 115, 101, 115])) (tS [44, 32, 114, 101, 118, 111, 108, 116])) (tS [])) (tS []))) w_7)) ∧ ((¬ (gv w_7 21 (((p1).toNatClampNeg)) 6 ≤ 0)) → ((¬ (gv w_7 21 (((p1).toNatClampNeg)) 6) < 0) ∧ (post (some (tCat (tCat (tCat (tCat (tCat (tCat (tCat (tE) (tI p1)) (tS [58, 32])) (tI (gv w_7 21 (((p1).toNatClampNeg)) 0))) (tS [32, 104, 111, 117, 115, 101, 115])) (tS [44, 32, 114, 101, 118, 111, 108, 116])) (tS [])) (tCat (tCat (tE) (tS [44, 32, 111, 119, 101, 115, 32])) (tI (gv w_7 21 (((p1).toNatClampNeg)) 6))))) w_7))))) ∧ ((¬ (gv w_7 21 (((p1).toNatClampNeg)) 11 = 0)) → (((gv w_7 21 (((p1).toNatClampNeg)) 6 ≤ 0) → (post (some (tCat (tCat (tCat (tCat (tCat (tCat (tCat (tE) (tI p1)) (tS [58, 32])) (tI (gv w_7 21 (((p1).toNatClampNeg)) 0))) (tS [32, 104, 111, 117, 115, 101, 115])) (tS [44, 32, 114, 101, 118, 111, 108, 116])) (tS [44, 32, 98, 117, 114, 110, 116])) (tS []))) w_7)) ∧ ((¬ (gv w_7 21 (((p1).toNatClampNeg)) 6 ≤ 0)) → ((¬ (gv w_7 21 (((p1).toNatClampNeg)) 6) < 0) ∧ (post (some (tCat (tCat (tCat (tCat (tCat (tCat (tCat (tE) (tI p1)) (tS [58, 32])) (tI (gv w_7 21 (((p1).toNatClampNeg)) 0))) (tS [32, 104, 111, 117, 115, 101, 115])) (tS [44, 32, 114, 101, 118, 111, 108, 116])) (tS [44, 32, 98, 117, 114, 110, 116])) (tCat (tCat (tE) (tS [44, 32, 111, 119, 101, 115, 32])) (tI (gv w_7 21 (((p1).toNatClampNeg)) 6))))) w_7)))))))))))) ∧ ((¬ (r_7 = 0)) → (post none w_7))) w_3 r_3 (1 : Int32)) w p1
theorem hd_X8_tell : yX8_tell.cls = RX8 ∧ yX8_tell.cls ≠ "java/lang/invoke/MethodHandle" ∧ yX8_tell.cls ≠ "java/lang/invoke/VarHandle" ∧ (parseMethodDescriptor yX8_tell.desc).map (fun d => d.parameters.length) = some 1 := by decide +kernel
set_option maxHeartbeats 4000000 in
theorem m_X8_tell {l : Launch} {κ : Kx} {y : Ly} {X : XR} {post : Option Tx → Wd → Prop} {w : Wd} {p1 : Int32}  (hM : WFm κ y) (l0 : live y 20 0) (h : sp_X8_tell κ y post w p1) : Met l yX8_tell (ws_ yX8_tell cX8_tell 3 (Option.some (Jvm.ClassFile.FieldType.object "java/lang/String"))) rm_X8_tell (va_Pc [.ref (y.2 20 0), .int (p1)] (RCt κ w y X)) (va_Qr (fun u : Option Tx × Wd × Nat × (Nat → Int32) => post u.1 u.2.1) (fun u ra t => (u.1 = none ∧ Rp κ u.2.1 y X [] t.heap) ∨ ∃ T : Tx, u.1 = some T ∧ Rp κ u.2.1 y X [(ra, stC u.2.2.1 0 0), (u.2.2.1, byC κ T.1 u.2.2.2)] t.heap ∧ sb_Lat T.2 T.1 u.2.2.2 ∧ sb_Fit u.2.2.2 ∧ T.1 ≤ 70) (Af κ)) 17 1588 (Af κ) := by
  unfold sp_X8_tell at h
  refine Met.ofW (cc := cX8_tell) (maxL := 3) (ret := (Option.some (Jvm.ClassFile.FieldType.object "java/lang/String"))) (by decide) rfl ?_
  intro p e s m args below meth c s₁ B hml hv
  obtain ⟨rfl, ⟨hR, hK⟩, hPx⟩ := hv
  have hx := B.exec
  have hb := B.bytes
  have hr := B.returns
  have hts := atoms_spec (ws := ws_ yX8_tell cX8_tell 3 (Option.some (Jvm.ClassFile.FieldType.object "java/lang/String"))) B.pre
  have hts : ∀ w ∈ lw_all, w.before _ s = true := fun w h => hts w (List.mem_cons_of_mem _ h)
  have hown : s.vm.findClass RX8 = some m.cls := findClass_of_methodNamed B.named
  have hlocks := B.notSynchronized
  have hS : va_S (Af κ) s.heap s.heap [] := va_S.rf
  have hl := lv_entry ([.ref (y.2 20 0), .int (p1)]) (n := 3) (Nat.le_of_ble_eq_true rfl)
  rw [lg_entry_eq]
  generalize (lg_sl ([.ref (y.2 20 0), .int (p1)]) ++ List.replicate (3 - (lg_sl ([.ref (y.2 20 0), .int (p1)])).length) Slot.unset).toArray = ls at hl ⊢
  have hl : lv_has ls 3 [(0, .ref (y.2 20 0)), (1, .int (p1))] := hl
  refine lv_aload_n hx hb dX8_tell_0 rfl (lv_at hl 0 rfl) ?_
  refine lv_aload_n hx hb dX8_tell_1 rfl (lv_at hl 0 rfl) ?_
  refine lv_iload_n hx hb dX8_tell_2 rfl (lv_at hl 1 rfl) ?_
  refine ce_qi (fw := fun u => u) (fy := fun _ => y) (cr_V (n := 1) (As := [.int (p1)]) (rest := [.ref (y.2 20 0)]) ⟨hx, hb, hml, hown, hts⟩ hK hR (m_X8_isNoVillage hM l0 h) q2109 q2111 qs40 q85 q2112 rfl rfl hd_X8_isNoVillage ⟨Nat.le_of_ble_eq_true rfl, Nat.le_of_ble_eq_true rfl⟩ (rv hK hR l0 (ci := 11) rfl rfl) rfl rfl hl.1 rfl (lv_room (Nat.le_of_ble_eq_true rfl)) dX8_tell_3 ⟨(Nat.le_of_ble_eq_true rfl), (Nat.le_of_ble_eq_true rfl)⟩) hR hS (fun r_3 w_3 H locs h hR _ hS => ?_)
  refine lv_iconst (v := (1 : Int32)) hx hb dX8_tell_6 (by decide) ?_
  refine ce_qi (fw := fun u => u) (fy := fun _ => y) (cr_V (n := 2) (As := [.int (r_3), .int ((1 : Int32))]) (rest := []) ⟨hx, hb, hml, hown, hts⟩ hK hR (m_X8_start hM l0 h) q2023 q2025 qs37 q85 q2026 rfl rfl hd_X8_start ⟨Nat.le_of_ble_eq_true rfl, Nat.le_of_ble_eq_true rfl⟩ (rv hK hR l0 (ci := 11) rfl rfl) rfl rfl hl.1 rfl (lv_room (Nat.le_of_ble_eq_true rfl)) dX8_tell_7 ⟨(Nat.le_of_ble_eq_true rfl), (Nat.le_of_ble_eq_true rfl)⟩) hR hS (fun r_7 w_7 H locs h hR _ hS => ?_)
  refine lv_if_eq (tgt := 17) hx hb dX8_tell_10 (by decide) (fun c_10 => ?_) (fun c_10 => ?_)
  · have h := h.1 c_10
    refine lv_aload_n hx hb dX8_tell_17 rfl (lv_at hl 0 rfl) ?_
    refine g20_3 hx hb hts hown hK hR l0 q1948 dX8_tell_18 ?_
    refine lv_iload_n hx hb dX8_tell_21 rfl (lv_at hl 1 rfl) ?_
    have o_22 := h.1
    have h := h.2
    refine jr_get (a := y.2 21 ((p1).toNatClampNeg)) ⟨hx, hb, hml, hown, hts⟩ hK hR ⟨fun _ _ _ _ _ => rfl, fun _ _ _ _ _ => rfl⟩ hM.lsV ⟨hM.arV (Nat.lt_of_le_of_lt (Nat.zero_le _) (vp_lt o_22)), (Nat.le_trans hM.mV8 (by decide))⟩ o_22 (hM.elV (vp_lt o_22)) q2101 ⟨Nat.le_of_ble_eq_true rfl, Nat.le_of_ble_eq_true rfl⟩ hl.1 (Nat.le_of_ble_eq_true rfl) dX8_tell_22 ⟨(Nat.le_of_ble_eq_true rfl), (Nat.le_of_ble_eq_true rfl)⟩ ?_
    refine jr_castS (ci := 12) hx hb hown hK hts (hR.role (hM.vil (vp_lt o_22))) rfl q2032 dX8_tell_25 ?_
    refine lv_astore_n (lv' := [(2, .ref (y.2 21 ((p1).toNatClampNeg))), (0, .ref (y.2 20 0)), (1, .int (p1))]) hx hb dX8_tell_28 rfl hl (by decide) rfl (fun ls hl => ?_)
    refine xa_new (C := RJ24) (T := TJ24) (N := 4) (ci := 20) (fs := [.null, .int 0, .int 0, .int 0]) hx hb hts in_J24 tyJ24 tyJ24_ok hown q2567 q1659 q119 hK.1 hS rfl (fun j hj => by rcases (show j = 0 ∨ j = 1 ∨ j = 2 ∨ j = 3 by omega) with rfl | rfl | rfl | rfl <;> rfl) (Nat.le_of_ble_eq_true rfl) (Nat.le_of_ble_eq_true rfl) dX8_tell_29 (fun q_29 H1 hq h1 hz ho hS => ?_)
    have hR := hR.newL hq h1 (by omega) ho
    clear hq h1 hz ho
    generalize H1 = H at hR hS ⊢
    have hR : Rp κ w_7 y X [(q_29, .inr (20, [.null, .int 0, .int 0, .int 0]))] H := hR
    refine lv_dup hx hb dX8_tell_32 rfl ?_
    refine va_callv (va_runI (As := []) (rest := [.ref (q_29)]) ⟨hx, hb, hml, hown, hts⟩ (m_J24_init (X := xl X [(q_29, .inr (20, [.null, .int 0, .int 0, .int 0]))]) (Or.inr ⟨0, rfl⟩)) (cwI 0 hts (lw_meth q1662) rfl rfl rfl (hts _ q119) (hts _ q2568) (hts _ q1661) rfl (by decide +kernel) ⟨(Nat.le_of_ble_eq_true rfl), (Nat.le_of_ble_eq_true rfl)⟩) ⟨RC.blind, RC.pre hR hK⟩ rfl rfl hl.1 rfl (lv_room (Nat.le_of_ble_eq_true rfl)) dX8_tell_33 ⟨(Nat.le_of_ble_eq_true rfl), (Nat.le_of_ble_eq_true rfl)⟩) hS (fun _ _ h => h) (fun _ h => h) (fun ab_33 t H locs ht _ _ hB hz _ hS => ?_)
    rw [ht] at hB
    have hR := hR.wroteU (t := 0) rfl hB
    clear hB ht hz
    obtain ⟨T_33, eT_33⟩ : ∃ z, z = tE := ⟨_, rfl⟩
    have hT_33 : T_33.1 ≤ 0 := by rw [eT_33]; exact Nat.le_refl _
    obtain ⟨fT_33, efT_33⟩ : ∃ z : Nat → Int32, z = fun _ => 0 := ⟨_, rfl⟩
    have hfT_33 : sb_Fit fT_33 := by rw [efT_33]; exact sb_fit0
    have hlT_33 : sb_Lat T_33.2 T_33.1 fT_33 := fun j hj => absurd hj (by omega)
    have hmT_33 : (16 : Nat) ≤ 140 ∧ T_33.1 ≤ 16 := ⟨by decide, by omega⟩
    have hneT_33 : ab_33 ≠ q_29 := fun e9 => absurd (hR.LD.1 1 0 _ _ rfl rfl e9) (by decide)
    have hR : Rp κ w_7 y X [(q_29, sbC ab_33 0 (nI T_33.1)), (ab_33, byC κ 16 fT_33)] H := by rw [show (nI T_33.1) = (0 : Int32) by rw [eT_33]; rfl, efT_33]; exact hR
    refine lv_iload_n hx hb dX8_tell_36 rfl (lv_at hl 2 rfl) ?_
    have o_37 := h.1
    have h := h.2
    have eio_37 := nI_cl o_37
    have dio_37 := (sb_dg_in (p1).toNatClampNeg).2
    refine W.eq (g2 := F0 m 37 ls [.int (nI (p1).toNatClampNeg), .ref (q_29)]) (by rw [← eio_37.1]) ?_
    refine va_callr (crt_V (n := 1) (As := [.int (nI (p1).toNatClampNeg)]) (rest := []) ⟨hx, hb, hml, hown, hts⟩ (m_J24_append (X := xl X [(q_29, sbC ab_33 0 (nI T_33.1)), (ab_33, byC κ 16 fT_33)]) (n := T_33.1) (t := T_33.2) (Or.inr ⟨0, rfl⟩) (Or.inr ⟨1, rfl⟩) hneT_33 hmT_33.1 hfT_33 hlT_33 hmT_33.2 eio_37.2 (by omega)) RCt.blind (RCt.pre hR hK hPx) q2569 q1690 q1691 q119 q1692 rfl rfl hd_J24_append ⟨(Nat.le_of_ble_eq_true rfl), (Nat.le_of_ble_eq_true rfl)⟩ (rv_at2 hK (hR.L 0 _ rfl) rfl) rfl rfl hl.1 rfl (lv_room (Nat.le_of_ble_eq_true rfl)) dX8_tell_37 ⟨(Nat.le_of_ble_eq_true rfl), (Nat.le_of_ble_eq_true rfl)⟩) hS (fun _ _ h => h) (fun _ h => h) (fun u9 ra9 t H locs ht _ hp hB hz _ hS => ?_)
    rw [ht] at hB
    obtain ⟨e9, hB⟩ := hB
    replace e9 := e9.symm
    subst e9
    obtain ⟨abT_37, mmT_37, fT_37⟩ := u9
    obtain ⟨pp1, pp2, pp3, hfT_37, pp5, pp6⟩ := hp
    dsimp only at pp1 pp2 pp3 hfT_37 pp5 pp6 hB
    have hneT_37 : abT_37 ≠ q_29 := pp3
    have hmT_37 : mmT_37 ≤ 140 := pp2
    obtain ⟨T_37, eT_37⟩ : ∃ z, z = tCat T_33 (tI p1) := ⟨_, rfl⟩
    have e1T_37 : T_37.1 = T_33.1 + sb_dg (p1).toNatClampNeg := by rw [eT_37]; rfl
    have hT_37 : T_37.1 ≤ 10 := by omega
    have hlT_37 : sb_Lat T_37.2 T_37.1 fT_37 := by rw [eT_37]; exact pp5
    have hmT_37 : mmT_37 ≤ 140 ∧ T_37.1 ≤ mmT_37 := ⟨pp2, by rw [e1T_37]; exact pp1⟩
    have hR : Rp κ w_7 y X [(q_29, sbC abT_37 0 (nI T_37.1)), (abT_37, byC κ mmT_37 fT_37)] H := by
      rw [e1T_37]
      exact hR.wroteSB (i := 0) (j := 1) rfl rfl hB pp6 pp3 (by decide) rfl
    clear hB ht hz pp1 pp2 pp3 pp5 pp6
    refine jr_ldcwS (own := "PublicanryModel") (k := 413) (tx := ": ") (n := 2413) hx hb hown hK (List.mem_of_getElem? (i := 32) rfl) dX8_tell_40 ?_
    obtain ⟨bAc_43, hhc_43, zzc_43, sfc_43, hcc_43, hcLc_43, hcFc_43⟩ := str_const hK (q := (2413, [58, 32])) (List.mem_of_getElem? (i := 6) rfl) (by decide)
    refine va_callr (crt_V (n := 1) (As := [.ref (kA κ 2413)]) (rest := []) ⟨hx, hb, hml, hown, hts⟩ (m_J24_append_2 (X := xl X [(q_29, sbC abT_37 0 (nI T_37.1)), (abT_37, byC κ mmT_37 fT_37)]) (n := T_37.1) (t := T_37.2) (Or.inr ⟨0, rfl⟩) (Or.inr ⟨1, rfl⟩) hneT_37 hmT_37.1 hfT_37 hlT_37 hmT_37.2 (fun X9 H9 _ h9 => hcc_43 _ _ _ _ _ h9) hcLc_43 hcFc_43 (by show T_37.1 + 2 ≤ 70; omega)) RCt.blind (RCt.pre hR hK hPx) q2571 q1762 q1763 q119 q1764 rfl rfl hd_J24_append_2 ⟨(Nat.le_of_ble_eq_true rfl), (Nat.le_of_ble_eq_true rfl)⟩ (rv_at2 hK (hR.L 0 _ rfl) rfl) rfl rfl hl.1 rfl (lv_room (Nat.le_of_ble_eq_true rfl)) dX8_tell_43 ⟨(Nat.le_of_ble_eq_true rfl), (Nat.le_of_ble_eq_true rfl)⟩) hS (fun _ _ h => h) (fun _ h => h) (fun u9 ra9 t H locs ht _ hp hB hz _ hS => ?_)
    rw [ht] at hB
    obtain ⟨e9, hB⟩ := hB
    replace e9 := e9.symm
    subst e9
    obtain ⟨abT_43, mmT_43, fT_43⟩ := u9
    obtain ⟨pp1, pp2, pp3, hfT_43, pp5, pp6⟩ := hp
    dsimp only at pp1 pp2 pp3 hfT_43 pp5 pp6 hB
    have hneT_43 : abT_43 ≠ q_29 := pp3
    have hmT_43 : mmT_43 ≤ 140 := pp2
    obtain ⟨T_43, eT_43⟩ : ∃ z, z = tCat T_37 (tS [58, 32]) := ⟨_, rfl⟩
    have e1T_43 : T_43.1 = T_37.1 + 2 := by rw [eT_43]; rfl
    have hT_43 : T_43.1 ≤ 12 := by omega
    have hlT_43 : sb_Lat T_43.2 T_43.1 fT_43 := by rw [eT_43]; exact pp5
    have hmT_43 : mmT_43 ≤ 140 ∧ T_43.1 ≤ mmT_43 := ⟨pp2, by rw [e1T_43]; exact pp1⟩
    have hR : Rp κ w_7 y X [(q_29, sbC abT_43 0 (nI T_43.1)), (abT_43, byC κ mmT_43 fT_43)] H := by
      rw [e1T_43]
      exact hR.wroteSB (i := 0) (j := 1) rfl rfl hB pp6 pp3 (by decide) rfl
    clear hB ht hz pp1 pp2 pp3 pp5 pp6
    refine lv_aload_n hx hb dX8_tell_46 rfl (lv_at hl 0 rfl) ?_
    refine g21_0 hx hb hts hown hK hR (hM.vil (vp_lt o_22)) q2040 dX8_tell_47 ?_
    have o_50 := h.1
    have h := h.2
    have eio_50 := nI_cl o_50
    have dio_50 := (sb_dg_in (gv w_7 21 (((p1).toNatClampNeg)) 0).toNatClampNeg).2
    refine W.eq (g2 := F0 m 50 ls [.int (nI (gv w_7 21 (((p1).toNatClampNeg)) 0).toNatClampNeg), .ref (q_29)]) (by rw [← eio_50.1]) ?_
    refine va_callr (crt_V (n := 1) (As := [.int (nI (gv w_7 21 (((p1).toNatClampNeg)) 0).toNatClampNeg)]) (rest := []) ⟨hx, hb, hml, hown, hts⟩ (m_J24_append (X := xl X [(q_29, sbC abT_43 0 (nI T_43.1)), (abT_43, byC κ mmT_43 fT_43)]) (n := T_43.1) (t := T_43.2) (Or.inr ⟨0, rfl⟩) (Or.inr ⟨1, rfl⟩) hneT_43 hmT_43.1 hfT_43 hlT_43 hmT_43.2 eio_50.2 (by omega)) RCt.blind (RCt.pre hR hK hPx) q2569 q1690 q1691 q119 q1692 rfl rfl hd_J24_append ⟨(Nat.le_of_ble_eq_true rfl), (Nat.le_of_ble_eq_true rfl)⟩ (rv_at2 hK (hR.L 0 _ rfl) rfl) rfl rfl hl.1 rfl (lv_room (Nat.le_of_ble_eq_true rfl)) dX8_tell_50 ⟨(Nat.le_of_ble_eq_true rfl), (Nat.le_of_ble_eq_true rfl)⟩) hS (fun _ _ h => h) (fun _ h => h) (fun u9 ra9 t H locs ht _ hp hB hz _ hS => ?_)
    rw [ht] at hB
    obtain ⟨e9, hB⟩ := hB
    replace e9 := e9.symm
    subst e9
    obtain ⟨abT_50, mmT_50, fT_50⟩ := u9
    obtain ⟨pp1, pp2, pp3, hfT_50, pp5, pp6⟩ := hp
    dsimp only at pp1 pp2 pp3 hfT_50 pp5 pp6 hB
    have hneT_50 : abT_50 ≠ q_29 := pp3
    have hmT_50 : mmT_50 ≤ 140 := pp2
    obtain ⟨T_50, eT_50⟩ : ∃ z, z = tCat T_43 (tI (gv w_7 21 (((p1).toNatClampNeg)) 0)) := ⟨_, rfl⟩
    have e1T_50 : T_50.1 = T_43.1 + sb_dg (gv w_7 21 (((p1).toNatClampNeg)) 0).toNatClampNeg := by rw [eT_50]; rfl
    have hT_50 : T_50.1 ≤ 22 := by omega
    have hlT_50 : sb_Lat T_50.2 T_50.1 fT_50 := by rw [eT_50]; exact pp5
    have hmT_50 : mmT_50 ≤ 140 ∧ T_50.1 ≤ mmT_50 := ⟨pp2, by rw [e1T_50]; exact pp1⟩
    have hR : Rp κ w_7 y X [(q_29, sbC abT_50 0 (nI T_50.1)), (abT_50, byC κ mmT_50 fT_50)] H := by
      rw [e1T_50]
      exact hR.wroteSB (i := 0) (j := 1) rfl rfl hB pp6 pp3 (by decide) rfl
    clear hB ht hz pp1 pp2 pp3 pp5 pp6
    refine jr_ldcwS (own := "PublicanryModel") (k := 418) (tx := " houses") (n := 2418) hx hb hown hK (List.mem_of_getElem? (i := 33) rfl) dX8_tell_53 ?_
    obtain ⟨bAc_56, hhc_56, zzc_56, sfc_56, hcc_56, hcLc_56, hcFc_56⟩ := str_const hK (q := (2418, [32, 104, 111, 117, 115, 101, 115])) (List.mem_of_getElem? (i := 7) rfl) (by decide)
    refine va_callr (crt_V (n := 1) (As := [.ref (kA κ 2418)]) (rest := []) ⟨hx, hb, hml, hown, hts⟩ (m_J24_append_2 (X := xl X [(q_29, sbC abT_50 0 (nI T_50.1)), (abT_50, byC κ mmT_50 fT_50)]) (n := T_50.1) (t := T_50.2) (Or.inr ⟨0, rfl⟩) (Or.inr ⟨1, rfl⟩) hneT_50 hmT_50.1 hfT_50 hlT_50 hmT_50.2 (fun X9 H9 _ h9 => hcc_56 _ _ _ _ _ h9) hcLc_56 hcFc_56 (by show T_50.1 + 7 ≤ 70; omega)) RCt.blind (RCt.pre hR hK hPx) q2571 q1762 q1763 q119 q1764 rfl rfl hd_J24_append_2 ⟨(Nat.le_of_ble_eq_true rfl), (Nat.le_of_ble_eq_true rfl)⟩ (rv_at2 hK (hR.L 0 _ rfl) rfl) rfl rfl hl.1 rfl (lv_room (Nat.le_of_ble_eq_true rfl)) dX8_tell_56 ⟨(Nat.le_of_ble_eq_true rfl), (Nat.le_of_ble_eq_true rfl)⟩) hS (fun _ _ h => h) (fun _ h => h) (fun u9 ra9 t H locs ht _ hp hB hz _ hS => ?_)
    rw [ht] at hB
    obtain ⟨e9, hB⟩ := hB
    replace e9 := e9.symm
    subst e9
    obtain ⟨abT_56, mmT_56, fT_56⟩ := u9
    obtain ⟨pp1, pp2, pp3, hfT_56, pp5, pp6⟩ := hp
    dsimp only at pp1 pp2 pp3 hfT_56 pp5 pp6 hB
    have hneT_56 : abT_56 ≠ q_29 := pp3
    have hmT_56 : mmT_56 ≤ 140 := pp2
    obtain ⟨T_56, eT_56⟩ : ∃ z, z = tCat T_50 (tS [32, 104, 111, 117, 115, 101, 115]) := ⟨_, rfl⟩
    have e1T_56 : T_56.1 = T_50.1 + 7 := by rw [eT_56]; rfl
    have hT_56 : T_56.1 ≤ 29 := by omega
    have hlT_56 : sb_Lat T_56.2 T_56.1 fT_56 := by rw [eT_56]; exact pp5
    have hmT_56 : mmT_56 ≤ 140 ∧ T_56.1 ≤ mmT_56 := ⟨pp2, by rw [e1T_56]; exact pp1⟩
    have hR : Rp κ w_7 y X [(q_29, sbC abT_56 0 (nI T_56.1)), (abT_56, byC κ mmT_56 fT_56)] H := by
      rw [e1T_56]
      exact hR.wroteSB (i := 0) (j := 1) rfl rfl hB pp6 pp3 (by decide) rfl
    clear hB ht hz pp1 pp2 pp3 pp5 pp6
    refine lv_aload_n hx hb dX8_tell_59 rfl (lv_at hl 0 rfl) ?_
    refine g21_10 hx hb hts hown hK hR (hM.vil (vp_lt o_22)) q2051 dX8_tell_60 ?_
    refine lv_if_eq (tgt := 72) hx hb dX8_tell_63 (by decide) (fun c_63 => ?_) (fun c_63 => ?_)
    · have h := h.1 c_63
      refine jr_ldcwS (own := "PublicanryModel") (k := 404) (tx := "") (n := 2404) hx hb hown hK (List.mem_of_getElem? (i := 31) rfl) dX8_tell_72 ?_
      obtain ⟨bAc_75, hhc_75, zzc_75, sfc_75, hcc_75, hcLc_75, hcFc_75⟩ := str_const hK (q := (2404, [])) (List.mem_of_getElem? (i := 5) rfl) (by decide)
      refine va_callr (crt_V (n := 1) (As := [.ref (kA κ 2404)]) (rest := []) ⟨hx, hb, hml, hown, hts⟩ (m_J24_append_2 (X := xl X [(q_29, sbC abT_56 0 (nI T_56.1)), (abT_56, byC κ mmT_56 fT_56)]) (n := T_56.1) (t := T_56.2) (Or.inr ⟨0, rfl⟩) (Or.inr ⟨1, rfl⟩) hneT_56 hmT_56.1 hfT_56 hlT_56 hmT_56.2 (fun X9 H9 _ h9 => hcc_75 _ _ _ _ _ h9) hcLc_75 hcFc_75 (by show T_56.1 + 0 ≤ 70; omega)) RCt.blind (RCt.pre hR hK hPx) q2571 q1762 q1763 q119 q1764 rfl rfl hd_J24_append_2 ⟨(Nat.le_of_ble_eq_true rfl), (Nat.le_of_ble_eq_true rfl)⟩ (rv_at2 hK (hR.L 0 _ rfl) rfl) rfl rfl hl.1 rfl (lv_room (Nat.le_of_ble_eq_true rfl)) dX8_tell_75 ⟨(Nat.le_of_ble_eq_true rfl), (Nat.le_of_ble_eq_true rfl)⟩) hS (fun _ _ h => h) (fun _ h => h) (fun u9 ra9 t H locs ht _ hp hB hz _ hS => ?_)
      rw [ht] at hB
      obtain ⟨e9, hB⟩ := hB
      replace e9 := e9.symm
      subst e9
      obtain ⟨abT_75, mmT_75, fT_75⟩ := u9
      obtain ⟨pp1, pp2, pp3, hfT_75, pp5, pp6⟩ := hp
      dsimp only at pp1 pp2 pp3 hfT_75 pp5 pp6 hB
      have hneT_75 : abT_75 ≠ q_29 := pp3
      have hmT_75 : mmT_75 ≤ 140 := pp2
      obtain ⟨T_75, eT_75⟩ : ∃ z, z = tCat T_56 (tS []) := ⟨_, rfl⟩
      have e1T_75 : T_75.1 = T_56.1 + 0 := by rw [eT_75]; rfl
      have hT_75 : T_75.1 ≤ 29 := by omega
      have hlT_75 : sb_Lat T_75.2 T_75.1 fT_75 := by rw [eT_75]; exact pp5
      have hmT_75 : mmT_75 ≤ 140 ∧ T_75.1 ≤ mmT_75 := ⟨pp2, by rw [e1T_75]; exact pp1⟩
      have hR : Rp κ w_7 y X [(q_29, sbC abT_75 0 (nI T_75.1)), (abT_75, byC κ mmT_75 fT_75)] H := by
        rw [e1T_75]
        exact hR.wroteSB (i := 0) (j := 1) rfl rfl hB pp6 pp3 (by decide) rfl
      clear hB ht hz pp1 pp2 pp3 pp5 pp6
      refine lv_aload_n hx hb dX8_tell_78 rfl (lv_at hl 0 rfl) ?_
      refine g21_11 hx hb hts hown hK hR (hM.vil (vp_lt o_22)) q2052 dX8_tell_79 ?_
      refine lv_if_eq (tgt := 91) hx hb dX8_tell_82 (by decide) (fun c_82 => ?_) (fun c_82 => ?_)
      · have h := h.1 c_82
        refine jr_ldcwS (own := "PublicanryModel") (k := 404) (tx := "") (n := 2404) hx hb hown hK (List.mem_of_getElem? (i := 31) rfl) dX8_tell_91 ?_
        obtain ⟨bAc_94, hhc_94, zzc_94, sfc_94, hcc_94, hcLc_94, hcFc_94⟩ := str_const hK (q := (2404, [])) (List.mem_of_getElem? (i := 5) rfl) (by decide)
        refine va_callr (crt_V (n := 1) (As := [.ref (kA κ 2404)]) (rest := []) ⟨hx, hb, hml, hown, hts⟩ (m_J24_append_2 (X := xl X [(q_29, sbC abT_75 0 (nI T_75.1)), (abT_75, byC κ mmT_75 fT_75)]) (n := T_75.1) (t := T_75.2) (Or.inr ⟨0, rfl⟩) (Or.inr ⟨1, rfl⟩) hneT_75 hmT_75.1 hfT_75 hlT_75 hmT_75.2 (fun X9 H9 _ h9 => hcc_94 _ _ _ _ _ h9) hcLc_94 hcFc_94 (by show T_75.1 + 0 ≤ 70; omega)) RCt.blind (RCt.pre hR hK hPx) q2571 q1762 q1763 q119 q1764 rfl rfl hd_J24_append_2 ⟨(Nat.le_of_ble_eq_true rfl), (Nat.le_of_ble_eq_true rfl)⟩ (rv_at2 hK (hR.L 0 _ rfl) rfl) rfl rfl hl.1 rfl (lv_room (Nat.le_of_ble_eq_true rfl)) dX8_tell_94 ⟨(Nat.le_of_ble_eq_true rfl), (Nat.le_of_ble_eq_true rfl)⟩) hS (fun _ _ h => h) (fun _ h => h) (fun u9 ra9 t H locs ht _ hp hB hz _ hS => ?_)
        rw [ht] at hB
        obtain ⟨e9, hB⟩ := hB
        replace e9 := e9.symm
        subst e9
        obtain ⟨abT_94, mmT_94, fT_94⟩ := u9
        obtain ⟨pp1, pp2, pp3, hfT_94, pp5, pp6⟩ := hp
        dsimp only at pp1 pp2 pp3 hfT_94 pp5 pp6 hB
        have hneT_94 : abT_94 ≠ q_29 := pp3
        have hmT_94 : mmT_94 ≤ 140 := pp2
        obtain ⟨T_94, eT_94⟩ : ∃ z, z = tCat T_75 (tS []) := ⟨_, rfl⟩
        have e1T_94 : T_94.1 = T_75.1 + 0 := by rw [eT_94]; rfl
        have hT_94 : T_94.1 ≤ 29 := by omega
        have hlT_94 : sb_Lat T_94.2 T_94.1 fT_94 := by rw [eT_94]; exact pp5
        have hmT_94 : mmT_94 ≤ 140 ∧ T_94.1 ≤ mmT_94 := ⟨pp2, by rw [e1T_94]; exact pp1⟩
        have hR : Rp κ w_7 y X [(q_29, sbC abT_94 0 (nI T_94.1)), (abT_94, byC κ mmT_94 fT_94)] H := by
          rw [e1T_94]
          exact hR.wroteSB (i := 0) (j := 1) rfl rfl hB pp6 pp3 (by decide) rfl
        clear hB ht hz pp1 pp2 pp3 pp5 pp6
        refine lv_aload_n hx hb dX8_tell_97 rfl (lv_at hl 0 rfl) ?_
        refine g21_6 hx hb hts hown hK hR (hM.vil (vp_lt o_22)) q2046 dX8_tell_98 ?_
        refine lv_if_le (tgt := 130) hx hb dX8_tell_101 (by decide) (fun c_101 => ?_) (fun c_101 => ?_)
        · have h := h.1 c_101
          refine jr_ldcwS (own := "PublicanryModel") (k := 404) (tx := "") (n := 2404) hx hb hown hK (List.mem_of_getElem? (i := 31) rfl) dX8_tell_130 ?_
          obtain ⟨bAc_133, hhc_133, zzc_133, sfc_133, hcc_133, hcLc_133, hcFc_133⟩ := str_const hK (q := (2404, [])) (List.mem_of_getElem? (i := 5) rfl) (by decide)
          refine va_callr (crt_V (n := 1) (As := [.ref (kA κ 2404)]) (rest := []) ⟨hx, hb, hml, hown, hts⟩ (m_J24_append_2 (X := xl X [(q_29, sbC abT_94 0 (nI T_94.1)), (abT_94, byC κ mmT_94 fT_94)]) (n := T_94.1) (t := T_94.2) (Or.inr ⟨0, rfl⟩) (Or.inr ⟨1, rfl⟩) hneT_94 hmT_94.1 hfT_94 hlT_94 hmT_94.2 (fun X9 H9 _ h9 => hcc_133 _ _ _ _ _ h9) hcLc_133 hcFc_133 (by show T_94.1 + 0 ≤ 70; omega)) RCt.blind (RCt.pre hR hK hPx) q2571 q1762 q1763 q119 q1764 rfl rfl hd_J24_append_2 ⟨(Nat.le_of_ble_eq_true rfl), (Nat.le_of_ble_eq_true rfl)⟩ (rv_at2 hK (hR.L 0 _ rfl) rfl) rfl rfl hl.1 rfl (lv_room (Nat.le_of_ble_eq_true rfl)) dX8_tell_133 ⟨(Nat.le_of_ble_eq_true rfl), (Nat.le_of_ble_eq_true rfl)⟩) hS (fun _ _ h => h) (fun _ h => h) (fun u9 ra9 t H locs ht _ hp hB hz _ hS => ?_)
          rw [ht] at hB
          obtain ⟨e9, hB⟩ := hB
          replace e9 := e9.symm
          subst e9
          obtain ⟨abT_133, mmT_133, fT_133⟩ := u9
          obtain ⟨pp1, pp2, pp3, hfT_133, pp5, pp6⟩ := hp
          dsimp only at pp1 pp2 pp3 hfT_133 pp5 pp6 hB
          have hneT_133 : abT_133 ≠ q_29 := pp3
          have hmT_133 : mmT_133 ≤ 140 := pp2
          obtain ⟨T_133, eT_133⟩ : ∃ z, z = tCat T_94 (tS []) := ⟨_, rfl⟩
          have e1T_133 : T_133.1 = T_94.1 + 0 := by rw [eT_133]; rfl
          have hT_133 : T_133.1 ≤ 29 := by omega
          have hlT_133 : sb_Lat T_133.2 T_133.1 fT_133 := by rw [eT_133]; exact pp5
          have hmT_133 : mmT_133 ≤ 140 ∧ T_133.1 ≤ mmT_133 := ⟨pp2, by rw [e1T_133]; exact pp1⟩
          have hR : Rp κ w_7 y X [(q_29, sbC abT_133 0 (nI T_133.1)), (abT_133, byC κ mmT_133 fT_133)] H := by
            rw [e1T_133]
            exact hR.wroteSB (i := 0) (j := 1) rfl rfl hB pp6 pp3 (by decide) rfl
          clear hB ht hz pp1 pp2 pp3 pp5 pp6
          refine va_callr (cr_V (n := 0) (As := []) (rest := []) ⟨hx, hb, hml, hown, hts⟩ hK hR (m_J24_toString (X := xl X [(q_29, sbC abT_133 0 (nI T_133.1)), (abT_133, byC κ mmT_133 fT_133)]) (n := T_133.1) (Or.inr ⟨0, rfl⟩) (Or.inr ⟨1, rfl⟩) hmT_133.1 hmT_133.2 hfT_133) q2576 q1823 q1824 q119 q1825 rfl rfl hd_J24_toString ⟨(Nat.le_of_ble_eq_true rfl), (Nat.le_of_ble_eq_true rfl)⟩ (rv_at2 hK (hR.L 0 _ rfl) rfl) rfl rfl hl.1 rfl (lv_room (Nat.le_of_ble_eq_true rfl)) dX8_tell_136 ⟨(Nat.le_of_ble_eq_true rfl), (Nat.le_of_ble_eq_true rfl)⟩) hS (fun _ _ h => h) (fun _ h => h) (fun u9 q_136 t H locs ht _ hp hB hz _ hS => ?_)
          rw [ht] at hB
          have hR := hR.up2 hB
          clear hB ht hz
          obtain ⟨abq_136, fq_136⟩ := u9
          obtain ⟨gq_136, hfq_136⟩ := hp
          have hlq_136 : sb_Lat T_133.2 T_133.1 fq_136 := sb_latKeep hlT_133 gq_136
          have hR : Rp κ w_7 y X [(q_29, sbC abT_133 0 (nI T_133.1)), (abT_133, byC κ mmT_133 fT_133), (q_136, stC abq_136 0 0), (abq_136, byC κ T_133.1 fq_136)] H := hR
          have hR := hR.sub (L' := [(q_136, stC abq_136 0 0), (abq_136, byC κ T_133.1 fq_136)]) [2, 3] rfl rfl
          have eT : T_133 = tCat (tCat (tCat (tCat (tCat (tCat (tCat (tE) (tI p1)) (tS [58, 32])) (tI (gv w_7 21 (((p1).toNatClampNeg)) 0))) (tS [32, 104, 111, 117, 115, 101, 115])) (tS [])) (tS [])) (tS []) := by rw [eT_133, eT_94, eT_75, eT_56, eT_50, eT_43, eT_37, eT_33]
          rw [← eT] at h
          refine W.widen (k := 17) (n := 1588) (Nat.le_of_ble_eq_true rfl) (Nat.le_of_ble_eq_true rfl) ?_
          exact W.aret hx hb hr (Or.inl ⟨_, rfl⟩) (Or.inr ⟨_, rfl⟩) (fun t ht hW9 => ⟨⟨(some T_133, w_7, abq_136, fq_136), _, rfl, h, Or.inr ⟨T_133, rfl, rpt ht hR, hlq_136, hfq_136, by omega⟩⟩, hS.F ht⟩) hS.2.2 dX8_tell_139
        · have h := h.2 c_101
          refine xa_new (C := RJ24) (T := TJ24) (N := 4) (ci := 20) (fs := [.null, .int 0, .int 0, .int 0]) hx hb hts in_J24 tyJ24 tyJ24_ok hown q2567 q1659 q119 hK.1 hS rfl (fun j hj => by rcases (show j = 0 ∨ j = 1 ∨ j = 2 ∨ j = 3 by omega) with rfl | rfl | rfl | rfl <;> rfl) (Nat.le_of_ble_eq_true rfl) (Nat.le_of_ble_eq_true rfl) dX8_tell_104 (fun q_104 H1 hq h1 hz ho hS => ?_)
          have hR := hR.newL hq h1 (by omega) ho
          clear hq h1 hz ho
          generalize H1 = H at hR hS ⊢
          have hR : Rp κ w_7 y X [(q_29, sbC abT_94 0 (nI T_94.1)), (abT_94, byC κ mmT_94 fT_94), (q_104, .inr (20, [.null, .int 0, .int 0, .int 0]))] H := hR
          refine lv_dup hx hb dX8_tell_107 rfl ?_
          refine va_callv (va_runI (As := []) (rest := [.ref (q_104), .ref (q_29)]) ⟨hx, hb, hml, hown, hts⟩ (m_J24_init (X := xl X [(q_29, sbC abT_94 0 (nI T_94.1)), (abT_94, byC κ mmT_94 fT_94), (q_104, .inr (20, [.null, .int 0, .int 0, .int 0]))]) (Or.inr ⟨2, rfl⟩)) (cwI 0 hts (lw_meth q1662) rfl rfl rfl (hts _ q119) (hts _ q2568) (hts _ q1661) rfl (by decide +kernel) ⟨(Nat.le_of_ble_eq_true rfl), (Nat.le_of_ble_eq_true rfl)⟩) ⟨RC.blind, RC.pre hR hK⟩ rfl rfl hl.1 rfl (lv_room (Nat.le_of_ble_eq_true rfl)) dX8_tell_108 ⟨(Nat.le_of_ble_eq_true rfl), (Nat.le_of_ble_eq_true rfl)⟩) hS (fun _ _ h => h) (fun _ h => h) (fun ab_108 t H locs ht _ _ hB hz _ hS => ?_)
          rw [ht] at hB
          have hR := hR.wroteU (t := 2) rfl hB
          clear hB ht hz
          obtain ⟨T_108, eT_108⟩ : ∃ z, z = tE := ⟨_, rfl⟩
          have hT_108 : T_108.1 ≤ 0 := by rw [eT_108]; exact Nat.le_refl _
          obtain ⟨fT_108, efT_108⟩ : ∃ z : Nat → Int32, z = fun _ => 0 := ⟨_, rfl⟩
          have hfT_108 : sb_Fit fT_108 := by rw [efT_108]; exact sb_fit0
          have hlT_108 : sb_Lat T_108.2 T_108.1 fT_108 := fun j hj => absurd hj (by omega)
          have hmT_108 : (16 : Nat) ≤ 140 ∧ T_108.1 ≤ 16 := ⟨by decide, by omega⟩
          have hneT_108 : ab_108 ≠ q_104 := fun e9 => absurd (hR.LD.1 3 2 _ _ rfl rfl e9) (by decide)
          have hR : Rp κ w_7 y X [(q_29, sbC abT_94 0 (nI T_94.1)), (abT_94, byC κ mmT_94 fT_94), (q_104, sbC ab_108 0 (nI T_108.1)), (ab_108, byC κ 16 fT_108)] H := by rw [show (nI T_108.1) = (0 : Int32) by rw [eT_108]; rfl, efT_108]; exact hR
          refine jr_ldcwS (own := "PublicanryModel") (k := 424) (tx := ", owes ") (n := 2424) hx hb hown hK (List.mem_of_getElem? (i := 36) rfl) dX8_tell_111 ?_
          obtain ⟨bAc_114, hhc_114, zzc_114, sfc_114, hcc_114, hcLc_114, hcFc_114⟩ := str_const hK (q := (2424, [44, 32, 111, 119, 101, 115, 32])) (List.mem_of_getElem? (i := 10) rfl) (by decide)
          refine va_callr (crt_V (n := 1) (As := [.ref (kA κ 2424)]) (rest := [.ref (q_29)]) ⟨hx, hb, hml, hown, hts⟩ (m_J24_append_2 (X := xl X [(q_29, sbC abT_94 0 (nI T_94.1)), (abT_94, byC κ mmT_94 fT_94), (q_104, sbC ab_108 0 (nI T_108.1)), (ab_108, byC κ 16 fT_108)]) (n := T_108.1) (t := T_108.2) (Or.inr ⟨2, rfl⟩) (Or.inr ⟨3, rfl⟩) hneT_108 hmT_108.1 hfT_108 hlT_108 hmT_108.2 (fun X9 H9 _ h9 => hcc_114 _ _ _ _ _ h9) hcLc_114 hcFc_114 (by show T_108.1 + 7 ≤ 70; omega)) RCt.blind (RCt.pre hR hK hPx) q2571 q1762 q1763 q119 q1764 rfl rfl hd_J24_append_2 ⟨(Nat.le_of_ble_eq_true rfl), (Nat.le_of_ble_eq_true rfl)⟩ (rv_at2 hK (hR.L 2 _ rfl) rfl) rfl rfl hl.1 rfl (lv_room (Nat.le_of_ble_eq_true rfl)) dX8_tell_114 ⟨(Nat.le_of_ble_eq_true rfl), (Nat.le_of_ble_eq_true rfl)⟩) hS (fun _ _ h => h) (fun _ h => h) (fun u9 ra9 t H locs ht _ hp hB hz _ hS => ?_)
          rw [ht] at hB
          obtain ⟨e9, hB⟩ := hB
          replace e9 := e9.symm
          subst e9
          obtain ⟨abT_114, mmT_114, fT_114⟩ := u9
          obtain ⟨pp1, pp2, pp3, hfT_114, pp5, pp6⟩ := hp
          dsimp only at pp1 pp2 pp3 hfT_114 pp5 pp6 hB
          have hneT_114 : abT_114 ≠ q_104 := pp3
          have hmT_114 : mmT_114 ≤ 140 := pp2
          obtain ⟨T_114, eT_114⟩ : ∃ z, z = tCat T_108 (tS [44, 32, 111, 119, 101, 115, 32]) := ⟨_, rfl⟩
          have e1T_114 : T_114.1 = T_108.1 + 7 := by rw [eT_114]; rfl
          have hT_114 : T_114.1 ≤ 7 := by omega
          have hlT_114 : sb_Lat T_114.2 T_114.1 fT_114 := by rw [eT_114]; exact pp5
          have hmT_114 : mmT_114 ≤ 140 ∧ T_114.1 ≤ mmT_114 := ⟨pp2, by rw [e1T_114]; exact pp1⟩
          have hR : Rp κ w_7 y X [(q_29, sbC abT_94 0 (nI T_94.1)), (abT_94, byC κ mmT_94 fT_94), (q_104, sbC abT_114 0 (nI T_114.1)), (abT_114, byC κ mmT_114 fT_114)] H := by
            rw [e1T_114]
            exact hR.wroteSB (i := 2) (j := 3) rfl rfl hB pp6 pp3 (by decide) rfl
          clear hB ht hz pp1 pp2 pp3 pp5 pp6
          refine lv_aload_n hx hb dX8_tell_117 rfl (lv_at hl 0 rfl) ?_
          refine g21_6 hx hb hts hown hK hR (hM.vil (vp_lt o_22)) q2046 dX8_tell_118 ?_
          have o_121 := h.1
          have h := h.2
          have eio_121 := nI_cl o_121
          have dio_121 := (sb_dg_in (gv w_7 21 (((p1).toNatClampNeg)) 6).toNatClampNeg).2
          refine W.eq (g2 := F0 m 121 ls [.int (nI (gv w_7 21 (((p1).toNatClampNeg)) 6).toNatClampNeg), .ref (q_104), .ref (q_29)]) (by rw [← eio_121.1]) ?_
          refine va_callr (crt_V (n := 1) (As := [.int (nI (gv w_7 21 (((p1).toNatClampNeg)) 6).toNatClampNeg)]) (rest := [.ref (q_29)]) ⟨hx, hb, hml, hown, hts⟩ (m_J24_append (X := xl X [(q_29, sbC abT_94 0 (nI T_94.1)), (abT_94, byC κ mmT_94 fT_94), (q_104, sbC abT_114 0 (nI T_114.1)), (abT_114, byC κ mmT_114 fT_114)]) (n := T_114.1) (t := T_114.2) (Or.inr ⟨2, rfl⟩) (Or.inr ⟨3, rfl⟩) hneT_114 hmT_114.1 hfT_114 hlT_114 hmT_114.2 eio_121.2 (by omega)) RCt.blind (RCt.pre hR hK hPx) q2569 q1690 q1691 q119 q1692 rfl rfl hd_J24_append ⟨(Nat.le_of_ble_eq_true rfl), (Nat.le_of_ble_eq_true rfl)⟩ (rv_at2 hK (hR.L 2 _ rfl) rfl) rfl rfl hl.1 rfl (lv_room (Nat.le_of_ble_eq_true rfl)) dX8_tell_121 ⟨(Nat.le_of_ble_eq_true rfl), (Nat.le_of_ble_eq_true rfl)⟩) hS (fun _ _ h => h) (fun _ h => h) (fun u9 ra9 t H locs ht _ hp hB hz _ hS => ?_)
          rw [ht] at hB
          obtain ⟨e9, hB⟩ := hB
          replace e9 := e9.symm
          subst e9
          obtain ⟨abT_121, mmT_121, fT_121⟩ := u9
          obtain ⟨pp1, pp2, pp3, hfT_121, pp5, pp6⟩ := hp
          dsimp only at pp1 pp2 pp3 hfT_121 pp5 pp6 hB
          have hneT_121 : abT_121 ≠ q_104 := pp3
          have hmT_121 : mmT_121 ≤ 140 := pp2
          obtain ⟨T_121, eT_121⟩ : ∃ z, z = tCat T_114 (tI (gv w_7 21 (((p1).toNatClampNeg)) 6)) := ⟨_, rfl⟩
          have e1T_121 : T_121.1 = T_114.1 + sb_dg (gv w_7 21 (((p1).toNatClampNeg)) 6).toNatClampNeg := by rw [eT_121]; rfl
          have hT_121 : T_121.1 ≤ 17 := by omega
          have hlT_121 : sb_Lat T_121.2 T_121.1 fT_121 := by rw [eT_121]; exact pp5
          have hmT_121 : mmT_121 ≤ 140 ∧ T_121.1 ≤ mmT_121 := ⟨pp2, by rw [e1T_121]; exact pp1⟩
          have hR : Rp κ w_7 y X [(q_29, sbC abT_94 0 (nI T_94.1)), (abT_94, byC κ mmT_94 fT_94), (q_104, sbC abT_121 0 (nI T_121.1)), (abT_121, byC κ mmT_121 fT_121)] H := by
            rw [e1T_121]
            exact hR.wroteSB (i := 2) (j := 3) rfl rfl hB pp6 pp3 (by decide) rfl
          clear hB ht hz pp1 pp2 pp3 pp5 pp6
          refine va_callr (cr_V (n := 0) (As := []) (rest := [.ref (q_29)]) ⟨hx, hb, hml, hown, hts⟩ hK hR (m_J24_toString (X := xl X [(q_29, sbC abT_94 0 (nI T_94.1)), (abT_94, byC κ mmT_94 fT_94), (q_104, sbC abT_121 0 (nI T_121.1)), (abT_121, byC κ mmT_121 fT_121)]) (n := T_121.1) (Or.inr ⟨2, rfl⟩) (Or.inr ⟨3, rfl⟩) hmT_121.1 hmT_121.2 hfT_121) q2576 q1823 q1824 q119 q1825 rfl rfl hd_J24_toString ⟨(Nat.le_of_ble_eq_true rfl), (Nat.le_of_ble_eq_true rfl)⟩ (rv_at2 hK (hR.L 2 _ rfl) rfl) rfl rfl hl.1 rfl (lv_room (Nat.le_of_ble_eq_true rfl)) dX8_tell_124 ⟨(Nat.le_of_ble_eq_true rfl), (Nat.le_of_ble_eq_true rfl)⟩) hS (fun _ _ h => h) (fun _ h => h) (fun u9 q_124 t H locs ht _ hp hB hz _ hS => ?_)
          rw [ht] at hB
          have hR := hR.up2 hB
          clear hB ht hz
          obtain ⟨abq_124, fq_124⟩ := u9
          obtain ⟨gq_124, hfq_124⟩ := hp
          have hlq_124 : sb_Lat T_121.2 T_121.1 fq_124 := sb_latKeep hlT_121 gq_124
          have hR : Rp κ w_7 y X [(q_29, sbC abT_94 0 (nI T_94.1)), (abT_94, byC κ mmT_94 fT_94), (q_104, sbC abT_121 0 (nI T_121.1)), (abT_121, byC κ mmT_121 fT_121), (q_124, stC abq_124 0 0), (abq_124, byC κ T_121.1 fq_124)] H := hR
          have hR := hR.sub (L' := [(q_29, sbC abT_94 0 (nI T_94.1)), (abT_94, byC κ mmT_94 fT_94), (q_124, stC abq_124 0 0), (abq_124, byC κ T_121.1 fq_124)]) [0, 1, 4, 5] rfl rfl
          refine lv_goto (tgt := 133) hx hb dX8_tell_127 (by decide) ?_
          refine va_callr (crt_V (n := 1) (As := [.ref (q_124)]) (rest := []) ⟨hx, hb, hml, hown, hts⟩ (m_J24_append_2 (X := xl X [(q_29, sbC abT_94 0 (nI T_94.1)), (abT_94, byC κ mmT_94 fT_94), (q_124, stC abq_124 0 0), (abq_124, byC κ T_121.1 fq_124)]) (n := T_94.1) (t := T_94.2) (Or.inr ⟨0, rfl⟩) (Or.inr ⟨1, rfl⟩) hneT_94 hmT_94.1 hfT_94 hlT_94 hmT_94.2 (fun X9 H9 hx9 h9 => ⟨h9.X (hx9 _ _ (fun e => absurd (hR.LD.1 2 0 _ _ rfl rfl e) (by decide)) (fun e => absurd (hR.LD.1 2 1 _ _ rfl rfl e) (by decide)) (Or.inr ⟨2, rfl⟩)), h9.X (hx9 _ _ (fun e => absurd (hR.LD.1 3 0 _ _ rfl rfl e) (by decide)) (fun e => absurd (hR.LD.1 3 1 _ _ rfl rfl e) (by decide)) (Or.inr ⟨3, rfl⟩))⟩) hlq_124 hfq_124 (by show T_94.1 + T_121.1 ≤ 70; omega)) RCt.blind (RCt.pre hR hK hPx) q2571 q1762 q1763 q119 q1764 rfl rfl hd_J24_append_2 ⟨(Nat.le_of_ble_eq_true rfl), (Nat.le_of_ble_eq_true rfl)⟩ (rv_at2 hK (hR.L 0 _ rfl) rfl) rfl rfl hl.1 rfl (lv_room (Nat.le_of_ble_eq_true rfl)) dX8_tell_133 ⟨(Nat.le_of_ble_eq_true rfl), (Nat.le_of_ble_eq_true rfl)⟩) hS (fun _ _ h => h) (fun _ h => h) (fun u9 ra9 t H locs ht _ hp hB hz _ hS => ?_)
          rw [ht] at hB
          obtain ⟨e9, hB⟩ := hB
          replace e9 := e9.symm
          subst e9
          obtain ⟨abT_133_a, mmT_133_a, fT_133_a⟩ := u9
          obtain ⟨pp1, pp2, pp3, hfT_133_a, pp5, pp6⟩ := hp
          dsimp only at pp1 pp2 pp3 hfT_133_a pp5 pp6 hB
          have hneT_133_a : abT_133_a ≠ q_29 := pp3
          have hmT_133_a : mmT_133_a ≤ 140 := pp2
          obtain ⟨T_133_a, eT_133_a⟩ : ∃ z, z = tCat T_94 T_121 := ⟨_, rfl⟩
          have e1T_133_a : T_133_a.1 = T_94.1 + T_121.1 := by rw [eT_133_a]; rfl
          have hT_133_a : T_133_a.1 ≤ 46 := by omega
          have hlT_133_a : sb_Lat T_133_a.2 T_133_a.1 fT_133_a := by rw [eT_133_a]; exact pp5
          have hmT_133_a : mmT_133_a ≤ 140 ∧ T_133_a.1 ≤ mmT_133_a := ⟨pp2, by rw [e1T_133_a]; exact pp1⟩
          have hR : Rp κ w_7 y X [(q_29, sbC abT_133_a 0 (nI T_133_a.1)), (abT_133_a, byC κ mmT_133_a fT_133_a), (q_124, stC abq_124 0 0), (abq_124, byC κ T_121.1 fq_124)] H := by
            rw [e1T_133_a]
            exact hR.wroteSB (i := 0) (j := 1) rfl rfl hB pp6 pp3 (by decide) rfl
          clear hB ht hz pp1 pp2 pp3 pp5 pp6
          have hR := hR.sub (L' := [(q_29, sbC abT_133_a 0 (nI T_133_a.1)), (abT_133_a, byC κ mmT_133_a fT_133_a)]) [0, 1] rfl rfl
          refine va_callr (cr_V (n := 0) (As := []) (rest := []) ⟨hx, hb, hml, hown, hts⟩ hK hR (m_J24_toString (X := xl X [(q_29, sbC abT_133_a 0 (nI T_133_a.1)), (abT_133_a, byC κ mmT_133_a fT_133_a)]) (n := T_133_a.1) (Or.inr ⟨0, rfl⟩) (Or.inr ⟨1, rfl⟩) hmT_133_a.1 hmT_133_a.2 hfT_133_a) q2576 q1823 q1824 q119 q1825 rfl rfl hd_J24_toString ⟨(Nat.le_of_ble_eq_true rfl), (Nat.le_of_ble_eq_true rfl)⟩ (rv_at2 hK (hR.L 0 _ rfl) rfl) rfl rfl hl.1 rfl (lv_room (Nat.le_of_ble_eq_true rfl)) dX8_tell_136 ⟨(Nat.le_of_ble_eq_true rfl), (Nat.le_of_ble_eq_true rfl)⟩) hS (fun _ _ h => h) (fun _ h => h) (fun u9 q_136_a t H locs ht _ hp hB hz _ hS => ?_)
          rw [ht] at hB
          have hR := hR.up2 hB
          clear hB ht hz
          obtain ⟨abq_136_a, fq_136_a⟩ := u9
          obtain ⟨gq_136_a, hfq_136_a⟩ := hp
          have hlq_136_a : sb_Lat T_133_a.2 T_133_a.1 fq_136_a := sb_latKeep hlT_133_a gq_136_a
          have hR : Rp κ w_7 y X [(q_29, sbC abT_133_a 0 (nI T_133_a.1)), (abT_133_a, byC κ mmT_133_a fT_133_a), (q_136_a, stC abq_136_a 0 0), (abq_136_a, byC κ T_133_a.1 fq_136_a)] H := hR
          have hR := hR.sub (L' := [(q_136_a, stC abq_136_a 0 0), (abq_136_a, byC κ T_133_a.1 fq_136_a)]) [2, 3] rfl rfl
          have eT : T_133_a = tCat (tCat (tCat (tCat (tCat (tCat (tCat (tE) (tI p1)) (tS [58, 32])) (tI (gv w_7 21 (((p1).toNatClampNeg)) 0))) (tS [32, 104, 111, 117, 115, 101, 115])) (tS [])) (tS [])) (tCat (tCat (tE) (tS [44, 32, 111, 119, 101, 115, 32])) (tI (gv w_7 21 (((p1).toNatClampNeg)) 6))) := by rw [eT_133_a, eT_121, eT_114, eT_108, eT_94, eT_75, eT_56, eT_50, eT_43, eT_37, eT_33]
          rw [← eT] at h
          refine W.widen (k := 17) (n := 1588) (Nat.le_of_ble_eq_true rfl) (Nat.le_of_ble_eq_true rfl) ?_
          exact W.aret hx hb hr (Or.inl ⟨_, rfl⟩) (Or.inr ⟨_, rfl⟩) (fun t ht hW9 => ⟨⟨(some T_133_a, w_7, abq_136_a, fq_136_a), _, rfl, h, Or.inr ⟨T_133_a, rfl, rpt ht hR, hlq_136_a, hfq_136_a, by omega⟩⟩, hS.F ht⟩) hS.2.2 dX8_tell_139
      · have h := h.2 c_82
        refine jr_ldcwS (own := "PublicanryModel") (k := 422) (tx := ", burnt") (n := 2422) hx hb hown hK (List.mem_of_getElem? (i := 35) rfl) dX8_tell_85 ?_
        refine lv_goto (tgt := 94) hx hb dX8_tell_88 (by decide) ?_
        obtain ⟨bAc_94_a, hhc_94_a, zzc_94_a, sfc_94_a, hcc_94_a, hcLc_94_a, hcFc_94_a⟩ := str_const hK (q := (2422, [44, 32, 98, 117, 114, 110, 116])) (List.mem_of_getElem? (i := 9) rfl) (by decide)
        refine va_callr (crt_V (n := 1) (As := [.ref (kA κ 2422)]) (rest := []) ⟨hx, hb, hml, hown, hts⟩ (m_J24_append_2 (X := xl X [(q_29, sbC abT_75 0 (nI T_75.1)), (abT_75, byC κ mmT_75 fT_75)]) (n := T_75.1) (t := T_75.2) (Or.inr ⟨0, rfl⟩) (Or.inr ⟨1, rfl⟩) hneT_75 hmT_75.1 hfT_75 hlT_75 hmT_75.2 (fun X9 H9 _ h9 => hcc_94_a _ _ _ _ _ h9) hcLc_94_a hcFc_94_a (by show T_75.1 + 7 ≤ 70; omega)) RCt.blind (RCt.pre hR hK hPx) q2571 q1762 q1763 q119 q1764 rfl rfl hd_J24_append_2 ⟨(Nat.le_of_ble_eq_true rfl), (Nat.le_of_ble_eq_true rfl)⟩ (rv_at2 hK (hR.L 0 _ rfl) rfl) rfl rfl hl.1 rfl (lv_room (Nat.le_of_ble_eq_true rfl)) dX8_tell_94 ⟨(Nat.le_of_ble_eq_true rfl), (Nat.le_of_ble_eq_true rfl)⟩) hS (fun _ _ h => h) (fun _ h => h) (fun u9 ra9 t H locs ht _ hp hB hz _ hS => ?_)
        rw [ht] at hB
        obtain ⟨e9, hB⟩ := hB
        replace e9 := e9.symm
        subst e9
        obtain ⟨abT_94_a, mmT_94_a, fT_94_a⟩ := u9
        obtain ⟨pp1, pp2, pp3, hfT_94_a, pp5, pp6⟩ := hp
        dsimp only at pp1 pp2 pp3 hfT_94_a pp5 pp6 hB
        have hneT_94_a : abT_94_a ≠ q_29 := pp3
        have hmT_94_a : mmT_94_a ≤ 140 := pp2
        obtain ⟨T_94_a, eT_94_a⟩ : ∃ z, z = tCat T_75 (tS [44, 32, 98, 117, 114, 110, 116]) := ⟨_, rfl⟩
        have e1T_94_a : T_94_a.1 = T_75.1 + 7 := by rw [eT_94_a]; rfl
        have hT_94_a : T_94_a.1 ≤ 36 := by omega
        have hlT_94_a : sb_Lat T_94_a.2 T_94_a.1 fT_94_a := by rw [eT_94_a]; exact pp5
        have hmT_94_a : mmT_94_a ≤ 140 ∧ T_94_a.1 ≤ mmT_94_a := ⟨pp2, by rw [e1T_94_a]; exact pp1⟩
        have hR : Rp κ w_7 y X [(q_29, sbC abT_94_a 0 (nI T_94_a.1)), (abT_94_a, byC κ mmT_94_a fT_94_a)] H := by
          rw [e1T_94_a]
          exact hR.wroteSB (i := 0) (j := 1) rfl rfl hB pp6 pp3 (by decide) rfl
        clear hB ht hz pp1 pp2 pp3 pp5 pp6
        refine lv_aload_n hx hb dX8_tell_97 rfl (lv_at hl 0 rfl) ?_
        refine g21_6 hx hb hts hown hK hR (hM.vil (vp_lt o_22)) q2046 dX8_tell_98 ?_
        refine lv_if_le (tgt := 130) hx hb dX8_tell_101 (by decide) (fun c_101_a => ?_) (fun c_101_a => ?_)
        · have h := h.1 c_101_a
          refine jr_ldcwS (own := "PublicanryModel") (k := 404) (tx := "") (n := 2404) hx hb hown hK (List.mem_of_getElem? (i := 31) rfl) dX8_tell_130 ?_
          obtain ⟨bAc_133_b, hhc_133_b, zzc_133_b, sfc_133_b, hcc_133_b, hcLc_133_b, hcFc_133_b⟩ := str_const hK (q := (2404, [])) (List.mem_of_getElem? (i := 5) rfl) (by decide)
          refine va_callr (crt_V (n := 1) (As := [.ref (kA κ 2404)]) (rest := []) ⟨hx, hb, hml, hown, hts⟩ (m_J24_append_2 (X := xl X [(q_29, sbC abT_94_a 0 (nI T_94_a.1)), (abT_94_a, byC κ mmT_94_a fT_94_a)]) (n := T_94_a.1) (t := T_94_a.2) (Or.inr ⟨0, rfl⟩) (Or.inr ⟨1, rfl⟩) hneT_94_a hmT_94_a.1 hfT_94_a hlT_94_a hmT_94_a.2 (fun X9 H9 _ h9 => hcc_133_b _ _ _ _ _ h9) hcLc_133_b hcFc_133_b (by show T_94_a.1 + 0 ≤ 70; omega)) RCt.blind (RCt.pre hR hK hPx) q2571 q1762 q1763 q119 q1764 rfl rfl hd_J24_append_2 ⟨(Nat.le_of_ble_eq_true rfl), (Nat.le_of_ble_eq_true rfl)⟩ (rv_at2 hK (hR.L 0 _ rfl) rfl) rfl rfl hl.1 rfl (lv_room (Nat.le_of_ble_eq_true rfl)) dX8_tell_133 ⟨(Nat.le_of_ble_eq_true rfl), (Nat.le_of_ble_eq_true rfl)⟩) hS (fun _ _ h => h) (fun _ h => h) (fun u9 ra9 t H locs ht _ hp hB hz _ hS => ?_)
          rw [ht] at hB
          obtain ⟨e9, hB⟩ := hB
          replace e9 := e9.symm
          subst e9
          obtain ⟨abT_133_b, mmT_133_b, fT_133_b⟩ := u9
          obtain ⟨pp1, pp2, pp3, hfT_133_b, pp5, pp6⟩ := hp
          dsimp only at pp1 pp2 pp3 hfT_133_b pp5 pp6 hB
          have hneT_133_b : abT_133_b ≠ q_29 := pp3
          have hmT_133_b : mmT_133_b ≤ 140 := pp2
          obtain ⟨T_133_b, eT_133_b⟩ : ∃ z, z = tCat T_94_a (tS []) := ⟨_, rfl⟩
          have e1T_133_b : T_133_b.1 = T_94_a.1 + 0 := by rw [eT_133_b]; rfl
          have hT_133_b : T_133_b.1 ≤ 36 := by omega
          have hlT_133_b : sb_Lat T_133_b.2 T_133_b.1 fT_133_b := by rw [eT_133_b]; exact pp5
          have hmT_133_b : mmT_133_b ≤ 140 ∧ T_133_b.1 ≤ mmT_133_b := ⟨pp2, by rw [e1T_133_b]; exact pp1⟩
          have hR : Rp κ w_7 y X [(q_29, sbC abT_133_b 0 (nI T_133_b.1)), (abT_133_b, byC κ mmT_133_b fT_133_b)] H := by
            rw [e1T_133_b]
            exact hR.wroteSB (i := 0) (j := 1) rfl rfl hB pp6 pp3 (by decide) rfl
          clear hB ht hz pp1 pp2 pp3 pp5 pp6
          refine va_callr (cr_V (n := 0) (As := []) (rest := []) ⟨hx, hb, hml, hown, hts⟩ hK hR (m_J24_toString (X := xl X [(q_29, sbC abT_133_b 0 (nI T_133_b.1)), (abT_133_b, byC κ mmT_133_b fT_133_b)]) (n := T_133_b.1) (Or.inr ⟨0, rfl⟩) (Or.inr ⟨1, rfl⟩) hmT_133_b.1 hmT_133_b.2 hfT_133_b) q2576 q1823 q1824 q119 q1825 rfl rfl hd_J24_toString ⟨(Nat.le_of_ble_eq_true rfl), (Nat.le_of_ble_eq_true rfl)⟩ (rv_at2 hK (hR.L 0 _ rfl) rfl) rfl rfl hl.1 rfl (lv_room (Nat.le_of_ble_eq_true rfl)) dX8_tell_136 ⟨(Nat.le_of_ble_eq_true rfl), (Nat.le_of_ble_eq_true rfl)⟩) hS (fun _ _ h => h) (fun _ h => h) (fun u9 q_136_b t H locs ht _ hp hB hz _ hS => ?_)
          rw [ht] at hB
          have hR := hR.up2 hB
          clear hB ht hz
          obtain ⟨abq_136_b, fq_136_b⟩ := u9
          obtain ⟨gq_136_b, hfq_136_b⟩ := hp
          have hlq_136_b : sb_Lat T_133_b.2 T_133_b.1 fq_136_b := sb_latKeep hlT_133_b gq_136_b
          have hR : Rp κ w_7 y X [(q_29, sbC abT_133_b 0 (nI T_133_b.1)), (abT_133_b, byC κ mmT_133_b fT_133_b), (q_136_b, stC abq_136_b 0 0), (abq_136_b, byC κ T_133_b.1 fq_136_b)] H := hR
          have hR := hR.sub (L' := [(q_136_b, stC abq_136_b 0 0), (abq_136_b, byC κ T_133_b.1 fq_136_b)]) [2, 3] rfl rfl
          have eT : T_133_b = tCat (tCat (tCat (tCat (tCat (tCat (tCat (tE) (tI p1)) (tS [58, 32])) (tI (gv w_7 21 (((p1).toNatClampNeg)) 0))) (tS [32, 104, 111, 117, 115, 101, 115])) (tS [])) (tS [44, 32, 98, 117, 114, 110, 116])) (tS []) := by rw [eT_133_b, eT_94_a, eT_75, eT_56, eT_50, eT_43, eT_37, eT_33]
          rw [← eT] at h
          refine W.widen (k := 17) (n := 1588) (Nat.le_of_ble_eq_true rfl) (Nat.le_of_ble_eq_true rfl) ?_
          exact W.aret hx hb hr (Or.inl ⟨_, rfl⟩) (Or.inr ⟨_, rfl⟩) (fun t ht hW9 => ⟨⟨(some T_133_b, w_7, abq_136_b, fq_136_b), _, rfl, h, Or.inr ⟨T_133_b, rfl, rpt ht hR, hlq_136_b, hfq_136_b, by omega⟩⟩, hS.F ht⟩) hS.2.2 dX8_tell_139
        · have h := h.2 c_101_a
          refine xa_new (C := RJ24) (T := TJ24) (N := 4) (ci := 20) (fs := [.null, .int 0, .int 0, .int 0]) hx hb hts in_J24 tyJ24 tyJ24_ok hown q2567 q1659 q119 hK.1 hS rfl (fun j hj => by rcases (show j = 0 ∨ j = 1 ∨ j = 2 ∨ j = 3 by omega) with rfl | rfl | rfl | rfl <;> rfl) (Nat.le_of_ble_eq_true rfl) (Nat.le_of_ble_eq_true rfl) dX8_tell_104 (fun q_104_a H1 hq h1 hz ho hS => ?_)
          have hR := hR.newL hq h1 (by omega) ho
          clear hq h1 hz ho
          generalize H1 = H at hR hS ⊢
          have hR : Rp κ w_7 y X [(q_29, sbC abT_94_a 0 (nI T_94_a.1)), (abT_94_a, byC κ mmT_94_a fT_94_a), (q_104_a, .inr (20, [.null, .int 0, .int 0, .int 0]))] H := hR
          refine lv_dup hx hb dX8_tell_107 rfl ?_
          refine va_callv (va_runI (As := []) (rest := [.ref (q_104_a), .ref (q_29)]) ⟨hx, hb, hml, hown, hts⟩ (m_J24_init (X := xl X [(q_29, sbC abT_94_a 0 (nI T_94_a.1)), (abT_94_a, byC κ mmT_94_a fT_94_a), (q_104_a, .inr (20, [.null, .int 0, .int 0, .int 0]))]) (Or.inr ⟨2, rfl⟩)) (cwI 0 hts (lw_meth q1662) rfl rfl rfl (hts _ q119) (hts _ q2568) (hts _ q1661) rfl (by decide +kernel) ⟨(Nat.le_of_ble_eq_true rfl), (Nat.le_of_ble_eq_true rfl)⟩) ⟨RC.blind, RC.pre hR hK⟩ rfl rfl hl.1 rfl (lv_room (Nat.le_of_ble_eq_true rfl)) dX8_tell_108 ⟨(Nat.le_of_ble_eq_true rfl), (Nat.le_of_ble_eq_true rfl)⟩) hS (fun _ _ h => h) (fun _ h => h) (fun ab_108_a t H locs ht _ _ hB hz _ hS => ?_)
          rw [ht] at hB
          have hR := hR.wroteU (t := 2) rfl hB
          clear hB ht hz
          obtain ⟨T_108_a, eT_108_a⟩ : ∃ z, z = tE := ⟨_, rfl⟩
          have hT_108_a : T_108_a.1 ≤ 0 := by rw [eT_108_a]; exact Nat.le_refl _
          obtain ⟨fT_108_a, efT_108_a⟩ : ∃ z : Nat → Int32, z = fun _ => 0 := ⟨_, rfl⟩
          have hfT_108_a : sb_Fit fT_108_a := by rw [efT_108_a]; exact sb_fit0
          have hlT_108_a : sb_Lat T_108_a.2 T_108_a.1 fT_108_a := fun j hj => absurd hj (by omega)
          have hmT_108_a : (16 : Nat) ≤ 140 ∧ T_108_a.1 ≤ 16 := ⟨by decide, by omega⟩
          have hneT_108_a : ab_108_a ≠ q_104_a := fun e9 => absurd (hR.LD.1 3 2 _ _ rfl rfl e9) (by decide)
          have hR : Rp κ w_7 y X [(q_29, sbC abT_94_a 0 (nI T_94_a.1)), (abT_94_a, byC κ mmT_94_a fT_94_a), (q_104_a, sbC ab_108_a 0 (nI T_108_a.1)), (ab_108_a, byC κ 16 fT_108_a)] H := by rw [show (nI T_108_a.1) = (0 : Int32) by rw [eT_108_a]; rfl, efT_108_a]; exact hR
          refine jr_ldcwS (own := "PublicanryModel") (k := 424) (tx := ", owes ") (n := 2424) hx hb hown hK (List.mem_of_getElem? (i := 36) rfl) dX8_tell_111 ?_
          obtain ⟨bAc_114_a, hhc_114_a, zzc_114_a, sfc_114_a, hcc_114_a, hcLc_114_a, hcFc_114_a⟩ := str_const hK (q := (2424, [44, 32, 111, 119, 101, 115, 32])) (List.mem_of_getElem? (i := 10) rfl) (by decide)
          refine va_callr (crt_V (n := 1) (As := [.ref (kA κ 2424)]) (rest := [.ref (q_29)]) ⟨hx, hb, hml, hown, hts⟩ (m_J24_append_2 (X := xl X [(q_29, sbC abT_94_a 0 (nI T_94_a.1)), (abT_94_a, byC κ mmT_94_a fT_94_a), (q_104_a, sbC ab_108_a 0 (nI T_108_a.1)), (ab_108_a, byC κ 16 fT_108_a)]) (n := T_108_a.1) (t := T_108_a.2) (Or.inr ⟨2, rfl⟩) (Or.inr ⟨3, rfl⟩) hneT_108_a hmT_108_a.1 hfT_108_a hlT_108_a hmT_108_a.2 (fun X9 H9 _ h9 => hcc_114_a _ _ _ _ _ h9) hcLc_114_a hcFc_114_a (by show T_108_a.1 + 7 ≤ 70; omega)) RCt.blind (RCt.pre hR hK hPx) q2571 q1762 q1763 q119 q1764 rfl rfl hd_J24_append_2 ⟨(Nat.le_of_ble_eq_true rfl), (Nat.le_of_ble_eq_true rfl)⟩ (rv_at2 hK (hR.L 2 _ rfl) rfl) rfl rfl hl.1 rfl (lv_room (Nat.le_of_ble_eq_true rfl)) dX8_tell_114 ⟨(Nat.le_of_ble_eq_true rfl), (Nat.le_of_ble_eq_true rfl)⟩) hS (fun _ _ h => h) (fun _ h => h) (fun u9 ra9 t H locs ht _ hp hB hz _ hS => ?_)
          rw [ht] at hB
          obtain ⟨e9, hB⟩ := hB
          replace e9 := e9.symm
          subst e9
          obtain ⟨abT_114_a, mmT_114_a, fT_114_a⟩ := u9
          obtain ⟨pp1, pp2, pp3, hfT_114_a, pp5, pp6⟩ := hp
          dsimp only at pp1 pp2 pp3 hfT_114_a pp5 pp6 hB
          have hneT_114_a : abT_114_a ≠ q_104_a := pp3
          have hmT_114_a : mmT_114_a ≤ 140 := pp2
          obtain ⟨T_114_a, eT_114_a⟩ : ∃ z, z = tCat T_108_a (tS [44, 32, 111, 119, 101, 115, 32]) := ⟨_, rfl⟩
          have e1T_114_a : T_114_a.1 = T_108_a.1 + 7 := by rw [eT_114_a]; rfl
          have hT_114_a : T_114_a.1 ≤ 7 := by omega
          have hlT_114_a : sb_Lat T_114_a.2 T_114_a.1 fT_114_a := by rw [eT_114_a]; exact pp5
          have hmT_114_a : mmT_114_a ≤ 140 ∧ T_114_a.1 ≤ mmT_114_a := ⟨pp2, by rw [e1T_114_a]; exact pp1⟩
          have hR : Rp κ w_7 y X [(q_29, sbC abT_94_a 0 (nI T_94_a.1)), (abT_94_a, byC κ mmT_94_a fT_94_a), (q_104_a, sbC abT_114_a 0 (nI T_114_a.1)), (abT_114_a, byC κ mmT_114_a fT_114_a)] H := by
            rw [e1T_114_a]
            exact hR.wroteSB (i := 2) (j := 3) rfl rfl hB pp6 pp3 (by decide) rfl
          clear hB ht hz pp1 pp2 pp3 pp5 pp6
          refine lv_aload_n hx hb dX8_tell_117 rfl (lv_at hl 0 rfl) ?_
          refine g21_6 hx hb hts hown hK hR (hM.vil (vp_lt o_22)) q2046 dX8_tell_118 ?_
          have o_121_a := h.1
          have h := h.2
          have eio_121_a := nI_cl o_121_a
          have dio_121_a := (sb_dg_in (gv w_7 21 (((p1).toNatClampNeg)) 6).toNatClampNeg).2
          refine W.eq (g2 := F0 m 121 ls [.int (nI (gv w_7 21 (((p1).toNatClampNeg)) 6).toNatClampNeg), .ref (q_104_a), .ref (q_29)]) (by rw [← eio_121_a.1]) ?_
          refine va_callr (crt_V (n := 1) (As := [.int (nI (gv w_7 21 (((p1).toNatClampNeg)) 6).toNatClampNeg)]) (rest := [.ref (q_29)]) ⟨hx, hb, hml, hown, hts⟩ (m_J24_append (X := xl X [(q_29, sbC abT_94_a 0 (nI T_94_a.1)), (abT_94_a, byC κ mmT_94_a fT_94_a), (q_104_a, sbC abT_114_a 0 (nI T_114_a.1)), (abT_114_a, byC κ mmT_114_a fT_114_a)]) (n := T_114_a.1) (t := T_114_a.2) (Or.inr ⟨2, rfl⟩) (Or.inr ⟨3, rfl⟩) hneT_114_a hmT_114_a.1 hfT_114_a hlT_114_a hmT_114_a.2 eio_121_a.2 (by omega)) RCt.blind (RCt.pre hR hK hPx) q2569 q1690 q1691 q119 q1692 rfl rfl hd_J24_append ⟨(Nat.le_of_ble_eq_true rfl), (Nat.le_of_ble_eq_true rfl)⟩ (rv_at2 hK (hR.L 2 _ rfl) rfl) rfl rfl hl.1 rfl (lv_room (Nat.le_of_ble_eq_true rfl)) dX8_tell_121 ⟨(Nat.le_of_ble_eq_true rfl), (Nat.le_of_ble_eq_true rfl)⟩) hS (fun _ _ h => h) (fun _ h => h) (fun u9 ra9 t H locs ht _ hp hB hz _ hS => ?_)
          rw [ht] at hB
          obtain ⟨e9, hB⟩ := hB
          replace e9 := e9.symm
          subst e9
          obtain ⟨abT_121_a, mmT_121_a, fT_121_a⟩ := u9
          obtain ⟨pp1, pp2, pp3, hfT_121_a, pp5, pp6⟩ := hp
          dsimp only at pp1 pp2 pp3 hfT_121_a pp5 pp6 hB
          have hneT_121_a : abT_121_a ≠ q_104_a := pp3
          have hmT_121_a : mmT_121_a ≤ 140 := pp2
          obtain ⟨T_121_a, eT_121_a⟩ : ∃ z, z = tCat T_114_a (tI (gv w_7 21 (((p1).toNatClampNeg)) 6)) := ⟨_, rfl⟩
          have e1T_121_a : T_121_a.1 = T_114_a.1 + sb_dg (gv w_7 21 (((p1).toNatClampNeg)) 6).toNatClampNeg := by rw [eT_121_a]; rfl
          have hT_121_a : T_121_a.1 ≤ 17 := by omega
          have hlT_121_a : sb_Lat T_121_a.2 T_121_a.1 fT_121_a := by rw [eT_121_a]; exact pp5
          have hmT_121_a : mmT_121_a ≤ 140 ∧ T_121_a.1 ≤ mmT_121_a := ⟨pp2, by rw [e1T_121_a]; exact pp1⟩
          have hR : Rp κ w_7 y X [(q_29, sbC abT_94_a 0 (nI T_94_a.1)), (abT_94_a, byC κ mmT_94_a fT_94_a), (q_104_a, sbC abT_121_a 0 (nI T_121_a.1)), (abT_121_a, byC κ mmT_121_a fT_121_a)] H := by
            rw [e1T_121_a]
            exact hR.wroteSB (i := 2) (j := 3) rfl rfl hB pp6 pp3 (by decide) rfl
          clear hB ht hz pp1 pp2 pp3 pp5 pp6
          refine va_callr (cr_V (n := 0) (As := []) (rest := [.ref (q_29)]) ⟨hx, hb, hml, hown, hts⟩ hK hR (m_J24_toString (X := xl X [(q_29, sbC abT_94_a 0 (nI T_94_a.1)), (abT_94_a, byC κ mmT_94_a fT_94_a), (q_104_a, sbC abT_121_a 0 (nI T_121_a.1)), (abT_121_a, byC κ mmT_121_a fT_121_a)]) (n := T_121_a.1) (Or.inr ⟨2, rfl⟩) (Or.inr ⟨3, rfl⟩) hmT_121_a.1 hmT_121_a.2 hfT_121_a) q2576 q1823 q1824 q119 q1825 rfl rfl hd_J24_toString ⟨(Nat.le_of_ble_eq_true rfl), (Nat.le_of_ble_eq_true rfl)⟩ (rv_at2 hK (hR.L 2 _ rfl) rfl) rfl rfl hl.1 rfl (lv_room (Nat.le_of_ble_eq_true rfl)) dX8_tell_124 ⟨(Nat.le_of_ble_eq_true rfl), (Nat.le_of_ble_eq_true rfl)⟩) hS (fun _ _ h => h) (fun _ h => h) (fun u9 q_124_a t H locs ht _ hp hB hz _ hS => ?_)
          rw [ht] at hB
          have hR := hR.up2 hB
          clear hB ht hz
          obtain ⟨abq_124_a, fq_124_a⟩ := u9
          obtain ⟨gq_124_a, hfq_124_a⟩ := hp
          have hlq_124_a : sb_Lat T_121_a.2 T_121_a.1 fq_124_a := sb_latKeep hlT_121_a gq_124_a
          have hR : Rp κ w_7 y X [(q_29, sbC abT_94_a 0 (nI T_94_a.1)), (abT_94_a, byC κ mmT_94_a fT_94_a), (q_104_a, sbC abT_121_a 0 (nI T_121_a.1)), (abT_121_a, byC κ mmT_121_a fT_121_a), (q_124_a, stC abq_124_a 0 0), (abq_124_a, byC κ T_121_a.1 fq_124_a)] H := hR
          have hR := hR.sub (L' := [(q_29, sbC abT_94_a 0 (nI T_94_a.1)), (abT_94_a, byC κ mmT_94_a fT_94_a), (q_124_a, stC abq_124_a 0 0), (abq_124_a, byC κ T_121_a.1 fq_124_a)]) [0, 1, 4, 5] rfl rfl
          refine lv_goto (tgt := 133) hx hb dX8_tell_127 (by decide) ?_
          refine va_callr (crt_V (n := 1) (As := [.ref (q_124_a)]) (rest := []) ⟨hx, hb, hml, hown, hts⟩ (m_J24_append_2 (X := xl X [(q_29, sbC abT_94_a 0 (nI T_94_a.1)), (abT_94_a, byC κ mmT_94_a fT_94_a), (q_124_a, stC abq_124_a 0 0), (abq_124_a, byC κ T_121_a.1 fq_124_a)]) (n := T_94_a.1) (t := T_94_a.2) (Or.inr ⟨0, rfl⟩) (Or.inr ⟨1, rfl⟩) hneT_94_a hmT_94_a.1 hfT_94_a hlT_94_a hmT_94_a.2 (fun X9 H9 hx9 h9 => ⟨h9.X (hx9 _ _ (fun e => absurd (hR.LD.1 2 0 _ _ rfl rfl e) (by decide)) (fun e => absurd (hR.LD.1 2 1 _ _ rfl rfl e) (by decide)) (Or.inr ⟨2, rfl⟩)), h9.X (hx9 _ _ (fun e => absurd (hR.LD.1 3 0 _ _ rfl rfl e) (by decide)) (fun e => absurd (hR.LD.1 3 1 _ _ rfl rfl e) (by decide)) (Or.inr ⟨3, rfl⟩))⟩) hlq_124_a hfq_124_a (by show T_94_a.1 + T_121_a.1 ≤ 70; omega)) RCt.blind (RCt.pre hR hK hPx) q2571 q1762 q1763 q119 q1764 rfl rfl hd_J24_append_2 ⟨(Nat.le_of_ble_eq_true rfl), (Nat.le_of_ble_eq_true rfl)⟩ (rv_at2 hK (hR.L 0 _ rfl) rfl) rfl rfl hl.1 rfl (lv_room (Nat.le_of_ble_eq_true rfl)) dX8_tell_133 ⟨(Nat.le_of_ble_eq_true rfl), (Nat.le_of_ble_eq_true rfl)⟩) hS (fun _ _ h => h) (fun _ h => h) (fun u9 ra9 t H locs ht _ hp hB hz _ hS => ?_)
          rw [ht] at hB
          obtain ⟨e9, hB⟩ := hB
          replace e9 := e9.symm
          subst e9
          obtain ⟨abT_133_c, mmT_133_c, fT_133_c⟩ := u9
          obtain ⟨pp1, pp2, pp3, hfT_133_c, pp5, pp6⟩ := hp
          dsimp only at pp1 pp2 pp3 hfT_133_c pp5 pp6 hB
          have hneT_133_c : abT_133_c ≠ q_29 := pp3
          have hmT_133_c : mmT_133_c ≤ 140 := pp2
          obtain ⟨T_133_c, eT_133_c⟩ : ∃ z, z = tCat T_94_a T_121_a := ⟨_, rfl⟩
          have e1T_133_c : T_133_c.1 = T_94_a.1 + T_121_a.1 := by rw [eT_133_c]; rfl
          have hT_133_c : T_133_c.1 ≤ 53 := by omega
          have hlT_133_c : sb_Lat T_133_c.2 T_133_c.1 fT_133_c := by rw [eT_133_c]; exact pp5
          have hmT_133_c : mmT_133_c ≤ 140 ∧ T_133_c.1 ≤ mmT_133_c := ⟨pp2, by rw [e1T_133_c]; exact pp1⟩
          have hR : Rp κ w_7 y X [(q_29, sbC abT_133_c 0 (nI T_133_c.1)), (abT_133_c, byC κ mmT_133_c fT_133_c), (q_124_a, stC abq_124_a 0 0), (abq_124_a, byC κ T_121_a.1 fq_124_a)] H := by
            rw [e1T_133_c]
            exact hR.wroteSB (i := 0) (j := 1) rfl rfl hB pp6 pp3 (by decide) rfl
          clear hB ht hz pp1 pp2 pp3 pp5 pp6
          have hR := hR.sub (L' := [(q_29, sbC abT_133_c 0 (nI T_133_c.1)), (abT_133_c, byC κ mmT_133_c fT_133_c)]) [0, 1] rfl rfl
          refine va_callr (cr_V (n := 0) (As := []) (rest := []) ⟨hx, hb, hml, hown, hts⟩ hK hR (m_J24_toString (X := xl X [(q_29, sbC abT_133_c 0 (nI T_133_c.1)), (abT_133_c, byC κ mmT_133_c fT_133_c)]) (n := T_133_c.1) (Or.inr ⟨0, rfl⟩) (Or.inr ⟨1, rfl⟩) hmT_133_c.1 hmT_133_c.2 hfT_133_c) q2576 q1823 q1824 q119 q1825 rfl rfl hd_J24_toString ⟨(Nat.le_of_ble_eq_true rfl), (Nat.le_of_ble_eq_true rfl)⟩ (rv_at2 hK (hR.L 0 _ rfl) rfl) rfl rfl hl.1 rfl (lv_room (Nat.le_of_ble_eq_true rfl)) dX8_tell_136 ⟨(Nat.le_of_ble_eq_true rfl), (Nat.le_of_ble_eq_true rfl)⟩) hS (fun _ _ h => h) (fun _ h => h) (fun u9 q_136_c t H locs ht _ hp hB hz _ hS => ?_)
          rw [ht] at hB
          have hR := hR.up2 hB
          clear hB ht hz
          obtain ⟨abq_136_c, fq_136_c⟩ := u9
          obtain ⟨gq_136_c, hfq_136_c⟩ := hp
          have hlq_136_c : sb_Lat T_133_c.2 T_133_c.1 fq_136_c := sb_latKeep hlT_133_c gq_136_c
          have hR : Rp κ w_7 y X [(q_29, sbC abT_133_c 0 (nI T_133_c.1)), (abT_133_c, byC κ mmT_133_c fT_133_c), (q_136_c, stC abq_136_c 0 0), (abq_136_c, byC κ T_133_c.1 fq_136_c)] H := hR
          have hR := hR.sub (L' := [(q_136_c, stC abq_136_c 0 0), (abq_136_c, byC κ T_133_c.1 fq_136_c)]) [2, 3] rfl rfl
          have eT : T_133_c = tCat (tCat (tCat (tCat (tCat (tCat (tCat (tE) (tI p1)) (tS [58, 32])) (tI (gv w_7 21 (((p1).toNatClampNeg)) 0))) (tS [32, 104, 111, 117, 115, 101, 115])) (tS [])) (tS [44, 32, 98, 117, 114, 110, 116])) (tCat (tCat (tE) (tS [44, 32, 111, 119, 101, 115, 32])) (tI (gv w_7 21 (((p1).toNatClampNeg)) 6))) := by rw [eT_133_c, eT_121_a, eT_114_a, eT_108_a, eT_94_a, eT_75, eT_56, eT_50, eT_43, eT_37, eT_33]
          rw [← eT] at h
          refine W.widen (k := 17) (n := 1588) (Nat.le_of_ble_eq_true rfl) (Nat.le_of_ble_eq_true rfl) ?_
          exact W.aret hx hb hr (Or.inl ⟨_, rfl⟩) (Or.inr ⟨_, rfl⟩) (fun t ht hW9 => ⟨⟨(some T_133_c, w_7, abq_136_c, fq_136_c), _, rfl, h, Or.inr ⟨T_133_c, rfl, rpt ht hR, hlq_136_c, hfq_136_c, by omega⟩⟩, hS.F ht⟩) hS.2.2 dX8_tell_139
    · have h := h.2 c_63
      refine jr_ldcwS (own := "PublicanryModel") (k := 420) (tx := ", revolt") (n := 2420) hx hb hown hK (List.mem_of_getElem? (i := 34) rfl) dX8_tell_66 ?_
      refine lv_goto (tgt := 75) hx hb dX8_tell_69 (by decide) ?_
      obtain ⟨bAc_75_a, hhc_75_a, zzc_75_a, sfc_75_a, hcc_75_a, hcLc_75_a, hcFc_75_a⟩ := str_const hK (q := (2420, [44, 32, 114, 101, 118, 111, 108, 116])) (List.mem_of_getElem? (i := 8) rfl) (by decide)
      refine va_callr (crt_V (n := 1) (As := [.ref (kA κ 2420)]) (rest := []) ⟨hx, hb, hml, hown, hts⟩ (m_J24_append_2 (X := xl X [(q_29, sbC abT_56 0 (nI T_56.1)), (abT_56, byC κ mmT_56 fT_56)]) (n := T_56.1) (t := T_56.2) (Or.inr ⟨0, rfl⟩) (Or.inr ⟨1, rfl⟩) hneT_56 hmT_56.1 hfT_56 hlT_56 hmT_56.2 (fun X9 H9 _ h9 => hcc_75_a _ _ _ _ _ h9) hcLc_75_a hcFc_75_a (by show T_56.1 + 8 ≤ 70; omega)) RCt.blind (RCt.pre hR hK hPx) q2571 q1762 q1763 q119 q1764 rfl rfl hd_J24_append_2 ⟨(Nat.le_of_ble_eq_true rfl), (Nat.le_of_ble_eq_true rfl)⟩ (rv_at2 hK (hR.L 0 _ rfl) rfl) rfl rfl hl.1 rfl (lv_room (Nat.le_of_ble_eq_true rfl)) dX8_tell_75 ⟨(Nat.le_of_ble_eq_true rfl), (Nat.le_of_ble_eq_true rfl)⟩) hS (fun _ _ h => h) (fun _ h => h) (fun u9 ra9 t H locs ht _ hp hB hz _ hS => ?_)
      rw [ht] at hB
      obtain ⟨e9, hB⟩ := hB
      replace e9 := e9.symm
      subst e9
      obtain ⟨abT_75_a, mmT_75_a, fT_75_a⟩ := u9
      obtain ⟨pp1, pp2, pp3, hfT_75_a, pp5, pp6⟩ := hp
      dsimp only at pp1 pp2 pp3 hfT_75_a pp5 pp6 hB
      have hneT_75_a : abT_75_a ≠ q_29 := pp3
      have hmT_75_a : mmT_75_a ≤ 140 := pp2
      obtain ⟨T_75_a, eT_75_a⟩ : ∃ z, z = tCat T_56 (tS [44, 32, 114, 101, 118, 111, 108, 116]) := ⟨_, rfl⟩
      have e1T_75_a : T_75_a.1 = T_56.1 + 8 := by rw [eT_75_a]; rfl
      have hT_75_a : T_75_a.1 ≤ 37 := by omega
      have hlT_75_a : sb_Lat T_75_a.2 T_75_a.1 fT_75_a := by rw [eT_75_a]; exact pp5
      have hmT_75_a : mmT_75_a ≤ 140 ∧ T_75_a.1 ≤ mmT_75_a := ⟨pp2, by rw [e1T_75_a]; exact pp1⟩
      have hR : Rp κ w_7 y X [(q_29, sbC abT_75_a 0 (nI T_75_a.1)), (abT_75_a, byC κ mmT_75_a fT_75_a)] H := by
        rw [e1T_75_a]
        exact hR.wroteSB (i := 0) (j := 1) rfl rfl hB pp6 pp3 (by decide) rfl
      clear hB ht hz pp1 pp2 pp3 pp5 pp6
      refine lv_aload_n hx hb dX8_tell_78 rfl (lv_at hl 0 rfl) ?_
      refine g21_11 hx hb hts hown hK hR (hM.vil (vp_lt o_22)) q2052 dX8_tell_79 ?_
      refine lv_if_eq (tgt := 91) hx hb dX8_tell_82 (by decide) (fun c_82_a => ?_) (fun c_82_a => ?_)
      · have h := h.1 c_82_a
        refine jr_ldcwS (own := "PublicanryModel") (k := 404) (tx := "") (n := 2404) hx hb hown hK (List.mem_of_getElem? (i := 31) rfl) dX8_tell_91 ?_
        obtain ⟨bAc_94_b, hhc_94_b, zzc_94_b, sfc_94_b, hcc_94_b, hcLc_94_b, hcFc_94_b⟩ := str_const hK (q := (2404, [])) (List.mem_of_getElem? (i := 5) rfl) (by decide)
        refine va_callr (crt_V (n := 1) (As := [.ref (kA κ 2404)]) (rest := []) ⟨hx, hb, hml, hown, hts⟩ (m_J24_append_2 (X := xl X [(q_29, sbC abT_75_a 0 (nI T_75_a.1)), (abT_75_a, byC κ mmT_75_a fT_75_a)]) (n := T_75_a.1) (t := T_75_a.2) (Or.inr ⟨0, rfl⟩) (Or.inr ⟨1, rfl⟩) hneT_75_a hmT_75_a.1 hfT_75_a hlT_75_a hmT_75_a.2 (fun X9 H9 _ h9 => hcc_94_b _ _ _ _ _ h9) hcLc_94_b hcFc_94_b (by show T_75_a.1 + 0 ≤ 70; omega)) RCt.blind (RCt.pre hR hK hPx) q2571 q1762 q1763 q119 q1764 rfl rfl hd_J24_append_2 ⟨(Nat.le_of_ble_eq_true rfl), (Nat.le_of_ble_eq_true rfl)⟩ (rv_at2 hK (hR.L 0 _ rfl) rfl) rfl rfl hl.1 rfl (lv_room (Nat.le_of_ble_eq_true rfl)) dX8_tell_94 ⟨(Nat.le_of_ble_eq_true rfl), (Nat.le_of_ble_eq_true rfl)⟩) hS (fun _ _ h => h) (fun _ h => h) (fun u9 ra9 t H locs ht _ hp hB hz _ hS => ?_)
        rw [ht] at hB
        obtain ⟨e9, hB⟩ := hB
        replace e9 := e9.symm
        subst e9
        obtain ⟨abT_94_b, mmT_94_b, fT_94_b⟩ := u9
        obtain ⟨pp1, pp2, pp3, hfT_94_b, pp5, pp6⟩ := hp
        dsimp only at pp1 pp2 pp3 hfT_94_b pp5 pp6 hB
        have hneT_94_b : abT_94_b ≠ q_29 := pp3
        have hmT_94_b : mmT_94_b ≤ 140 := pp2
        obtain ⟨T_94_b, eT_94_b⟩ : ∃ z, z = tCat T_75_a (tS []) := ⟨_, rfl⟩
        have e1T_94_b : T_94_b.1 = T_75_a.1 + 0 := by rw [eT_94_b]; rfl
        have hT_94_b : T_94_b.1 ≤ 37 := by omega
        have hlT_94_b : sb_Lat T_94_b.2 T_94_b.1 fT_94_b := by rw [eT_94_b]; exact pp5
        have hmT_94_b : mmT_94_b ≤ 140 ∧ T_94_b.1 ≤ mmT_94_b := ⟨pp2, by rw [e1T_94_b]; exact pp1⟩
        have hR : Rp κ w_7 y X [(q_29, sbC abT_94_b 0 (nI T_94_b.1)), (abT_94_b, byC κ mmT_94_b fT_94_b)] H := by
          rw [e1T_94_b]
          exact hR.wroteSB (i := 0) (j := 1) rfl rfl hB pp6 pp3 (by decide) rfl
        clear hB ht hz pp1 pp2 pp3 pp5 pp6
        refine lv_aload_n hx hb dX8_tell_97 rfl (lv_at hl 0 rfl) ?_
        refine g21_6 hx hb hts hown hK hR (hM.vil (vp_lt o_22)) q2046 dX8_tell_98 ?_
        refine lv_if_le (tgt := 130) hx hb dX8_tell_101 (by decide) (fun c_101_b => ?_) (fun c_101_b => ?_)
        · have h := h.1 c_101_b
          refine jr_ldcwS (own := "PublicanryModel") (k := 404) (tx := "") (n := 2404) hx hb hown hK (List.mem_of_getElem? (i := 31) rfl) dX8_tell_130 ?_
          obtain ⟨bAc_133_d, hhc_133_d, zzc_133_d, sfc_133_d, hcc_133_d, hcLc_133_d, hcFc_133_d⟩ := str_const hK (q := (2404, [])) (List.mem_of_getElem? (i := 5) rfl) (by decide)
          refine va_callr (crt_V (n := 1) (As := [.ref (kA κ 2404)]) (rest := []) ⟨hx, hb, hml, hown, hts⟩ (m_J24_append_2 (X := xl X [(q_29, sbC abT_94_b 0 (nI T_94_b.1)), (abT_94_b, byC κ mmT_94_b fT_94_b)]) (n := T_94_b.1) (t := T_94_b.2) (Or.inr ⟨0, rfl⟩) (Or.inr ⟨1, rfl⟩) hneT_94_b hmT_94_b.1 hfT_94_b hlT_94_b hmT_94_b.2 (fun X9 H9 _ h9 => hcc_133_d _ _ _ _ _ h9) hcLc_133_d hcFc_133_d (by show T_94_b.1 + 0 ≤ 70; omega)) RCt.blind (RCt.pre hR hK hPx) q2571 q1762 q1763 q119 q1764 rfl rfl hd_J24_append_2 ⟨(Nat.le_of_ble_eq_true rfl), (Nat.le_of_ble_eq_true rfl)⟩ (rv_at2 hK (hR.L 0 _ rfl) rfl) rfl rfl hl.1 rfl (lv_room (Nat.le_of_ble_eq_true rfl)) dX8_tell_133 ⟨(Nat.le_of_ble_eq_true rfl), (Nat.le_of_ble_eq_true rfl)⟩) hS (fun _ _ h => h) (fun _ h => h) (fun u9 ra9 t H locs ht _ hp hB hz _ hS => ?_)
          rw [ht] at hB
          obtain ⟨e9, hB⟩ := hB
          replace e9 := e9.symm
          subst e9
          obtain ⟨abT_133_d, mmT_133_d, fT_133_d⟩ := u9
          obtain ⟨pp1, pp2, pp3, hfT_133_d, pp5, pp6⟩ := hp
          dsimp only at pp1 pp2 pp3 hfT_133_d pp5 pp6 hB
          have hneT_133_d : abT_133_d ≠ q_29 := pp3
          have hmT_133_d : mmT_133_d ≤ 140 := pp2
          obtain ⟨T_133_d, eT_133_d⟩ : ∃ z, z = tCat T_94_b (tS []) := ⟨_, rfl⟩
          have e1T_133_d : T_133_d.1 = T_94_b.1 + 0 := by rw [eT_133_d]; rfl
          have hT_133_d : T_133_d.1 ≤ 37 := by omega
          have hlT_133_d : sb_Lat T_133_d.2 T_133_d.1 fT_133_d := by rw [eT_133_d]; exact pp5
          have hmT_133_d : mmT_133_d ≤ 140 ∧ T_133_d.1 ≤ mmT_133_d := ⟨pp2, by rw [e1T_133_d]; exact pp1⟩
          have hR : Rp κ w_7 y X [(q_29, sbC abT_133_d 0 (nI T_133_d.1)), (abT_133_d, byC κ mmT_133_d fT_133_d)] H := by
            rw [e1T_133_d]
            exact hR.wroteSB (i := 0) (j := 1) rfl rfl hB pp6 pp3 (by decide) rfl
          clear hB ht hz pp1 pp2 pp3 pp5 pp6
          refine va_callr (cr_V (n := 0) (As := []) (rest := []) ⟨hx, hb, hml, hown, hts⟩ hK hR (m_J24_toString (X := xl X [(q_29, sbC abT_133_d 0 (nI T_133_d.1)), (abT_133_d, byC κ mmT_133_d fT_133_d)]) (n := T_133_d.1) (Or.inr ⟨0, rfl⟩) (Or.inr ⟨1, rfl⟩) hmT_133_d.1 hmT_133_d.2 hfT_133_d) q2576 q1823 q1824 q119 q1825 rfl rfl hd_J24_toString ⟨(Nat.le_of_ble_eq_true rfl), (Nat.le_of_ble_eq_true rfl)⟩ (rv_at2 hK (hR.L 0 _ rfl) rfl) rfl rfl hl.1 rfl (lv_room (Nat.le_of_ble_eq_true rfl)) dX8_tell_136 ⟨(Nat.le_of_ble_eq_true rfl), (Nat.le_of_ble_eq_true rfl)⟩) hS (fun _ _ h => h) (fun _ h => h) (fun u9 q_136_d t H locs ht _ hp hB hz _ hS => ?_)
          rw [ht] at hB
          have hR := hR.up2 hB
          clear hB ht hz
          obtain ⟨abq_136_d, fq_136_d⟩ := u9
          obtain ⟨gq_136_d, hfq_136_d⟩ := hp
          have hlq_136_d : sb_Lat T_133_d.2 T_133_d.1 fq_136_d := sb_latKeep hlT_133_d gq_136_d
          have hR : Rp κ w_7 y X [(q_29, sbC abT_133_d 0 (nI T_133_d.1)), (abT_133_d, byC κ mmT_133_d fT_133_d), (q_136_d, stC abq_136_d 0 0), (abq_136_d, byC κ T_133_d.1 fq_136_d)] H := hR
          have hR := hR.sub (L' := [(q_136_d, stC abq_136_d 0 0), (abq_136_d, byC κ T_133_d.1 fq_136_d)]) [2, 3] rfl rfl
          have eT : T_133_d = tCat (tCat (tCat (tCat (tCat (tCat (tCat (tE) (tI p1)) (tS [58, 32])) (tI (gv w_7 21 (((p1).toNatClampNeg)) 0))) (tS [32, 104, 111, 117, 115, 101, 115])) (tS [44, 32, 114, 101, 118, 111, 108, 116])) (tS [])) (tS []) := by rw [eT_133_d, eT_94_b, eT_75_a, eT_56, eT_50, eT_43, eT_37, eT_33]
          rw [← eT] at h
          refine W.widen (k := 17) (n := 1588) (Nat.le_of_ble_eq_true rfl) (Nat.le_of_ble_eq_true rfl) ?_
          exact W.aret hx hb hr (Or.inl ⟨_, rfl⟩) (Or.inr ⟨_, rfl⟩) (fun t ht hW9 => ⟨⟨(some T_133_d, w_7, abq_136_d, fq_136_d), _, rfl, h, Or.inr ⟨T_133_d, rfl, rpt ht hR, hlq_136_d, hfq_136_d, by omega⟩⟩, hS.F ht⟩) hS.2.2 dX8_tell_139
        · have h := h.2 c_101_b
          refine xa_new (C := RJ24) (T := TJ24) (N := 4) (ci := 20) (fs := [.null, .int 0, .int 0, .int 0]) hx hb hts in_J24 tyJ24 tyJ24_ok hown q2567 q1659 q119 hK.1 hS rfl (fun j hj => by rcases (show j = 0 ∨ j = 1 ∨ j = 2 ∨ j = 3 by omega) with rfl | rfl | rfl | rfl <;> rfl) (Nat.le_of_ble_eq_true rfl) (Nat.le_of_ble_eq_true rfl) dX8_tell_104 (fun q_104_b H1 hq h1 hz ho hS => ?_)
          have hR := hR.newL hq h1 (by omega) ho
          clear hq h1 hz ho
          generalize H1 = H at hR hS ⊢
          have hR : Rp κ w_7 y X [(q_29, sbC abT_94_b 0 (nI T_94_b.1)), (abT_94_b, byC κ mmT_94_b fT_94_b), (q_104_b, .inr (20, [.null, .int 0, .int 0, .int 0]))] H := hR
          refine lv_dup hx hb dX8_tell_107 rfl ?_
          refine va_callv (va_runI (As := []) (rest := [.ref (q_104_b), .ref (q_29)]) ⟨hx, hb, hml, hown, hts⟩ (m_J24_init (X := xl X [(q_29, sbC abT_94_b 0 (nI T_94_b.1)), (abT_94_b, byC κ mmT_94_b fT_94_b), (q_104_b, .inr (20, [.null, .int 0, .int 0, .int 0]))]) (Or.inr ⟨2, rfl⟩)) (cwI 0 hts (lw_meth q1662) rfl rfl rfl (hts _ q119) (hts _ q2568) (hts _ q1661) rfl (by decide +kernel) ⟨(Nat.le_of_ble_eq_true rfl), (Nat.le_of_ble_eq_true rfl)⟩) ⟨RC.blind, RC.pre hR hK⟩ rfl rfl hl.1 rfl (lv_room (Nat.le_of_ble_eq_true rfl)) dX8_tell_108 ⟨(Nat.le_of_ble_eq_true rfl), (Nat.le_of_ble_eq_true rfl)⟩) hS (fun _ _ h => h) (fun _ h => h) (fun ab_108_b t H locs ht _ _ hB hz _ hS => ?_)
          rw [ht] at hB
          have hR := hR.wroteU (t := 2) rfl hB
          clear hB ht hz
          obtain ⟨T_108_b, eT_108_b⟩ : ∃ z, z = tE := ⟨_, rfl⟩
          have hT_108_b : T_108_b.1 ≤ 0 := by rw [eT_108_b]; exact Nat.le_refl _
          obtain ⟨fT_108_b, efT_108_b⟩ : ∃ z : Nat → Int32, z = fun _ => 0 := ⟨_, rfl⟩
          have hfT_108_b : sb_Fit fT_108_b := by rw [efT_108_b]; exact sb_fit0
          have hlT_108_b : sb_Lat T_108_b.2 T_108_b.1 fT_108_b := fun j hj => absurd hj (by omega)
          have hmT_108_b : (16 : Nat) ≤ 140 ∧ T_108_b.1 ≤ 16 := ⟨by decide, by omega⟩
          have hneT_108_b : ab_108_b ≠ q_104_b := fun e9 => absurd (hR.LD.1 3 2 _ _ rfl rfl e9) (by decide)
          have hR : Rp κ w_7 y X [(q_29, sbC abT_94_b 0 (nI T_94_b.1)), (abT_94_b, byC κ mmT_94_b fT_94_b), (q_104_b, sbC ab_108_b 0 (nI T_108_b.1)), (ab_108_b, byC κ 16 fT_108_b)] H := by rw [show (nI T_108_b.1) = (0 : Int32) by rw [eT_108_b]; rfl, efT_108_b]; exact hR
          refine jr_ldcwS (own := "PublicanryModel") (k := 424) (tx := ", owes ") (n := 2424) hx hb hown hK (List.mem_of_getElem? (i := 36) rfl) dX8_tell_111 ?_
          obtain ⟨bAc_114_b, hhc_114_b, zzc_114_b, sfc_114_b, hcc_114_b, hcLc_114_b, hcFc_114_b⟩ := str_const hK (q := (2424, [44, 32, 111, 119, 101, 115, 32])) (List.mem_of_getElem? (i := 10) rfl) (by decide)
          refine va_callr (crt_V (n := 1) (As := [.ref (kA κ 2424)]) (rest := [.ref (q_29)]) ⟨hx, hb, hml, hown, hts⟩ (m_J24_append_2 (X := xl X [(q_29, sbC abT_94_b 0 (nI T_94_b.1)), (abT_94_b, byC κ mmT_94_b fT_94_b), (q_104_b, sbC ab_108_b 0 (nI T_108_b.1)), (ab_108_b, byC κ 16 fT_108_b)]) (n := T_108_b.1) (t := T_108_b.2) (Or.inr ⟨2, rfl⟩) (Or.inr ⟨3, rfl⟩) hneT_108_b hmT_108_b.1 hfT_108_b hlT_108_b hmT_108_b.2 (fun X9 H9 _ h9 => hcc_114_b _ _ _ _ _ h9) hcLc_114_b hcFc_114_b (by show T_108_b.1 + 7 ≤ 70; omega)) RCt.blind (RCt.pre hR hK hPx) q2571 q1762 q1763 q119 q1764 rfl rfl hd_J24_append_2 ⟨(Nat.le_of_ble_eq_true rfl), (Nat.le_of_ble_eq_true rfl)⟩ (rv_at2 hK (hR.L 2 _ rfl) rfl) rfl rfl hl.1 rfl (lv_room (Nat.le_of_ble_eq_true rfl)) dX8_tell_114 ⟨(Nat.le_of_ble_eq_true rfl), (Nat.le_of_ble_eq_true rfl)⟩) hS (fun _ _ h => h) (fun _ h => h) (fun u9 ra9 t H locs ht _ hp hB hz _ hS => ?_)
          rw [ht] at hB
          obtain ⟨e9, hB⟩ := hB
          replace e9 := e9.symm
          subst e9
          obtain ⟨abT_114_b, mmT_114_b, fT_114_b⟩ := u9
          obtain ⟨pp1, pp2, pp3, hfT_114_b, pp5, pp6⟩ := hp
          dsimp only at pp1 pp2 pp3 hfT_114_b pp5 pp6 hB
          have hneT_114_b : abT_114_b ≠ q_104_b := pp3
          have hmT_114_b : mmT_114_b ≤ 140 := pp2
          obtain ⟨T_114_b, eT_114_b⟩ : ∃ z, z = tCat T_108_b (tS [44, 32, 111, 119, 101, 115, 32]) := ⟨_, rfl⟩
          have e1T_114_b : T_114_b.1 = T_108_b.1 + 7 := by rw [eT_114_b]; rfl
          have hT_114_b : T_114_b.1 ≤ 7 := by omega
          have hlT_114_b : sb_Lat T_114_b.2 T_114_b.1 fT_114_b := by rw [eT_114_b]; exact pp5
          have hmT_114_b : mmT_114_b ≤ 140 ∧ T_114_b.1 ≤ mmT_114_b := ⟨pp2, by rw [e1T_114_b]; exact pp1⟩
          have hR : Rp κ w_7 y X [(q_29, sbC abT_94_b 0 (nI T_94_b.1)), (abT_94_b, byC κ mmT_94_b fT_94_b), (q_104_b, sbC abT_114_b 0 (nI T_114_b.1)), (abT_114_b, byC κ mmT_114_b fT_114_b)] H := by
            rw [e1T_114_b]
            exact hR.wroteSB (i := 2) (j := 3) rfl rfl hB pp6 pp3 (by decide) rfl
          clear hB ht hz pp1 pp2 pp3 pp5 pp6
          refine lv_aload_n hx hb dX8_tell_117 rfl (lv_at hl 0 rfl) ?_
          refine g21_6 hx hb hts hown hK hR (hM.vil (vp_lt o_22)) q2046 dX8_tell_118 ?_
          have o_121_b := h.1
          have h := h.2
          have eio_121_b := nI_cl o_121_b
          have dio_121_b := (sb_dg_in (gv w_7 21 (((p1).toNatClampNeg)) 6).toNatClampNeg).2
          refine W.eq (g2 := F0 m 121 ls [.int (nI (gv w_7 21 (((p1).toNatClampNeg)) 6).toNatClampNeg), .ref (q_104_b), .ref (q_29)]) (by rw [← eio_121_b.1]) ?_
          refine va_callr (crt_V (n := 1) (As := [.int (nI (gv w_7 21 (((p1).toNatClampNeg)) 6).toNatClampNeg)]) (rest := [.ref (q_29)]) ⟨hx, hb, hml, hown, hts⟩ (m_J24_append (X := xl X [(q_29, sbC abT_94_b 0 (nI T_94_b.1)), (abT_94_b, byC κ mmT_94_b fT_94_b), (q_104_b, sbC abT_114_b 0 (nI T_114_b.1)), (abT_114_b, byC κ mmT_114_b fT_114_b)]) (n := T_114_b.1) (t := T_114_b.2) (Or.inr ⟨2, rfl⟩) (Or.inr ⟨3, rfl⟩) hneT_114_b hmT_114_b.1 hfT_114_b hlT_114_b hmT_114_b.2 eio_121_b.2 (by omega)) RCt.blind (RCt.pre hR hK hPx) q2569 q1690 q1691 q119 q1692 rfl rfl hd_J24_append ⟨(Nat.le_of_ble_eq_true rfl), (Nat.le_of_ble_eq_true rfl)⟩ (rv_at2 hK (hR.L 2 _ rfl) rfl) rfl rfl hl.1 rfl (lv_room (Nat.le_of_ble_eq_true rfl)) dX8_tell_121 ⟨(Nat.le_of_ble_eq_true rfl), (Nat.le_of_ble_eq_true rfl)⟩) hS (fun _ _ h => h) (fun _ h => h) (fun u9 ra9 t H locs ht _ hp hB hz _ hS => ?_)
          rw [ht] at hB
          obtain ⟨e9, hB⟩ := hB
          replace e9 := e9.symm
          subst e9
          obtain ⟨abT_121_b, mmT_121_b, fT_121_b⟩ := u9
          obtain ⟨pp1, pp2, pp3, hfT_121_b, pp5, pp6⟩ := hp
          dsimp only at pp1 pp2 pp3 hfT_121_b pp5 pp6 hB
          have hneT_121_b : abT_121_b ≠ q_104_b := pp3
          have hmT_121_b : mmT_121_b ≤ 140 := pp2
          obtain ⟨T_121_b, eT_121_b⟩ : ∃ z, z = tCat T_114_b (tI (gv w_7 21 (((p1).toNatClampNeg)) 6)) := ⟨_, rfl⟩
          have e1T_121_b : T_121_b.1 = T_114_b.1 + sb_dg (gv w_7 21 (((p1).toNatClampNeg)) 6).toNatClampNeg := by rw [eT_121_b]; rfl
          have hT_121_b : T_121_b.1 ≤ 17 := by omega
          have hlT_121_b : sb_Lat T_121_b.2 T_121_b.1 fT_121_b := by rw [eT_121_b]; exact pp5
          have hmT_121_b : mmT_121_b ≤ 140 ∧ T_121_b.1 ≤ mmT_121_b := ⟨pp2, by rw [e1T_121_b]; exact pp1⟩
          have hR : Rp κ w_7 y X [(q_29, sbC abT_94_b 0 (nI T_94_b.1)), (abT_94_b, byC κ mmT_94_b fT_94_b), (q_104_b, sbC abT_121_b 0 (nI T_121_b.1)), (abT_121_b, byC κ mmT_121_b fT_121_b)] H := by
            rw [e1T_121_b]
            exact hR.wroteSB (i := 2) (j := 3) rfl rfl hB pp6 pp3 (by decide) rfl
          clear hB ht hz pp1 pp2 pp3 pp5 pp6
          refine va_callr (cr_V (n := 0) (As := []) (rest := [.ref (q_29)]) ⟨hx, hb, hml, hown, hts⟩ hK hR (m_J24_toString (X := xl X [(q_29, sbC abT_94_b 0 (nI T_94_b.1)), (abT_94_b, byC κ mmT_94_b fT_94_b), (q_104_b, sbC abT_121_b 0 (nI T_121_b.1)), (abT_121_b, byC κ mmT_121_b fT_121_b)]) (n := T_121_b.1) (Or.inr ⟨2, rfl⟩) (Or.inr ⟨3, rfl⟩) hmT_121_b.1 hmT_121_b.2 hfT_121_b) q2576 q1823 q1824 q119 q1825 rfl rfl hd_J24_toString ⟨(Nat.le_of_ble_eq_true rfl), (Nat.le_of_ble_eq_true rfl)⟩ (rv_at2 hK (hR.L 2 _ rfl) rfl) rfl rfl hl.1 rfl (lv_room (Nat.le_of_ble_eq_true rfl)) dX8_tell_124 ⟨(Nat.le_of_ble_eq_true rfl), (Nat.le_of_ble_eq_true rfl)⟩) hS (fun _ _ h => h) (fun _ h => h) (fun u9 q_124_b t H locs ht _ hp hB hz _ hS => ?_)
          rw [ht] at hB
          have hR := hR.up2 hB
          clear hB ht hz
          obtain ⟨abq_124_b, fq_124_b⟩ := u9
          obtain ⟨gq_124_b, hfq_124_b⟩ := hp
          have hlq_124_b : sb_Lat T_121_b.2 T_121_b.1 fq_124_b := sb_latKeep hlT_121_b gq_124_b
          have hR : Rp κ w_7 y X [(q_29, sbC abT_94_b 0 (nI T_94_b.1)), (abT_94_b, byC κ mmT_94_b fT_94_b), (q_104_b, sbC abT_121_b 0 (nI T_121_b.1)), (abT_121_b, byC κ mmT_121_b fT_121_b), (q_124_b, stC abq_124_b 0 0), (abq_124_b, byC κ T_121_b.1 fq_124_b)] H := hR
          have hR := hR.sub (L' := [(q_29, sbC abT_94_b 0 (nI T_94_b.1)), (abT_94_b, byC κ mmT_94_b fT_94_b), (q_124_b, stC abq_124_b 0 0), (abq_124_b, byC κ T_121_b.1 fq_124_b)]) [0, 1, 4, 5] rfl rfl
          refine lv_goto (tgt := 133) hx hb dX8_tell_127 (by decide) ?_
          refine va_callr (crt_V (n := 1) (As := [.ref (q_124_b)]) (rest := []) ⟨hx, hb, hml, hown, hts⟩ (m_J24_append_2 (X := xl X [(q_29, sbC abT_94_b 0 (nI T_94_b.1)), (abT_94_b, byC κ mmT_94_b fT_94_b), (q_124_b, stC abq_124_b 0 0), (abq_124_b, byC κ T_121_b.1 fq_124_b)]) (n := T_94_b.1) (t := T_94_b.2) (Or.inr ⟨0, rfl⟩) (Or.inr ⟨1, rfl⟩) hneT_94_b hmT_94_b.1 hfT_94_b hlT_94_b hmT_94_b.2 (fun X9 H9 hx9 h9 => ⟨h9.X (hx9 _ _ (fun e => absurd (hR.LD.1 2 0 _ _ rfl rfl e) (by decide)) (fun e => absurd (hR.LD.1 2 1 _ _ rfl rfl e) (by decide)) (Or.inr ⟨2, rfl⟩)), h9.X (hx9 _ _ (fun e => absurd (hR.LD.1 3 0 _ _ rfl rfl e) (by decide)) (fun e => absurd (hR.LD.1 3 1 _ _ rfl rfl e) (by decide)) (Or.inr ⟨3, rfl⟩))⟩) hlq_124_b hfq_124_b (by show T_94_b.1 + T_121_b.1 ≤ 70; omega)) RCt.blind (RCt.pre hR hK hPx) q2571 q1762 q1763 q119 q1764 rfl rfl hd_J24_append_2 ⟨(Nat.le_of_ble_eq_true rfl), (Nat.le_of_ble_eq_true rfl)⟩ (rv_at2 hK (hR.L 0 _ rfl) rfl) rfl rfl hl.1 rfl (lv_room (Nat.le_of_ble_eq_true rfl)) dX8_tell_133 ⟨(Nat.le_of_ble_eq_true rfl), (Nat.le_of_ble_eq_true rfl)⟩) hS (fun _ _ h => h) (fun _ h => h) (fun u9 ra9 t H locs ht _ hp hB hz _ hS => ?_)
          rw [ht] at hB
          obtain ⟨e9, hB⟩ := hB
          replace e9 := e9.symm
          subst e9
          obtain ⟨abT_133_e, mmT_133_e, fT_133_e⟩ := u9
          obtain ⟨pp1, pp2, pp3, hfT_133_e, pp5, pp6⟩ := hp
          dsimp only at pp1 pp2 pp3 hfT_133_e pp5 pp6 hB
          have hneT_133_e : abT_133_e ≠ q_29 := pp3
          have hmT_133_e : mmT_133_e ≤ 140 := pp2
          obtain ⟨T_133_e, eT_133_e⟩ : ∃ z, z = tCat T_94_b T_121_b := ⟨_, rfl⟩
          have e1T_133_e : T_133_e.1 = T_94_b.1 + T_121_b.1 := by rw [eT_133_e]; rfl
          have hT_133_e : T_133_e.1 ≤ 54 := by omega
          have hlT_133_e : sb_Lat T_133_e.2 T_133_e.1 fT_133_e := by rw [eT_133_e]; exact pp5
          have hmT_133_e : mmT_133_e ≤ 140 ∧ T_133_e.1 ≤ mmT_133_e := ⟨pp2, by rw [e1T_133_e]; exact pp1⟩
          have hR : Rp κ w_7 y X [(q_29, sbC abT_133_e 0 (nI T_133_e.1)), (abT_133_e, byC κ mmT_133_e fT_133_e), (q_124_b, stC abq_124_b 0 0), (abq_124_b, byC κ T_121_b.1 fq_124_b)] H := by
            rw [e1T_133_e]
            exact hR.wroteSB (i := 0) (j := 1) rfl rfl hB pp6 pp3 (by decide) rfl
          clear hB ht hz pp1 pp2 pp3 pp5 pp6
          have hR := hR.sub (L' := [(q_29, sbC abT_133_e 0 (nI T_133_e.1)), (abT_133_e, byC κ mmT_133_e fT_133_e)]) [0, 1] rfl rfl
          refine va_callr (cr_V (n := 0) (As := []) (rest := []) ⟨hx, hb, hml, hown, hts⟩ hK hR (m_J24_toString (X := xl X [(q_29, sbC abT_133_e 0 (nI T_133_e.1)), (abT_133_e, byC κ mmT_133_e fT_133_e)]) (n := T_133_e.1) (Or.inr ⟨0, rfl⟩) (Or.inr ⟨1, rfl⟩) hmT_133_e.1 hmT_133_e.2 hfT_133_e) q2576 q1823 q1824 q119 q1825 rfl rfl hd_J24_toString ⟨(Nat.le_of_ble_eq_true rfl), (Nat.le_of_ble_eq_true rfl)⟩ (rv_at2 hK (hR.L 0 _ rfl) rfl) rfl rfl hl.1 rfl (lv_room (Nat.le_of_ble_eq_true rfl)) dX8_tell_136 ⟨(Nat.le_of_ble_eq_true rfl), (Nat.le_of_ble_eq_true rfl)⟩) hS (fun _ _ h => h) (fun _ h => h) (fun u9 q_136_e t H locs ht _ hp hB hz _ hS => ?_)
          rw [ht] at hB
          have hR := hR.up2 hB
          clear hB ht hz
          obtain ⟨abq_136_e, fq_136_e⟩ := u9
          obtain ⟨gq_136_e, hfq_136_e⟩ := hp
          have hlq_136_e : sb_Lat T_133_e.2 T_133_e.1 fq_136_e := sb_latKeep hlT_133_e gq_136_e
          have hR : Rp κ w_7 y X [(q_29, sbC abT_133_e 0 (nI T_133_e.1)), (abT_133_e, byC κ mmT_133_e fT_133_e), (q_136_e, stC abq_136_e 0 0), (abq_136_e, byC κ T_133_e.1 fq_136_e)] H := hR
          have hR := hR.sub (L' := [(q_136_e, stC abq_136_e 0 0), (abq_136_e, byC κ T_133_e.1 fq_136_e)]) [2, 3] rfl rfl
          have eT : T_133_e = tCat (tCat (tCat (tCat (tCat (tCat (tCat (tE) (tI p1)) (tS [58, 32])) (tI (gv w_7 21 (((p1).toNatClampNeg)) 0))) (tS [32, 104, 111, 117, 115, 101, 115])) (tS [44, 32, 114, 101, 118, 111, 108, 116])) (tS [])) (tCat (tCat (tE) (tS [44, 32, 111, 119, 101, 115, 32])) (tI (gv w_7 21 (((p1).toNatClampNeg)) 6))) := by rw [eT_133_e, eT_121_b, eT_114_b, eT_108_b, eT_94_b, eT_75_a, eT_56, eT_50, eT_43, eT_37, eT_33]
          rw [← eT] at h
          refine W.widen (k := 17) (n := 1588) (Nat.le_of_ble_eq_true rfl) (Nat.le_of_ble_eq_true rfl) ?_
          exact W.aret hx hb hr (Or.inl ⟨_, rfl⟩) (Or.inr ⟨_, rfl⟩) (fun t ht hW9 => ⟨⟨(some T_133_e, w_7, abq_136_e, fq_136_e), _, rfl, h, Or.inr ⟨T_133_e, rfl, rpt ht hR, hlq_136_e, hfq_136_e, by omega⟩⟩, hS.F ht⟩) hS.2.2 dX8_tell_139
      · have h := h.2 c_82_a
        refine jr_ldcwS (own := "PublicanryModel") (k := 422) (tx := ", burnt") (n := 2422) hx hb hown hK (List.mem_of_getElem? (i := 35) rfl) dX8_tell_85 ?_
        refine lv_goto (tgt := 94) hx hb dX8_tell_88 (by decide) ?_
        obtain ⟨bAc_94_c, hhc_94_c, zzc_94_c, sfc_94_c, hcc_94_c, hcLc_94_c, hcFc_94_c⟩ := str_const hK (q := (2422, [44, 32, 98, 117, 114, 110, 116])) (List.mem_of_getElem? (i := 9) rfl) (by decide)
        refine va_callr (crt_V (n := 1) (As := [.ref (kA κ 2422)]) (rest := []) ⟨hx, hb, hml, hown, hts⟩ (m_J24_append_2 (X := xl X [(q_29, sbC abT_75_a 0 (nI T_75_a.1)), (abT_75_a, byC κ mmT_75_a fT_75_a)]) (n := T_75_a.1) (t := T_75_a.2) (Or.inr ⟨0, rfl⟩) (Or.inr ⟨1, rfl⟩) hneT_75_a hmT_75_a.1 hfT_75_a hlT_75_a hmT_75_a.2 (fun X9 H9 _ h9 => hcc_94_c _ _ _ _ _ h9) hcLc_94_c hcFc_94_c (by show T_75_a.1 + 7 ≤ 70; omega)) RCt.blind (RCt.pre hR hK hPx) q2571 q1762 q1763 q119 q1764 rfl rfl hd_J24_append_2 ⟨(Nat.le_of_ble_eq_true rfl), (Nat.le_of_ble_eq_true rfl)⟩ (rv_at2 hK (hR.L 0 _ rfl) rfl) rfl rfl hl.1 rfl (lv_room (Nat.le_of_ble_eq_true rfl)) dX8_tell_94 ⟨(Nat.le_of_ble_eq_true rfl), (Nat.le_of_ble_eq_true rfl)⟩) hS (fun _ _ h => h) (fun _ h => h) (fun u9 ra9 t H locs ht _ hp hB hz _ hS => ?_)
        rw [ht] at hB
        obtain ⟨e9, hB⟩ := hB
        replace e9 := e9.symm
        subst e9
        obtain ⟨abT_94_c, mmT_94_c, fT_94_c⟩ := u9
        obtain ⟨pp1, pp2, pp3, hfT_94_c, pp5, pp6⟩ := hp
        dsimp only at pp1 pp2 pp3 hfT_94_c pp5 pp6 hB
        have hneT_94_c : abT_94_c ≠ q_29 := pp3
        have hmT_94_c : mmT_94_c ≤ 140 := pp2
        obtain ⟨T_94_c, eT_94_c⟩ : ∃ z, z = tCat T_75_a (tS [44, 32, 98, 117, 114, 110, 116]) := ⟨_, rfl⟩
        have e1T_94_c : T_94_c.1 = T_75_a.1 + 7 := by rw [eT_94_c]; rfl
        have hT_94_c : T_94_c.1 ≤ 44 := by omega
        have hlT_94_c : sb_Lat T_94_c.2 T_94_c.1 fT_94_c := by rw [eT_94_c]; exact pp5
        have hmT_94_c : mmT_94_c ≤ 140 ∧ T_94_c.1 ≤ mmT_94_c := ⟨pp2, by rw [e1T_94_c]; exact pp1⟩
        have hR : Rp κ w_7 y X [(q_29, sbC abT_94_c 0 (nI T_94_c.1)), (abT_94_c, byC κ mmT_94_c fT_94_c)] H := by
          rw [e1T_94_c]
          exact hR.wroteSB (i := 0) (j := 1) rfl rfl hB pp6 pp3 (by decide) rfl
        clear hB ht hz pp1 pp2 pp3 pp5 pp6
        refine lv_aload_n hx hb dX8_tell_97 rfl (lv_at hl 0 rfl) ?_
        refine g21_6 hx hb hts hown hK hR (hM.vil (vp_lt o_22)) q2046 dX8_tell_98 ?_
        refine lv_if_le (tgt := 130) hx hb dX8_tell_101 (by decide) (fun c_101_c => ?_) (fun c_101_c => ?_)
        · have h := h.1 c_101_c
          refine jr_ldcwS (own := "PublicanryModel") (k := 404) (tx := "") (n := 2404) hx hb hown hK (List.mem_of_getElem? (i := 31) rfl) dX8_tell_130 ?_
          obtain ⟨bAc_133_f, hhc_133_f, zzc_133_f, sfc_133_f, hcc_133_f, hcLc_133_f, hcFc_133_f⟩ := str_const hK (q := (2404, [])) (List.mem_of_getElem? (i := 5) rfl) (by decide)
          refine va_callr (crt_V (n := 1) (As := [.ref (kA κ 2404)]) (rest := []) ⟨hx, hb, hml, hown, hts⟩ (m_J24_append_2 (X := xl X [(q_29, sbC abT_94_c 0 (nI T_94_c.1)), (abT_94_c, byC κ mmT_94_c fT_94_c)]) (n := T_94_c.1) (t := T_94_c.2) (Or.inr ⟨0, rfl⟩) (Or.inr ⟨1, rfl⟩) hneT_94_c hmT_94_c.1 hfT_94_c hlT_94_c hmT_94_c.2 (fun X9 H9 _ h9 => hcc_133_f _ _ _ _ _ h9) hcLc_133_f hcFc_133_f (by show T_94_c.1 + 0 ≤ 70; omega)) RCt.blind (RCt.pre hR hK hPx) q2571 q1762 q1763 q119 q1764 rfl rfl hd_J24_append_2 ⟨(Nat.le_of_ble_eq_true rfl), (Nat.le_of_ble_eq_true rfl)⟩ (rv_at2 hK (hR.L 0 _ rfl) rfl) rfl rfl hl.1 rfl (lv_room (Nat.le_of_ble_eq_true rfl)) dX8_tell_133 ⟨(Nat.le_of_ble_eq_true rfl), (Nat.le_of_ble_eq_true rfl)⟩) hS (fun _ _ h => h) (fun _ h => h) (fun u9 ra9 t H locs ht _ hp hB hz _ hS => ?_)
          rw [ht] at hB
          obtain ⟨e9, hB⟩ := hB
          replace e9 := e9.symm
          subst e9
          obtain ⟨abT_133_f, mmT_133_f, fT_133_f⟩ := u9
          obtain ⟨pp1, pp2, pp3, hfT_133_f, pp5, pp6⟩ := hp
          dsimp only at pp1 pp2 pp3 hfT_133_f pp5 pp6 hB
          have hneT_133_f : abT_133_f ≠ q_29 := pp3
          have hmT_133_f : mmT_133_f ≤ 140 := pp2
          obtain ⟨T_133_f, eT_133_f⟩ : ∃ z, z = tCat T_94_c (tS []) := ⟨_, rfl⟩
          have e1T_133_f : T_133_f.1 = T_94_c.1 + 0 := by rw [eT_133_f]; rfl
          have hT_133_f : T_133_f.1 ≤ 44 := by omega
          have hlT_133_f : sb_Lat T_133_f.2 T_133_f.1 fT_133_f := by rw [eT_133_f]; exact pp5
          have hmT_133_f : mmT_133_f ≤ 140 ∧ T_133_f.1 ≤ mmT_133_f := ⟨pp2, by rw [e1T_133_f]; exact pp1⟩
          have hR : Rp κ w_7 y X [(q_29, sbC abT_133_f 0 (nI T_133_f.1)), (abT_133_f, byC κ mmT_133_f fT_133_f)] H := by
            rw [e1T_133_f]
            exact hR.wroteSB (i := 0) (j := 1) rfl rfl hB pp6 pp3 (by decide) rfl
          clear hB ht hz pp1 pp2 pp3 pp5 pp6
          refine va_callr (cr_V (n := 0) (As := []) (rest := []) ⟨hx, hb, hml, hown, hts⟩ hK hR (m_J24_toString (X := xl X [(q_29, sbC abT_133_f 0 (nI T_133_f.1)), (abT_133_f, byC κ mmT_133_f fT_133_f)]) (n := T_133_f.1) (Or.inr ⟨0, rfl⟩) (Or.inr ⟨1, rfl⟩) hmT_133_f.1 hmT_133_f.2 hfT_133_f) q2576 q1823 q1824 q119 q1825 rfl rfl hd_J24_toString ⟨(Nat.le_of_ble_eq_true rfl), (Nat.le_of_ble_eq_true rfl)⟩ (rv_at2 hK (hR.L 0 _ rfl) rfl) rfl rfl hl.1 rfl (lv_room (Nat.le_of_ble_eq_true rfl)) dX8_tell_136 ⟨(Nat.le_of_ble_eq_true rfl), (Nat.le_of_ble_eq_true rfl)⟩) hS (fun _ _ h => h) (fun _ h => h) (fun u9 q_136_f t H locs ht _ hp hB hz _ hS => ?_)
          rw [ht] at hB
          have hR := hR.up2 hB
          clear hB ht hz
          obtain ⟨abq_136_f, fq_136_f⟩ := u9
          obtain ⟨gq_136_f, hfq_136_f⟩ := hp
          have hlq_136_f : sb_Lat T_133_f.2 T_133_f.1 fq_136_f := sb_latKeep hlT_133_f gq_136_f
          have hR : Rp κ w_7 y X [(q_29, sbC abT_133_f 0 (nI T_133_f.1)), (abT_133_f, byC κ mmT_133_f fT_133_f), (q_136_f, stC abq_136_f 0 0), (abq_136_f, byC κ T_133_f.1 fq_136_f)] H := hR
          have hR := hR.sub (L' := [(q_136_f, stC abq_136_f 0 0), (abq_136_f, byC κ T_133_f.1 fq_136_f)]) [2, 3] rfl rfl
          have eT : T_133_f = tCat (tCat (tCat (tCat (tCat (tCat (tCat (tE) (tI p1)) (tS [58, 32])) (tI (gv w_7 21 (((p1).toNatClampNeg)) 0))) (tS [32, 104, 111, 117, 115, 101, 115])) (tS [44, 32, 114, 101, 118, 111, 108, 116])) (tS [44, 32, 98, 117, 114, 110, 116])) (tS []) := by rw [eT_133_f, eT_94_c, eT_75_a, eT_56, eT_50, eT_43, eT_37, eT_33]
          rw [← eT] at h
          refine W.widen (k := 17) (n := 1588) (Nat.le_of_ble_eq_true rfl) (Nat.le_of_ble_eq_true rfl) ?_
          exact W.aret hx hb hr (Or.inl ⟨_, rfl⟩) (Or.inr ⟨_, rfl⟩) (fun t ht hW9 => ⟨⟨(some T_133_f, w_7, abq_136_f, fq_136_f), _, rfl, h, Or.inr ⟨T_133_f, rfl, rpt ht hR, hlq_136_f, hfq_136_f, by omega⟩⟩, hS.F ht⟩) hS.2.2 dX8_tell_139
        · have h := h.2 c_101_c
          refine xa_new (C := RJ24) (T := TJ24) (N := 4) (ci := 20) (fs := [.null, .int 0, .int 0, .int 0]) hx hb hts in_J24 tyJ24 tyJ24_ok hown q2567 q1659 q119 hK.1 hS rfl (fun j hj => by rcases (show j = 0 ∨ j = 1 ∨ j = 2 ∨ j = 3 by omega) with rfl | rfl | rfl | rfl <;> rfl) (Nat.le_of_ble_eq_true rfl) (Nat.le_of_ble_eq_true rfl) dX8_tell_104 (fun q_104_c H1 hq h1 hz ho hS => ?_)
          have hR := hR.newL hq h1 (by omega) ho
          clear hq h1 hz ho
          generalize H1 = H at hR hS ⊢
          have hR : Rp κ w_7 y X [(q_29, sbC abT_94_c 0 (nI T_94_c.1)), (abT_94_c, byC κ mmT_94_c fT_94_c), (q_104_c, .inr (20, [.null, .int 0, .int 0, .int 0]))] H := hR
          refine lv_dup hx hb dX8_tell_107 rfl ?_
          refine va_callv (va_runI (As := []) (rest := [.ref (q_104_c), .ref (q_29)]) ⟨hx, hb, hml, hown, hts⟩ (m_J24_init (X := xl X [(q_29, sbC abT_94_c 0 (nI T_94_c.1)), (abT_94_c, byC κ mmT_94_c fT_94_c), (q_104_c, .inr (20, [.null, .int 0, .int 0, .int 0]))]) (Or.inr ⟨2, rfl⟩)) (cwI 0 hts (lw_meth q1662) rfl rfl rfl (hts _ q119) (hts _ q2568) (hts _ q1661) rfl (by decide +kernel) ⟨(Nat.le_of_ble_eq_true rfl), (Nat.le_of_ble_eq_true rfl)⟩) ⟨RC.blind, RC.pre hR hK⟩ rfl rfl hl.1 rfl (lv_room (Nat.le_of_ble_eq_true rfl)) dX8_tell_108 ⟨(Nat.le_of_ble_eq_true rfl), (Nat.le_of_ble_eq_true rfl)⟩) hS (fun _ _ h => h) (fun _ h => h) (fun ab_108_c t H locs ht _ _ hB hz _ hS => ?_)
          rw [ht] at hB
          have hR := hR.wroteU (t := 2) rfl hB
          clear hB ht hz
          obtain ⟨T_108_c, eT_108_c⟩ : ∃ z, z = tE := ⟨_, rfl⟩
          have hT_108_c : T_108_c.1 ≤ 0 := by rw [eT_108_c]; exact Nat.le_refl _
          obtain ⟨fT_108_c, efT_108_c⟩ : ∃ z : Nat → Int32, z = fun _ => 0 := ⟨_, rfl⟩
          have hfT_108_c : sb_Fit fT_108_c := by rw [efT_108_c]; exact sb_fit0
          have hlT_108_c : sb_Lat T_108_c.2 T_108_c.1 fT_108_c := fun j hj => absurd hj (by omega)
          have hmT_108_c : (16 : Nat) ≤ 140 ∧ T_108_c.1 ≤ 16 := ⟨by decide, by omega⟩
          have hneT_108_c : ab_108_c ≠ q_104_c := fun e9 => absurd (hR.LD.1 3 2 _ _ rfl rfl e9) (by decide)
          have hR : Rp κ w_7 y X [(q_29, sbC abT_94_c 0 (nI T_94_c.1)), (abT_94_c, byC κ mmT_94_c fT_94_c), (q_104_c, sbC ab_108_c 0 (nI T_108_c.1)), (ab_108_c, byC κ 16 fT_108_c)] H := by rw [show (nI T_108_c.1) = (0 : Int32) by rw [eT_108_c]; rfl, efT_108_c]; exact hR
          refine jr_ldcwS (own := "PublicanryModel") (k := 424) (tx := ", owes ") (n := 2424) hx hb hown hK (List.mem_of_getElem? (i := 36) rfl) dX8_tell_111 ?_
          obtain ⟨bAc_114_c, hhc_114_c, zzc_114_c, sfc_114_c, hcc_114_c, hcLc_114_c, hcFc_114_c⟩ := str_const hK (q := (2424, [44, 32, 111, 119, 101, 115, 32])) (List.mem_of_getElem? (i := 10) rfl) (by decide)
          refine va_callr (crt_V (n := 1) (As := [.ref (kA κ 2424)]) (rest := [.ref (q_29)]) ⟨hx, hb, hml, hown, hts⟩ (m_J24_append_2 (X := xl X [(q_29, sbC abT_94_c 0 (nI T_94_c.1)), (abT_94_c, byC κ mmT_94_c fT_94_c), (q_104_c, sbC ab_108_c 0 (nI T_108_c.1)), (ab_108_c, byC κ 16 fT_108_c)]) (n := T_108_c.1) (t := T_108_c.2) (Or.inr ⟨2, rfl⟩) (Or.inr ⟨3, rfl⟩) hneT_108_c hmT_108_c.1 hfT_108_c hlT_108_c hmT_108_c.2 (fun X9 H9 _ h9 => hcc_114_c _ _ _ _ _ h9) hcLc_114_c hcFc_114_c (by show T_108_c.1 + 7 ≤ 70; omega)) RCt.blind (RCt.pre hR hK hPx) q2571 q1762 q1763 q119 q1764 rfl rfl hd_J24_append_2 ⟨(Nat.le_of_ble_eq_true rfl), (Nat.le_of_ble_eq_true rfl)⟩ (rv_at2 hK (hR.L 2 _ rfl) rfl) rfl rfl hl.1 rfl (lv_room (Nat.le_of_ble_eq_true rfl)) dX8_tell_114 ⟨(Nat.le_of_ble_eq_true rfl), (Nat.le_of_ble_eq_true rfl)⟩) hS (fun _ _ h => h) (fun _ h => h) (fun u9 ra9 t H locs ht _ hp hB hz _ hS => ?_)
          rw [ht] at hB
          obtain ⟨e9, hB⟩ := hB
          replace e9 := e9.symm
          subst e9
          obtain ⟨abT_114_c, mmT_114_c, fT_114_c⟩ := u9
          obtain ⟨pp1, pp2, pp3, hfT_114_c, pp5, pp6⟩ := hp
          dsimp only at pp1 pp2 pp3 hfT_114_c pp5 pp6 hB
          have hneT_114_c : abT_114_c ≠ q_104_c := pp3
          have hmT_114_c : mmT_114_c ≤ 140 := pp2
          obtain ⟨T_114_c, eT_114_c⟩ : ∃ z, z = tCat T_108_c (tS [44, 32, 111, 119, 101, 115, 32]) := ⟨_, rfl⟩
          have e1T_114_c : T_114_c.1 = T_108_c.1 + 7 := by rw [eT_114_c]; rfl
          have hT_114_c : T_114_c.1 ≤ 7 := by omega
          have hlT_114_c : sb_Lat T_114_c.2 T_114_c.1 fT_114_c := by rw [eT_114_c]; exact pp5
          have hmT_114_c : mmT_114_c ≤ 140 ∧ T_114_c.1 ≤ mmT_114_c := ⟨pp2, by rw [e1T_114_c]; exact pp1⟩
          have hR : Rp κ w_7 y X [(q_29, sbC abT_94_c 0 (nI T_94_c.1)), (abT_94_c, byC κ mmT_94_c fT_94_c), (q_104_c, sbC abT_114_c 0 (nI T_114_c.1)), (abT_114_c, byC κ mmT_114_c fT_114_c)] H := by
            rw [e1T_114_c]
            exact hR.wroteSB (i := 2) (j := 3) rfl rfl hB pp6 pp3 (by decide) rfl
          clear hB ht hz pp1 pp2 pp3 pp5 pp6
          refine lv_aload_n hx hb dX8_tell_117 rfl (lv_at hl 0 rfl) ?_
          refine g21_6 hx hb hts hown hK hR (hM.vil (vp_lt o_22)) q2046 dX8_tell_118 ?_
          have o_121_c := h.1
          have h := h.2
          have eio_121_c := nI_cl o_121_c
          have dio_121_c := (sb_dg_in (gv w_7 21 (((p1).toNatClampNeg)) 6).toNatClampNeg).2
          refine W.eq (g2 := F0 m 121 ls [.int (nI (gv w_7 21 (((p1).toNatClampNeg)) 6).toNatClampNeg), .ref (q_104_c), .ref (q_29)]) (by rw [← eio_121_c.1]) ?_
          refine va_callr (crt_V (n := 1) (As := [.int (nI (gv w_7 21 (((p1).toNatClampNeg)) 6).toNatClampNeg)]) (rest := [.ref (q_29)]) ⟨hx, hb, hml, hown, hts⟩ (m_J24_append (X := xl X [(q_29, sbC abT_94_c 0 (nI T_94_c.1)), (abT_94_c, byC κ mmT_94_c fT_94_c), (q_104_c, sbC abT_114_c 0 (nI T_114_c.1)), (abT_114_c, byC κ mmT_114_c fT_114_c)]) (n := T_114_c.1) (t := T_114_c.2) (Or.inr ⟨2, rfl⟩) (Or.inr ⟨3, rfl⟩) hneT_114_c hmT_114_c.1 hfT_114_c hlT_114_c hmT_114_c.2 eio_121_c.2 (by omega)) RCt.blind (RCt.pre hR hK hPx) q2569 q1690 q1691 q119 q1692 rfl rfl hd_J24_append ⟨(Nat.le_of_ble_eq_true rfl), (Nat.le_of_ble_eq_true rfl)⟩ (rv_at2 hK (hR.L 2 _ rfl) rfl) rfl rfl hl.1 rfl (lv_room (Nat.le_of_ble_eq_true rfl)) dX8_tell_121 ⟨(Nat.le_of_ble_eq_true rfl), (Nat.le_of_ble_eq_true rfl)⟩) hS (fun _ _ h => h) (fun _ h => h) (fun u9 ra9 t H locs ht _ hp hB hz _ hS => ?_)
          rw [ht] at hB
          obtain ⟨e9, hB⟩ := hB
          replace e9 := e9.symm
          subst e9
          obtain ⟨abT_121_c, mmT_121_c, fT_121_c⟩ := u9
          obtain ⟨pp1, pp2, pp3, hfT_121_c, pp5, pp6⟩ := hp
          dsimp only at pp1 pp2 pp3 hfT_121_c pp5 pp6 hB
          have hneT_121_c : abT_121_c ≠ q_104_c := pp3
          have hmT_121_c : mmT_121_c ≤ 140 := pp2
          obtain ⟨T_121_c, eT_121_c⟩ : ∃ z, z = tCat T_114_c (tI (gv w_7 21 (((p1).toNatClampNeg)) 6)) := ⟨_, rfl⟩
          have e1T_121_c : T_121_c.1 = T_114_c.1 + sb_dg (gv w_7 21 (((p1).toNatClampNeg)) 6).toNatClampNeg := by rw [eT_121_c]; rfl
          have hT_121_c : T_121_c.1 ≤ 17 := by omega
          have hlT_121_c : sb_Lat T_121_c.2 T_121_c.1 fT_121_c := by rw [eT_121_c]; exact pp5
          have hmT_121_c : mmT_121_c ≤ 140 ∧ T_121_c.1 ≤ mmT_121_c := ⟨pp2, by rw [e1T_121_c]; exact pp1⟩
          have hR : Rp κ w_7 y X [(q_29, sbC abT_94_c 0 (nI T_94_c.1)), (abT_94_c, byC κ mmT_94_c fT_94_c), (q_104_c, sbC abT_121_c 0 (nI T_121_c.1)), (abT_121_c, byC κ mmT_121_c fT_121_c)] H := by
            rw [e1T_121_c]
            exact hR.wroteSB (i := 2) (j := 3) rfl rfl hB pp6 pp3 (by decide) rfl
          clear hB ht hz pp1 pp2 pp3 pp5 pp6
          refine va_callr (cr_V (n := 0) (As := []) (rest := [.ref (q_29)]) ⟨hx, hb, hml, hown, hts⟩ hK hR (m_J24_toString (X := xl X [(q_29, sbC abT_94_c 0 (nI T_94_c.1)), (abT_94_c, byC κ mmT_94_c fT_94_c), (q_104_c, sbC abT_121_c 0 (nI T_121_c.1)), (abT_121_c, byC κ mmT_121_c fT_121_c)]) (n := T_121_c.1) (Or.inr ⟨2, rfl⟩) (Or.inr ⟨3, rfl⟩) hmT_121_c.1 hmT_121_c.2 hfT_121_c) q2576 q1823 q1824 q119 q1825 rfl rfl hd_J24_toString ⟨(Nat.le_of_ble_eq_true rfl), (Nat.le_of_ble_eq_true rfl)⟩ (rv_at2 hK (hR.L 2 _ rfl) rfl) rfl rfl hl.1 rfl (lv_room (Nat.le_of_ble_eq_true rfl)) dX8_tell_124 ⟨(Nat.le_of_ble_eq_true rfl), (Nat.le_of_ble_eq_true rfl)⟩) hS (fun _ _ h => h) (fun _ h => h) (fun u9 q_124_c t H locs ht _ hp hB hz _ hS => ?_)
          rw [ht] at hB
          have hR := hR.up2 hB
          clear hB ht hz
          obtain ⟨abq_124_c, fq_124_c⟩ := u9
          obtain ⟨gq_124_c, hfq_124_c⟩ := hp
          have hlq_124_c : sb_Lat T_121_c.2 T_121_c.1 fq_124_c := sb_latKeep hlT_121_c gq_124_c
          have hR : Rp κ w_7 y X [(q_29, sbC abT_94_c 0 (nI T_94_c.1)), (abT_94_c, byC κ mmT_94_c fT_94_c), (q_104_c, sbC abT_121_c 0 (nI T_121_c.1)), (abT_121_c, byC κ mmT_121_c fT_121_c), (q_124_c, stC abq_124_c 0 0), (abq_124_c, byC κ T_121_c.1 fq_124_c)] H := hR
          have hR := hR.sub (L' := [(q_29, sbC abT_94_c 0 (nI T_94_c.1)), (abT_94_c, byC κ mmT_94_c fT_94_c), (q_124_c, stC abq_124_c 0 0), (abq_124_c, byC κ T_121_c.1 fq_124_c)]) [0, 1, 4, 5] rfl rfl
          refine lv_goto (tgt := 133) hx hb dX8_tell_127 (by decide) ?_
          refine va_callr (crt_V (n := 1) (As := [.ref (q_124_c)]) (rest := []) ⟨hx, hb, hml, hown, hts⟩ (m_J24_append_2 (X := xl X [(q_29, sbC abT_94_c 0 (nI T_94_c.1)), (abT_94_c, byC κ mmT_94_c fT_94_c), (q_124_c, stC abq_124_c 0 0), (abq_124_c, byC κ T_121_c.1 fq_124_c)]) (n := T_94_c.1) (t := T_94_c.2) (Or.inr ⟨0, rfl⟩) (Or.inr ⟨1, rfl⟩) hneT_94_c hmT_94_c.1 hfT_94_c hlT_94_c hmT_94_c.2 (fun X9 H9 hx9 h9 => ⟨h9.X (hx9 _ _ (fun e => absurd (hR.LD.1 2 0 _ _ rfl rfl e) (by decide)) (fun e => absurd (hR.LD.1 2 1 _ _ rfl rfl e) (by decide)) (Or.inr ⟨2, rfl⟩)), h9.X (hx9 _ _ (fun e => absurd (hR.LD.1 3 0 _ _ rfl rfl e) (by decide)) (fun e => absurd (hR.LD.1 3 1 _ _ rfl rfl e) (by decide)) (Or.inr ⟨3, rfl⟩))⟩) hlq_124_c hfq_124_c (by show T_94_c.1 + T_121_c.1 ≤ 70; omega)) RCt.blind (RCt.pre hR hK hPx) q2571 q1762 q1763 q119 q1764 rfl rfl hd_J24_append_2 ⟨(Nat.le_of_ble_eq_true rfl), (Nat.le_of_ble_eq_true rfl)⟩ (rv_at2 hK (hR.L 0 _ rfl) rfl) rfl rfl hl.1 rfl (lv_room (Nat.le_of_ble_eq_true rfl)) dX8_tell_133 ⟨(Nat.le_of_ble_eq_true rfl), (Nat.le_of_ble_eq_true rfl)⟩) hS (fun _ _ h => h) (fun _ h => h) (fun u9 ra9 t H locs ht _ hp hB hz _ hS => ?_)
          rw [ht] at hB
          obtain ⟨e9, hB⟩ := hB
          replace e9 := e9.symm
          subst e9
          obtain ⟨abT_133_g, mmT_133_g, fT_133_g⟩ := u9
          obtain ⟨pp1, pp2, pp3, hfT_133_g, pp5, pp6⟩ := hp
          dsimp only at pp1 pp2 pp3 hfT_133_g pp5 pp6 hB
          have hneT_133_g : abT_133_g ≠ q_29 := pp3
          have hmT_133_g : mmT_133_g ≤ 140 := pp2
          obtain ⟨T_133_g, eT_133_g⟩ : ∃ z, z = tCat T_94_c T_121_c := ⟨_, rfl⟩
          have e1T_133_g : T_133_g.1 = T_94_c.1 + T_121_c.1 := by rw [eT_133_g]; rfl
          have hT_133_g : T_133_g.1 ≤ 61 := by omega
          have hlT_133_g : sb_Lat T_133_g.2 T_133_g.1 fT_133_g := by rw [eT_133_g]; exact pp5
          have hmT_133_g : mmT_133_g ≤ 140 ∧ T_133_g.1 ≤ mmT_133_g := ⟨pp2, by rw [e1T_133_g]; exact pp1⟩
          have hR : Rp κ w_7 y X [(q_29, sbC abT_133_g 0 (nI T_133_g.1)), (abT_133_g, byC κ mmT_133_g fT_133_g), (q_124_c, stC abq_124_c 0 0), (abq_124_c, byC κ T_121_c.1 fq_124_c)] H := by
            rw [e1T_133_g]
            exact hR.wroteSB (i := 0) (j := 1) rfl rfl hB pp6 pp3 (by decide) rfl
          clear hB ht hz pp1 pp2 pp3 pp5 pp6
          have hR := hR.sub (L' := [(q_29, sbC abT_133_g 0 (nI T_133_g.1)), (abT_133_g, byC κ mmT_133_g fT_133_g)]) [0, 1] rfl rfl
          refine va_callr (cr_V (n := 0) (As := []) (rest := []) ⟨hx, hb, hml, hown, hts⟩ hK hR (m_J24_toString (X := xl X [(q_29, sbC abT_133_g 0 (nI T_133_g.1)), (abT_133_g, byC κ mmT_133_g fT_133_g)]) (n := T_133_g.1) (Or.inr ⟨0, rfl⟩) (Or.inr ⟨1, rfl⟩) hmT_133_g.1 hmT_133_g.2 hfT_133_g) q2576 q1823 q1824 q119 q1825 rfl rfl hd_J24_toString ⟨(Nat.le_of_ble_eq_true rfl), (Nat.le_of_ble_eq_true rfl)⟩ (rv_at2 hK (hR.L 0 _ rfl) rfl) rfl rfl hl.1 rfl (lv_room (Nat.le_of_ble_eq_true rfl)) dX8_tell_136 ⟨(Nat.le_of_ble_eq_true rfl), (Nat.le_of_ble_eq_true rfl)⟩) hS (fun _ _ h => h) (fun _ h => h) (fun u9 q_136_g t H locs ht _ hp hB hz _ hS => ?_)
          rw [ht] at hB
          have hR := hR.up2 hB
          clear hB ht hz
          obtain ⟨abq_136_g, fq_136_g⟩ := u9
          obtain ⟨gq_136_g, hfq_136_g⟩ := hp
          have hlq_136_g : sb_Lat T_133_g.2 T_133_g.1 fq_136_g := sb_latKeep hlT_133_g gq_136_g
          have hR : Rp κ w_7 y X [(q_29, sbC abT_133_g 0 (nI T_133_g.1)), (abT_133_g, byC κ mmT_133_g fT_133_g), (q_136_g, stC abq_136_g 0 0), (abq_136_g, byC κ T_133_g.1 fq_136_g)] H := hR
          have hR := hR.sub (L' := [(q_136_g, stC abq_136_g 0 0), (abq_136_g, byC κ T_133_g.1 fq_136_g)]) [2, 3] rfl rfl
          have eT : T_133_g = tCat (tCat (tCat (tCat (tCat (tCat (tCat (tE) (tI p1)) (tS [58, 32])) (tI (gv w_7 21 (((p1).toNatClampNeg)) 0))) (tS [32, 104, 111, 117, 115, 101, 115])) (tS [44, 32, 114, 101, 118, 111, 108, 116])) (tS [44, 32, 98, 117, 114, 110, 116])) (tCat (tCat (tE) (tS [44, 32, 111, 119, 101, 115, 32])) (tI (gv w_7 21 (((p1).toNatClampNeg)) 6))) := by rw [eT_133_g, eT_121_c, eT_114_c, eT_108_c, eT_94_c, eT_75_a, eT_56, eT_50, eT_43, eT_37, eT_33]
          rw [← eT] at h
          refine W.widen (k := 17) (n := 1588) (Nat.le_of_ble_eq_true rfl) (Nat.le_of_ble_eq_true rfl) ?_
          exact W.aret hx hb hr (Or.inl ⟨_, rfl⟩) (Or.inr ⟨_, rfl⟩) (fun t ht hW9 => ⟨⟨(some T_133_g, w_7, abq_136_g, fq_136_g), _, rfl, h, Or.inr ⟨T_133_g, rfl, rpt ht hR, hlq_136_g, hfq_136_g, by omega⟩⟩, hS.F ht⟩) hS.2.2 dX8_tell_139
  · have h := h.2 c_10
    refine jr_ldcwS (own := "PublicanryModel") (k := 404) (tx := "") (n := 2404) hx hb hown hK (List.mem_of_getElem? (i := 31) rfl) dX8_tell_13 ?_
    have hR := hR.sub (L' := []) [] rfl rfl
    refine W.widen (k := 17) (n := 1588) (Nat.le_of_ble_eq_true rfl) (Nat.le_of_ble_eq_true rfl) ?_
    exact W.aret hx hb hr (Or.inl ⟨_, rfl⟩) (Or.inr ⟨_, rfl⟩) (fun t ht hW9 => ⟨⟨(none, w_7, 0, fun _ => 0), _, rfl, h, Or.inl ⟨rfl, rpt ht hR⟩⟩, hS.F ht⟩) hS.2.2 dX8_tell_16
