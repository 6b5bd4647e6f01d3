/-! CELLS LENT AND TAKEN BACK; ArrayList.<init>, add (printed by wip gen/addp.py) -/
set_option maxRecDepth 100000
theorem Rp.putXL {κ : Kx} {w : Wd} {y : Ly} {X : XR} {L : va_W} {H H1 : Heap} {a : Nat} {e0 e1 : va_E} (h : Rp κ w y X L H) (ha : X a e0)
    (h1 : va_at (kD κ) Cl (a, e1) H1) (hz : H1.size = H.size) (ho : ∀ q : Nat, q ≠ a → H1[q]? = H[q]?) : Rp κ w y (upX X a e1) L H1 := by
  obtain ⟨⟨a1, a2⟩, a3, a4, a5, a6, a7, a8⟩ := h
  obtain ⟨-, hA, hN⟩ := a5 a e0 ha
  have hne : ∀ (t : Nat) (q : Nat × va_E), L[t]? = some q → q.1 ≠ a := fun t q ht e => (a8 t q ht).1 e0 (by rw [e]; exact ha)
  refine ⟨⟨by rw [hz]; exact a1, fun q hq => ?_⟩, fun k i hl => ⟨(a3 k i hl).1.kept (ho _ (hN k i hl)), (a3 k i hl).2⟩, a4, fun q e hx => ?_, fun t q ht => (a6 t q ht).kept (ho _ (hne t q ht)), a7, fun t q ht => ⟨fun e hx => ?_, (a8 t q ht).2⟩⟩
  · rw [ho q (by omega)]
    exact a2 q hq
  · rcases hx with ⟨rfl, rfl⟩ | ⟨hq, hx⟩
    · exact ⟨h1, hA, hN⟩
    · exact ⟨(a5 q e hx).1.kept (ho q hq), (a5 q e hx).2⟩
  · rcases hx with ⟨h9, -⟩ | ⟨-, hx⟩
    · exact hne t q ht h9
    · exact (a8 t q ht).1 e hx
theorem Rp.putXL2 {κ : Kx} {w : Wd} {y : Ly} {X : XR} {L : va_W} {H H1 : Heap} {a : Nat} {e0 e1 : va_E} (h : Rp κ w y (upX X a e0) L H)
    (h1 : va_at (kD κ) Cl (a, e1) H1) (hz : H1.size = H.size) (ho : ∀ q : Nat, q ≠ a → H1[q]? = H[q]?) : Rp κ w y (upX X a e1) L H1 := by
  have h2 := h.putXL (upX_self X a e0) h1 hz ho
  rw [upX_upX] at h2
  exact h2
/-- a callee has written a temporary and hands over others -/
theorem Rp.wroteLs {κ : Kx} {w w' : Wd} {y y' : Ly} {X : XR} {L L2 : va_W} {H H1 : Heap} {t a : Nat} {e0 e1 : va_E} (h : Rp κ w y X L H) (ht : L[t]? = some (a, e0)) (h1 : Rp κ w' y' (upX (xl X L) a e1) L2 H1) : Rp κ w' y' X (L.set t (a, e1) ++ L2) H1 := by
  obtain ⟨a12, a3, a4, a5, a6, a7, a8⟩ := h
  obtain ⟨b12, b3, b4, b5, b6, b7, b8⟩ := h1
  have hl := (List.getElem?_eq_some_iff.mp ht).1
  have key : ∀ (k : Nat) (q : Nat × va_E), (L.set t (a, e1))[k]? = some q → upX (xl X L) a e1 q.1 q.2 ∧ ∃ e, L[k]? = some (q.1, e) := by
    intro k q hk
    by_cases hkp : k = t
    · subst hkp
      rw [List.getElem?_set_self hl] at hk
      cases hk
      exact ⟨Or.inl ⟨rfl, rfl⟩, e0, ht⟩
    · rw [List.getElem?_set_ne (fun e => hkp e.symm)] at hk
      exact ⟨Or.inr ⟨fun e => hkp (a7.1 k t q (a, e0) hk ht e), Or.inr ⟨k, hk⟩⟩, q.2, hk⟩
  refine ⟨b12, b3, b4, fun q e hx => ?_, va_P.app (fun k q hk => (b5 q.1 q.2 (key k q hk).1).1) b6, va_D.app (a7.set ht) b7 (fun i j x z hi hj e => ?_), fun k q hk => ?_⟩
  · have hne : q ≠ a := fun e2 => (a8 t _ ht).1 e (by rw [← e2]; exact hx)
    exact b5 q e (Or.inr ⟨hne, Or.inl hx⟩)
  · exact (b8 j z hj).1 x.2 (by rw [← e]; exact (key i x hi).1)
  · by_cases hc : k < (L.set t (a, e1)).length
    · rw [List.getElem?_append_left hc] at hk
      obtain ⟨k1, e, k2⟩ := key k q hk
      exact ⟨(a8 k _ k2).1, (b5 q.1 q.2 k1).2.2⟩
    · rw [List.getElem?_append_right (by omega)] at hk
      refine ⟨fun e hx => ?_, (b8 _ q hk).2⟩
      by_cases hq : q.1 = a
      · exact (b8 _ q hk).1 e1 (Or.inl ⟨hq, rfl⟩)
      · exact (b8 _ q hk).1 e (Or.inr ⟨hq, Or.inl hx⟩)
/-- a callee has written a cell of my caller's and hands over temporaries -/
theorem Rp.wroteX {κ : Kx} {w w' : Wd} {y y' : Ly} {X : XR} {L L2 : va_W} {H H1 : Heap} {a : Nat} {e0 e1 : va_E} (h : Rp κ w y X L H) (ha : X a e0) (h1 : Rp κ w' y' (upX (xl X L) a e1) L2 H1) : Rp κ w' y' (upX X a e1) (L ++ L2) H1 := by
  obtain ⟨a12, a3, a4, a5, a6, a7, a8⟩ := h
  obtain ⟨b12, b3, b4, b5, b6, b7, b8⟩ := h1
  have hne : ∀ (t : Nat) (q : Nat × va_E), L[t]? = some q → q.1 ≠ a := fun t q ht e => (a8 t q ht).1 e0 (by rw [e]; exact ha)
  have key : ∀ (k : Nat) (q : Nat × va_E), L[k]? = some q → upX (xl X L) a e1 q.1 q.2 := fun k q hk => Or.inr ⟨hne k q hk, Or.inr ⟨k, hk⟩⟩
  have up : ∀ q e, upX X a e1 q e → upX (xl X L) a e1 q e := fun q e hx => hx.imp id (fun z => ⟨z.1, Or.inl z.2⟩)
  refine ⟨b12, b3, b4, fun q e hx => b5 q e (up q e hx), va_P.app (fun k q hk => (b5 q.1 q.2 (key k q hk)).1) b6, va_D.app a7 b7 (fun i j x z hi hj e => ?_), fun k q hk => ?_⟩
  · exact (b8 j z hj).1 x.2 (by rw [← e]; exact key i x hi)
  · by_cases hc : k < L.length
    · rw [List.getElem?_append_left hc] at hk
      refine ⟨fun e hx => ?_, (b5 q.1 q.2 (key k q hk)).2.2⟩
      rcases hx with ⟨h9, -⟩ | ⟨-, hx⟩
      · exact hne k q hk h9
      · exact (a8 k q hk).1 e hx
    · rw [List.getElem?_append_right (by omega)] at hk
      exact ⟨fun e hx => (b8 _ q hk).1 e (up _ _ hx), (b8 _ q hk).2⟩
/-- cells of the world are lent to a callee -/
theorem Rp.lend {κ : Kx} {w : Wd} {y y' : Ly} {X : XR} {L : va_W} {H : Heap} (h : Rp κ w y X L H) (B : Nat → Nat → Prop) (hy : ∀ k i, live y' k i → live y k i ∧ ¬ B k i ∧ y'.2 k i = y.2 k i ∧ ce κ y' k i (w.1 k i) w.2 = ce κ y k i (w.1 k i) w.2) :
    Rp κ w y' (fun q e => X q e ∨ ∃ k i, B k i ∧ live y k i ∧ q = y.2 k i ∧ e = ce κ y k i (w.1 k i) w.2) L H := by
  obtain ⟨a12, a3, a4, a5, a6, a7, a8⟩ := h
  refine ⟨a12, fun k i hl => ?_, fun k i k' i' hl hl' e => ?_, fun q e hx => ?_, a6, a7, fun t q ht => ⟨fun e hx => ?_, fun k i hl => ?_⟩⟩
  · obtain ⟨b1, -, b3, b4⟩ := hy k i hl
    rw [b3, b4]
    exact a3 k i b1
  · obtain ⟨b1, -, b3, -⟩ := hy k i hl
    obtain ⟨c1, -, c3, -⟩ := hy k' i' hl'
    exact a4 k i k' i' b1 c1 (b3.symm.trans (e.trans c3))
  · rcases hx with hx | ⟨k, i, hB, hl, rfl, rfl⟩
    · obtain ⟨b1, b2, b3⟩ := a5 q e hx
      refine ⟨b1, b2, fun k i hl e9 => ?_⟩
      obtain ⟨c1, -, c3, -⟩ := hy k i hl
      exact b3 k i c1 (c3.symm.trans e9)
    · refine ⟨(a3 k i hl).1, (a3 k i hl).2, fun k' i' hl' e9 => ?_⟩
      obtain ⟨c1, c2, c3, -⟩ := hy k' i' hl'
      obtain ⟨rfl, rfl⟩ := a4 k' i' k i c1 hl (c3.symm.trans e9)
      exact c2 hB
  · rcases hx with hx | ⟨k, i, hB, hl, h1, -⟩
    · exact (a8 t q ht).1 e hx
    · exact (a8 t q ht).2 k i hl h1.symm
  · obtain ⟨c1, -, c3, -⟩ := hy k i hl
    rw [c3]
    exact (a8 t q ht).2 k i c1
/-- cells of mine, and temporaries, go over into the world -/
theorem Rp.back {κ : Kx} {w w' : Wd} {y y' : Ly} {X X' : XR} {L L' : va_W} {H : Heap} (h : Rp κ w y X' L H) (hX : ∀ q e, X q e → X' q e) (A : Nat → Nat → Prop)
    (hold : ∀ k i, live y' k i → ¬ A k i → live y k i ∧ y'.2 k i = y.2 k i ∧ ce κ y' k i (w'.1 k i) w'.2 = ce κ y k i (w.1 k i) w.2)
    (hnew : ∀ k i, live y' k i → A k i → (X' (y'.2 k i) (ce κ y' k i (w'.1 k i) w'.2) ∧ ∀ e, ¬ X (y'.2 k i) e) ∨ ∃ t : Nat, L[t]? = some (y'.2 k i, ce κ y' k i (w'.1 k i) w'.2))
    (hdi : ∀ k i k' i', live y' k i → live y' k' i' → A k i → A k' i' → y'.2 k i = y'.2 k' i' → k = k' ∧ i = i')
    (hL : ∀ (t : Nat) (q : Nat × va_E), L'[t]? = some q → (∃ t0 : Nat, L[t0]? = some q) ∧ ∀ k i, live y' k i → A k i → y'.2 k i ≠ q.1) (hD : va_D (Af κ) L') : Rp κ w' y' X L' H := by
  obtain ⟨a12, a3, a4, a5, a6, a7, a8⟩ := h
  refine ⟨a12, fun k i hl => ?_, fun k i k' i' hl hl' e => ?_, fun q e hx => ?_, fun t q ht => ?_, hD, fun t q ht => ⟨fun e hx => ?_, fun k i hl => ?_⟩⟩
  · by_cases hA : A k i
    · rcases hnew k i hl hA with ⟨h1, -⟩ | ⟨t, ht⟩
      · exact ⟨(a5 _ _ h1).1, (a5 _ _ h1).2.1⟩
      · exact ⟨a6 t _ ht, a7.2 t _ ht⟩
    · obtain ⟨b1, b2, b3⟩ := hold k i hl hA
      rw [b2, b3]
      exact a3 k i b1
  · have sep : ∀ k i k' i', live y' k i → live y' k' i' → A k i → ¬ A k' i' → y'.2 k i ≠ y'.2 k' i' := fun k i k' i' hl hl' hA hA' e => by
      obtain ⟨c1, c2, -⟩ := hold k' i' hl' hA'
      rcases hnew k i hl hA with ⟨h1, -⟩ | ⟨t, ht⟩
      · exact (a5 _ _ h1).2.2 k' i' c1 (c2.symm.trans e.symm)
      · exact (a8 t _ ht).2 k' i' c1 (c2.symm.trans e.symm)
    by_cases hA : A k i
    · by_cases hA' : A k' i'
      · exact hdi k i k' i' hl hl' hA hA' e
      · exact absurd e (sep k i k' i' hl hl' hA hA')
    · by_cases hA' : A k' i'
      · exact absurd e.symm (sep k' i' k i hl' hl hA' hA)
      · obtain ⟨b1, b2, -⟩ := hold k i hl hA
        obtain ⟨c1, c2, -⟩ := hold k' i' hl' hA'
        exact a4 _ _ _ _ b1 c1 (b2.symm.trans (e.trans c2))
  · obtain ⟨b1, b2, b3⟩ := a5 q e (hX q e hx)
    refine ⟨b1, b2, fun k i hl e9 => ?_⟩
    by_cases hA : A k i
    · rcases hnew k i hl hA with ⟨-, h1⟩ | ⟨t, ht⟩
      · exact h1 e (by rw [e9]; exact hx)
      · exact (a8 t _ ht).1 e (by rw [e9]; exact hX q e hx)
    · obtain ⟨c1, c2, -⟩ := hold k i hl hA
      exact b3 k i c1 (c2.symm.trans e9)
  · obtain ⟨⟨t0, h0⟩, -⟩ := hL t q ht
    exact a6 t0 q h0
  · obtain ⟨⟨t0, h0⟩, -⟩ := hL t q ht
    exact (a8 t0 q h0).1 e (hX _ _ hx)
  · obtain ⟨⟨t0, h0⟩, h9⟩ := hL t q ht
    by_cases hA : A k i
    · exact h9 k i hl hA
    · obtain ⟨c1, c2, -⟩ := hold k i hl hA
      rw [c2]
      exact (a8 t0 q h0).2 k i c1
/-- a cell that may be an element of a list -/
def Ob (κ : Kx) (H : Heap) (q : Nat) : Prop := ∃ (ci : Nat) (vs : List Value) (r : vw_C), Cl[ci]? = some r ∧ (r.1, "java/lang/Object") ∈ nwC ∧ va_at (kD κ) Cl (q, .inr (ci, vs)) H
abbrev eL (mc : Int32) (r : Nat) (n : Int32) : va_E := .inr (16, [.int mc, .ref r, .int n])
abbrev eA (κ : Kx) (f : Nat → Option Nat) : va_E := .inl (kT κ 4, (10, .inr (.inr (.inr (.inr f)))))
section AN
variable {p : Program} {l : Launch} {e : Env} {R : Room} {s : State} {m : MethodId} {args : Array Value} {below : List Frame} {meth : Method} {c : Code} {H H0 : Heap} {locs : List Loc} {cells slots : Nat} {Q : State → Prop}
variable {cc : ByteArray} {pc : Nat} {ls : Array Slot} {rest : List Value} {D : va_G} {A : Nat → Prop} {a : Nat} {tys : List (ClassId × FieldType)}
theorem xa_anew (hx : p.tables.exec = Jvm.exec) (hb : c.code = cc) {own C : String} {index : Nat} (hts : ∀ w ∈ lw_all, w.before args s = true) (hown : s.vm.findClass own = some m.cls) (hcl : Cond.classLink own index C ∈ lw_all) (hover : va_AO C s) (hK : va_K D Cl tys s) {cA : ClassId} (t0 : Nat) (ht : tys[t0]? = some (cA, .object C)) (hS : va_S A H0 H locs)
    {n : Int32} {N' : Nat} (hn : ¬ n < 0) (hN : n.toNatClampNeg = N') (hbytes : N' * 4 ≤ 536870912) (hcells : cells + 1 ≤ R.cells) (hslots : slots + N' ≤ R.slots) (hdg : decode cc pc = .ok (.anewarray index, 3))
    (kk : ∀ (q : Nat) (H1 : Heap), q = H.size → va_at D Cl (q, .inl (cA, (N', .inr (.inr (.inr (.inr (fun _ => none))))))) H1 → H1.size = H.size + 1 → (∀ x : Nat, x < H.size → H1[x]? = H[x]?) → va_S A H0 H1 locs →
      W p l e R s m args below meth c H1 locs (cells + 1) (slots + N') Q (F0 m (pc + 3) ls (.ref q :: rest))) : W p l e R s m args below meth c H locs cells slots Q (F0 m pc ls (.int n :: rest)) := by
  subst hN
  refine W.anew hx hb hown (hts _ hcl) (va_AO.use hover) rfl hdg rfl hn hbytes hcells hslots fun cA' kA comp f1 f2 f3 f4 => ?_
  obtain ⟨kA2, comp2, g1, g2, g3, g4⟩ := (hK.2 t0 _ ht).2
  cases Option.some.inj (f1.symm.trans g4)
  generalize hH1 : H.push ({ cls := cA, slots := Array.replicate n.toNatClampNeg .null, vm := .none } : Cell) = H1
  have z1 : H1.size = H.size + 1 := by rw [← hH1, Array.size_push]
  have e1 : H1[H.size]? = some (arrV cA n.toNatClampNeg (fun _ => .null)) := by rw [← hH1, Array.getElem?_push_size, ← arrV_new]
  have o1 : ∀ q : Nat, q < H.size → H1[q]? = H[q]? := fun q hq => by rw [← hH1, Array.getElem?_push, if_neg (Nat.ne_of_lt hq)]
  exact kk H.size H1 rfl e1 z1 o1 ⟨Nat.le_trans hS.1 (by omega), fun x h1 h2 => (o1 x (Nat.lt_of_lt_of_le h1 hS.1)).trans (hS.2.1 x h1 h2), hS.2.2⟩
theorem xa_anewA (hx : p.tables.exec = Jvm.exec) (hb : c.code = cc) {own : String} {index : Nat} {t : FieldType} (hts : ∀ w ∈ lw_all, w.before args s = true) (hown : s.vm.findClass own = some m.cls) (hcl : Cond.classLink own index (FieldType.array t).toString ∈ lw_all) (hover : va_AR t s) (hK : va_K D Cl tys s) {cA : ClassId} (t0 : Nat) (ht : tys[t0]? = some (cA, .array t)) (hS : va_S A H0 H locs)
    {n : Int32} {N' : Nat} (hn : ¬ n < 0) (hN : n.toNatClampNeg = N') (hbytes : N' * 4 ≤ 536870912) (hcells : cells + 1 ≤ R.cells) (hslots : slots + N' ≤ R.slots) (hdg : decode cc pc = .ok (.anewarray index, 3))
    (kk : ∀ (q : Nat) (H1 : Heap), q = H.size → va_at D Cl (q, .inl (cA, (N', .inr (.inr (.inr (.inr (fun _ => none))))))) H1 → H1.size = H.size + 1 → (∀ x : Nat, x < H.size → H1[x]? = H[x]?) → va_S A H0 H1 locs →
      W p l e R s m args below meth c H1 locs (cells + 1) (slots + N') Q (F0 m (pc + 3) ls (.ref q :: rest))) : W p l e R s m args below meth c H locs cells slots Q (F0 m pc ls (.int n :: rest)) := by
  subst hN
  refine W.anewA hx hb hown (hts _ hcl) hover rfl hdg rfl hn hbytes hcells hslots fun cA' kA comp f1 f2 f3 f4 => ?_
  have g4 : s.vm.findClass ("[" ++ (FieldType.array t).toString) = some cA := (hK.2 t0 _ ht).2
  cases Option.some.inj (f1.symm.trans g4)
  generalize hH1 : H.push ({ cls := cA, slots := Array.replicate n.toNatClampNeg .null, vm := .none } : Cell) = H1
  have z1 : H1.size = H.size + 1 := by rw [← hH1, Array.size_push]
  have e1 : H1[H.size]? = some (arrV cA n.toNatClampNeg (fun _ => .null)) := by rw [← hH1, Array.getElem?_push_size, ← arrV_new]
  have o1 : ∀ q : Nat, q < H.size → H1[q]? = H[q]? := fun q hq => by rw [← hH1, Array.getElem?_push, if_neg (Nat.ne_of_lt hq)]
  exact kk H.size H1 rfl e1 z1 o1 ⟨Nat.le_trans hS.1 (by omega), fun x h1 h2 => (o1 x (Nat.lt_of_lt_of_le h1 hS.1)).trans (hS.2.1 x h1 h2), hS.2.2⟩
theorem xa_putM (hx : p.tables.exec = Jvm.exec) (hb : c.code = cc) {own ref C : String} {T : u_T} {N ci index : Nat} (hts : ∀ w ∈ lw_all, w.before args s = true) (hin : ∀ w ∈ u_ws C T N, w ∈ lw_all) (ty0 : Nat → FieldType) (hty : ∀ k, k < N → parseFieldDescriptor (T k).2.2.1 = some (ty0 k)) (hnm : ∀ a, a < N → ∀ b, b < N → a ≠ b → (T a).2.1 ≠ (T b).2.1) (hown : s.vm.findClass own = some m.cls) (hK : va_K D Cl tys s) {fs : List Value} (hS0 : va_S A H0 H locs) (hA : A a) (he : va_at D Cl (a, .inr (ci, fs)) H) (hc : Cl[ci]? = some (C, T, N)) (k : Nat) (hk : k < N) (hlink : Cond.fieldLink own index ref (T k).2.1 (T k).2.2.1 ∈ lw_all) (hsame : ∀ x, s.fieldFound? (T k).1 (T k).2.1 (T k).2.2.1 = some x → s.fieldFound? ref (T k).2.1 (T k).2.2.1 = some x) (hfin : (T k).2.2.2 = false) {v : Value} (hn : narrow (ty0 k) v = v) (hfit : fits (ty0 k) v = true) (hl : k < fs.length)
    (hdg : decode cc pc = .ok (.putfield index, 3)) (kk : ∀ (H1 : Heap) (locs1 : List Loc), va_at D Cl (a, .inr (ci, fs.set k v)) H1 → H1.size = H.size → (∀ q : Nat, q ≠ a → H1[q]? = H[q]?) → va_S A H0 H1 locs1 → W p l e R s m args below meth c H1 locs1 cells slots Q (F0 m (pc + 3) ls rest)) : W p l e R s m args below meth c H locs cells slots Q (F0 m pc ls (v :: .ref a :: rest)) := by
  have hap := va_apart (own := own) hts hin ty0 hty hnm hK hc
  have hd := hty k hk
  obtain ⟨r, h1, cell, q1, q2, q3, q4⟩ := he
  have hr : r = (C, T, N) := Option.some.inj (h1.symm.trans hc)
  subst hr
  obtain ⟨hS, hfc, kC, hkC, hkind⟩ := hK.1 ci _ hc
  obtain ⟨cf, kf, fi, f, hi, hsl⟩ := hS k hk
  have hlay := hts _ (hin _ (u_in_lay hk))
  unfold u_lay at hlay
  rw [if_neg (by rw [hfin]; decide)] at hlay
  have hst := (u_facts hfc hkC (u_lays hts hin hk) hi).1
  have h6 := u_store hfc hkC hkind hlay hi hd hn hfit
  refine W.putK hx hb (f := f) ⟨hown, hts _ hlink, ⟨_, _, _, hsame _ hi⟩, hst⟩ (by rw [q2]; exact h6) q1 q3 (by rw [hsl]; exact k2_hasslot (q4 k hk)) rfl rfl hdg fun H' e1 e2 e3 => ?_
  rw [hsl] at e1 ⊢
  exact kk H' _ ⟨_, hc, t_OB.to (V := updV (vp_V fs) k v) ⟨_, e1, q2, q3, t_set q4 hap hk v⟩ (fun j _ => vp_updV_set hl v j)⟩ e2 e3 (hS0.put e2 e3 hA)

end AN
theorem hd_J0_init : yJ0_init.cls = RJ0 ∧ yJ0_init.cls ≠ "java/lang/invoke/MethodHandle" ∧ yJ0_init.cls ≠ "java/lang/invoke/VarHandle" ∧ (parseMethodDescriptor yJ0_init.desc).map (fun d => d.parameters.length) = some 0 := by decide +kernel
abbrev rm_J0_init : Room := { frames := 1, locals := 24 }
set_option maxHeartbeats 4000000 in
theorem m_J0_init {l : Launch} {κ : Kx} {w : Wd} {y : Ly} {X : XR} {q : Nat} : Met l yJ0_init (ws_ yJ0_init cJ0_init 1 (Option.none : Option Jvm.ClassFile.FieldType)) rm_J0_init (va_Pc [.ref q] (RC κ w y X)) (va_Qv (fun _ : Unit => True) (fun _ t => Rp κ w y (X) [] t.heap) (Af κ)) 0 0 (Af κ) := by
  refine Met.ofW (cc := cJ0_init) (maxL := 1) (ret := (Option.none : Option Jvm.ClassFile.FieldType)) (by decide) rfl ?_
  intro p e s m args below meth c s₁ B hml hv
  obtain ⟨rfl, hR, hK⟩ := hv
  have hx := B.exec
  have hb := B.bytes
  have hr := B.returns
  have hts := atoms_spec (ws := ws_ yJ0_init cJ0_init 1 (Option.none : Option Jvm.ClassFile.FieldType)) B.pre
  have hts : ∀ w ∈ lw_all, w.before _ s = true := fun w h => hts w (List.mem_cons_of_mem _ h)
  have hown : s.vm.findClass RJ0 = some m.cls := findClass_of_methodNamed B.named
  have hlocks := B.notSynchronized
  have hS : va_S (Af κ) s.heap s.heap [] := va_S.rf
  have hl := lv_entry ([.ref q]) (n := 1) (Nat.le_of_ble_eq_true rfl)
  rw [lg_entry_eq]
  generalize (lg_sl ([.ref q]) ++ List.replicate (1 - (lg_sl ([.ref q])).length) Slot.unset).toArray = ls at hl ⊢
  have hl : lv_has ls 1 [(0, .ref q)] := hl
  refine lv_aload_n hx hb dJ0_init_0 rfl (lv_at hl 0 rfl) ?_
  refine W.objInit hx hb hown (hts _ q140) (hts _ q127) (hts _ q128) rfl (by rw [hml]; exact hl.1) rfl dJ0_init_1 (Nat.le_of_ble_eq_true rfl) (Nat.le_of_ble_eq_true rfl) ?_
  refine W.eq (g2 := F0 m 4 ls []) rfl ?_
  exact W.vret hx hb hr (fun t ht hW9 => ⟨⟨(), rfl, trivial, rpt ht hR⟩, hS.F ht⟩) hS.2.2 dJ0_init_4
theorem hd_J1_init : yJ1_init.cls = RJ1 ∧ yJ1_init.cls ≠ "java/lang/invoke/MethodHandle" ∧ yJ1_init.cls ≠ "java/lang/invoke/VarHandle" ∧ (parseMethodDescriptor yJ1_init.desc).map (fun d => d.parameters.length) = some 0 := by decide +kernel
abbrev rm_J1_init : Room := { frames := 2, locals := 48 }
set_option maxHeartbeats 4000000 in
theorem m_J1_init {l : Launch} {κ : Kx} {w : Wd} {y : Ly} {X : XR} {q : Nat} (hX : X q (.inr (16, [.int 0, .null, .int 0]))) : Met l yJ1_init (ws_ yJ1_init cJ1_init 1 (Option.none : Option Jvm.ClassFile.FieldType)) rm_J1_init (va_Pc [.ref q] (RC κ w y X)) (va_Qv (fun _ : Unit => True) (fun _ t => Rp κ w y (upX X q (.inr (16, [.int 0, .null, .int 0]))) [] t.heap) (Af κ)) 0 0 (Af κ) := by
  refine Met.ofW (cc := cJ1_init) (maxL := 1) (ret := (Option.none : Option Jvm.ClassFile.FieldType)) (by decide) rfl ?_
  intro p e s m args below meth c s₁ B hml hv
  obtain ⟨rfl, hR, hK⟩ := hv
  have hx := B.exec
  have hb := B.bytes
  have hr := B.returns
  have hts := atoms_spec (ws := ws_ yJ1_init cJ1_init 1 (Option.none : Option Jvm.ClassFile.FieldType)) B.pre
  have hts : ∀ w ∈ lw_all, w.before _ s = true := fun w h => hts w (List.mem_cons_of_mem _ h)
  have hown : s.vm.findClass RJ1 = some m.cls := findClass_of_methodNamed B.named
  have hlocks := B.notSynchronized
  have hS : va_S (Af κ) s.heap s.heap [] := va_S.rf
  have hl := lv_entry ([.ref q]) (n := 1) (Nat.le_of_ble_eq_true rfl)
  rw [lg_entry_eq]
  generalize (lg_sl ([.ref q]) ++ List.replicate (1 - (lg_sl ([.ref q])).length) Slot.unset).toArray = ls at hl ⊢
  have hl : lv_has ls 1 [(0, .ref q)] := hl
  refine lv_aload_n hx hb dJ1_init_0 rfl (lv_at hl 0 rfl) ?_
  refine va_callv (va_runI (As := []) (rest := []) ⟨hx, hb, hml, hown, hts⟩ (m_J0_init (X := xl X [])) (cwI 0 hts (lw_meth q139) rfl rfl rfl (hts _ q75) (hts _ q137) (hts _ q138) rfl (by decide +kernel) ⟨Nat.le_of_ble_eq_true rfl, Nat.le_of_ble_eq_true rfl⟩) ⟨RC.blind, RC.pre hR hK⟩ rfl rfl hl.1 rfl (lv_room (Nat.le_of_ble_eq_true rfl)) dJ1_init_1 ⟨Nat.le_of_ble_eq_true rfl, Nat.le_of_ble_eq_true rfl⟩) hS (fun _ _ h => h) (fun _ h => h) (fun u t H1 locs1 ht _ hp hB hz _ hS => ?_)
  rw [ht] at hB
  have hR := hR.up hB
  clear hB hz hp ht
  generalize H1 = H at hR hS ⊢
  refine lv_aload_n hx hb dJ1_init_4 rfl (lv_at hl 0 rfl) ?_
  refine lv_iconst (v := 0) hx hb dJ1_init_5 (by decide) ?_
  refine xa_put (T := TJ2) (N := 3) hx hb hts in_J2 tyJ2 tyJ2_ok nmJ2 hown hK.1 hS (hR.2.2.2.1 _ _ hX).2.1 (hR.X hX) rfl 0 (by decide) q147 rfl rfl rfl rfl (Nat.le_of_ble_eq_true rfl) dJ1_init_6 (fun H1 locs h1 hz ho hS => ?_)
  have hR := hR.putX hX h1 hz ho
  clear h1 hz ho
  generalize H1 = H at hR hS ⊢
  exact W.vret hx hb hr (fun t ht hW9 => ⟨⟨(), rfl, trivial, rpt ht hR⟩, hS.F ht⟩) hS.2.2 dJ1_init_9
theorem hd_J2_init : yJ2_init.cls = RJ2 ∧ yJ2_init.cls ≠ "java/lang/invoke/MethodHandle" ∧ yJ2_init.cls ≠ "java/lang/invoke/VarHandle" ∧ (parseMethodDescriptor yJ2_init.desc).map (fun d => d.parameters.length) = some 0 := by decide +kernel
abbrev rm_J2_init : Room := { frames := 3, locals := 72 }
set_option maxHeartbeats 4000000 in
theorem m_J2_init {l : Launch} {κ : Kx} {w : Wd} {y : Ly} {X : XR} {q : Nat} (hX : X q (.inr (16, [.int 0, .null, .int 0]))) : Met l yJ2_init (ws_ yJ2_init cJ2_init 1 (Option.none : Option Jvm.ClassFile.FieldType)) rm_J2_init (va_Pc [.ref q] (RC κ w y X)) (va_Qv (fun _ : Unit => True) (fun _ t => Rp κ w y (upX X q (eL 0 (kA κ 1) 0)) [] t.heap) (Af κ)) 0 0 (Af κ) := by
  refine Met.ofW (cc := cJ2_init) (maxL := 1) (ret := (Option.none : Option Jvm.ClassFile.FieldType)) (by decide) rfl ?_
  intro p e s m args below meth c s₁ B hml hv
  obtain ⟨rfl, hR, hK⟩ := hv
  have hx := B.exec
  have hb := B.bytes
  have hr := B.returns
  have hts := atoms_spec (ws := ws_ yJ2_init cJ2_init 1 (Option.none : Option Jvm.ClassFile.FieldType)) B.pre
  have hts : ∀ w ∈ lw_all, w.before _ s = true := fun w h => hts w (List.mem_cons_of_mem _ h)
  have hown : s.vm.findClass RJ2 = some m.cls := findClass_of_methodNamed B.named
  have hlocks := B.notSynchronized
  have hS : va_S (Af κ) s.heap s.heap [] := va_S.rf
  have hl := lv_entry ([.ref q]) (n := 1) (Nat.le_of_ble_eq_true rfl)
  rw [lg_entry_eq]
  generalize (lg_sl ([.ref q]) ++ List.replicate (1 - (lg_sl ([.ref q])).length) Slot.unset).toArray = ls at hl ⊢
  have hl : lv_has ls 1 [(0, .ref q)] := hl
  refine lv_aload_n hx hb dJ2_init_0 rfl (lv_at hl 0 rfl) ?_
  refine va_callv (va_runI (As := []) (rest := []) ⟨hx, hb, hml, hown, hts⟩ (m_J1_init (X := xl X []) (Or.inl hX)) (cwI 0 hts (lw_meth q136) rfl rfl rfl (hts _ q76) (hts _ q134) (hts _ q135) rfl (by decide +kernel) ⟨Nat.le_of_ble_eq_true rfl, Nat.le_of_ble_eq_true rfl⟩) ⟨RC.blind, RC.pre hR hK⟩ rfl rfl hl.1 rfl (lv_room (Nat.le_of_ble_eq_true rfl)) dJ2_init_1 ⟨Nat.le_of_ble_eq_true rfl, Nat.le_of_ble_eq_true rfl⟩) hS (fun _ _ h => h) (fun _ h => h) (fun u t H1 locs1 ht _ hp hB hz _ hS => ?_)
  rw [ht] at hB
  have hR := hR.wroteX hX hB
  clear hB hz hp ht
  generalize H1 = H at hR hS ⊢
  refine lv_aload_n hx hb dJ2_init_4 rfl (lv_at hl 0 rfl) ?_
  refine jr_gets (C := "java/util/ArrayList") (n := "DEFAULTCAPACITY_EMPTY_ELEMENTDATA") (d := "[Ljava/lang/Object;") (j := 1) hx hb hown hK hR hS (List.mem_of_getElem? (i := 1) rfl) q141 hts dJ2_init_5 ?_
  refine xa_put (T := TJ2) (N := 3) hx hb hts in_J2 tyJ2 tyJ2_ok nmJ2 hown hK.1 hS (hR.2.2.2.1 _ _ (upX_self _ _ _)).2.1 (hR.X (upX_self _ _ _)) rfl 1 (by decide) q143 rfl rfl rfl rfl (Nat.le_of_ble_eq_true rfl) dJ2_init_8 (fun H1 locs h1 hz ho hS => ?_)
  have hR := hR.putX2 h1 hz ho
  clear h1 hz ho
  generalize H1 = H at hR hS ⊢
  exact W.vret hx hb hr (fun t ht hW9 => ⟨⟨(), rfl, trivial, rpt ht hR⟩, hS.F ht⟩) hS.2.2 dJ2_init_11
theorem hd_J2_grow_2 : yJ2_grow_2.cls = RJ2 ∧ yJ2_grow_2.cls ≠ "java/lang/invoke/MethodHandle" ∧ yJ2_grow_2.cls ≠ "java/lang/invoke/VarHandle" ∧ (parseMethodDescriptor yJ2_grow_2.desc).map (fun d => d.parameters.length) = some 1 := by decide +kernel
abbrev rm_J2_grow_2 : Room := { frames := 2, cells := 1, slots := 10, locals := 60 }
set_option maxHeartbeats 4000000 in
theorem m_J2_grow_2 {l : Launch} {κ : Kx} {w : Wd} {y : Ly} {X : XR} {a : Nat} {mc : Int32} (hX : X a (eL mc (kA κ 1) 0)) : Met l yJ2_grow_2 (ws_ yJ2_grow_2 cJ2_grow_2 4 (Option.some (Jvm.ClassFile.FieldType.array (Jvm.ClassFile.FieldType.object "java/lang/Object")))) rm_J2_grow_2 (va_Pc [.ref a, .int 1] (RC κ w y X)) (va_Qr (fun _ : Unit => True) (fun _ r t => Rp κ w y (upX X a (eL mc r 0)) [(r, eA κ (fun _ => none))] t.heap) (Af κ)) 1 10 (Af κ) := by
  refine Met.ofW (cc := cJ2_grow_2) (maxL := 4) (ret := (Option.some (Jvm.ClassFile.FieldType.array (Jvm.ClassFile.FieldType.object "java/lang/Object")))) (by decide) rfl ?_
  intro p e s m args below meth c s₁ B hml hv
  obtain ⟨rfl, hR, hK⟩ := hv
  have hx := B.exec
  have hb := B.bytes
  have hr := B.returns
  have hts := atoms_spec (ws := ws_ yJ2_grow_2 cJ2_grow_2 4 (Option.some (Jvm.ClassFile.FieldType.array (Jvm.ClassFile.FieldType.object "java/lang/Object")))) B.pre
  have hts : ∀ w ∈ lw_all, w.before _ s = true := fun w h => hts w (List.mem_cons_of_mem _ h)
  have hown : s.vm.findClass RJ2 = some m.cls := findClass_of_methodNamed B.named
  have hlocks := B.notSynchronized
  have hS : va_S (Af κ) s.heap s.heap [] := va_S.rf
  have hl := lv_entry ([.ref a, .int 1]) (n := 4) (Nat.le_of_ble_eq_true rfl)
  rw [lg_entry_eq]
  generalize (lg_sl ([.ref a, .int 1]) ++ List.replicate (4 - (lg_sl ([.ref a, .int 1])).length) Slot.unset).toArray = ls at hl ⊢
  have hl : lv_has ls 4 [(0, .ref a), (1, .int 1)] := hl
  have hE : va_at (kD κ) Cl (kA κ 1, .inl (kT κ 4, (0, .inr (.inr (.inr (.inr (fun _ => none))))))) s.heap := hK.2.2.2.1.kept (hR.1.2 _ hK.2.2.2.2.2.1.2.1)
  refine lv_aload_n hx hb dJ2_grow_2_0 rfl (lv_at hl 0 rfl) ?_
  refine xa_get (T := TJ2) (N := 3) (v := .ref (kA κ 1)) hx hb hts in_J2 hown hK.1 (hR.X hX) rfl 1 (by decide) q143 rfl rfl dJ2_grow_2_1 ?_
  refine xa_alen hx hb hK.1 hE 4 rfl dJ2_grow_2_4 ?_
  refine lv_istore_n (lv' := [(2, .int (nI 0)), (0, .ref a), (1, .int 1)]) hx hb dJ2_grow_2_5 rfl hl (by decide) rfl (fun ls hl => ?_)
  refine lv_iload_n hx hb dJ2_grow_2_6 rfl (lv_at hl 0 rfl) ?_
  refine lv_if_gt (tgt := 20) hx hb dJ2_grow_2_7 (by decide) (fun c => absurd c (by decide)) (fun _ => ?_)
  refine lv_aload_n hx hb dJ2_grow_2_10 rfl (lv_at hl 1 rfl) ?_
  refine xa_get (T := TJ2) (N := 3) (v := .ref (kA κ 1)) hx hb hts in_J2 hown hK.1 (hR.X hX) rfl 1 (by decide) q143 rfl rfl dJ2_grow_2_11 ?_
  refine jr_gets (C := "java/util/ArrayList") (n := "DEFAULTCAPACITY_EMPTY_ELEMENTDATA") (d := "[Ljava/lang/Object;") (j := 1) hx hb hown hK hR hS (List.mem_of_getElem? (i := 1) rfl) q141 hts dJ2_grow_2_14 ?_
  refine lv_acmp_eq (rx := some (kA κ 1)) (ry := some (kA κ 1)) (tgt := 45) hx hb dJ2_grow_2_17 (by decide) (fun _ => ?_) (fun c => absurd rfl c)
  refine lv_aload_n hx hb dJ2_grow_2_45 rfl (lv_at hl 1 rfl) ?_
  refine lv_bipush (v := 10) hx hb dJ2_grow_2_46 (by decide) ?_
  refine lv_iload_n hx hb dJ2_grow_2_48 rfl (lv_at hl 2 rfl) ?_
  refine va_mmax hx hb (hml.trans hl.1.symm) hown (hts _ q917) (hts _ q642) (hts _ q95) (hts _ q643) (Nat.le_of_ble_eq_true rfl) (Nat.le_of_ble_eq_true rfl) (Nat.le_of_ble_eq_true rfl) (Nat.le_of_ble_eq_true rfl) dJ2_grow_2_49 ?_
  rw [show (if (10 : Int32) < 1 then (1 : Int32) else 10) = 10 from by decide]
  refine xa_anew (N' := 10) hx hb hts hown q918 hK.2.1.2.2.2.2.2.1.2.2.1 hK.1 4 rfl hS (by decide) (by decide) (by decide) (Nat.le_of_ble_eq_true rfl) (Nat.le_of_ble_eq_true rfl) dJ2_grow_2_52 (fun r H1 hq h1 hz ho hS => ?_)
  have hR := hR.newL hq h1 (by omega) ho
  clear hq h1 hz ho hE
  generalize H1 = H at hR hS ⊢
  refine lv_dup_x1 hx hb dJ2_grow_2_55 rfl rfl ?_
  refine xa_put (T := TJ2) (N := 3) hx hb hts in_J2 tyJ2 tyJ2_ok nmJ2 hown hK.1 hS (hR.2.2.2.1 _ _ hX).2.1 (hR.X hX) rfl 1 (by decide) q143 rfl rfl rfl rfl (Nat.le_of_ble_eq_true rfl) dJ2_grow_2_56 (fun H1 locs h1 hz ho hS => ?_)
  have hR := hR.putXL hX h1 hz ho
  exact W.aret hx hb hr (Or.inr ⟨_, rfl⟩) (Or.inr ⟨_, rfl⟩) (fun t ht _ => ⟨⟨(), r, rfl, trivial, rpt ht hR⟩, hS.F ht⟩) hS.2.2 dJ2_grow_2_59
theorem hd_J2_grow : yJ2_grow.cls = RJ2 ∧ yJ2_grow.cls ≠ "java/lang/invoke/MethodHandle" ∧ yJ2_grow.cls ≠ "java/lang/invoke/VarHandle" ∧ (parseMethodDescriptor yJ2_grow.desc).map (fun d => d.parameters.length) = some 0 := by decide +kernel
abbrev rm_J2_grow : Room := { frames := 3, cells := 1, slots := 10, locals := 90 }
set_option maxHeartbeats 4000000 in
theorem m_J2_grow {l : Launch} {κ : Kx} {w : Wd} {y : Ly} {X : XR} {a : Nat} {mc : Int32} (hX : X a (eL mc (kA κ 1) 0)) : Met l yJ2_grow (ws_ yJ2_grow cJ2_grow 1 (Option.some (Jvm.ClassFile.FieldType.array (Jvm.ClassFile.FieldType.object "java/lang/Object")))) rm_J2_grow (va_Pc [.ref a] (RC κ w y X)) (va_Qr (fun _ : Unit => True) (fun _ r t => Rp κ w y (upX X a (eL mc r 0)) [(r, eA κ (fun _ => none))] t.heap) (Af κ)) 1 10 (Af κ) := by
  refine Met.ofW (cc := cJ2_grow) (maxL := 1) (ret := (Option.some (Jvm.ClassFile.FieldType.array (Jvm.ClassFile.FieldType.object "java/lang/Object")))) (by decide) rfl ?_
  intro p e s m args below meth c s₁ B hml hv
  obtain ⟨rfl, hR, hK⟩ := hv
  have hx := B.exec
  have hb := B.bytes
  have hr := B.returns
  have hts := atoms_spec (ws := ws_ yJ2_grow cJ2_grow 1 (Option.some (Jvm.ClassFile.FieldType.array (Jvm.ClassFile.FieldType.object "java/lang/Object")))) B.pre
  have hts : ∀ w ∈ lw_all, w.before _ s = true := fun w h => hts w (List.mem_cons_of_mem _ h)
  have hown : s.vm.findClass RJ2 = some m.cls := findClass_of_methodNamed B.named
  have hlocks := B.notSynchronized
  have hS : va_S (Af κ) s.heap s.heap [] := va_S.rf
  have hl := lv_entry ([.ref a]) (n := 1) (Nat.le_of_ble_eq_true rfl)
  rw [lg_entry_eq]
  generalize (lg_sl ([.ref a]) ++ List.replicate (1 - (lg_sl ([.ref a])).length) Slot.unset).toArray = ls at hl ⊢
  have hl : lv_has ls 1 [(0, .ref a)] := hl
  refine lv_aload_n hx hb dJ2_grow_0 rfl (lv_at hl 0 rfl) ?_
  refine lv_aload_n hx hb dJ2_grow_1 rfl (lv_at hl 0 rfl) ?_
  refine xa_get (T := TJ2) (N := 3) (v := .int 0) hx hb hts in_J2 hown hK.1 (hR.X hX) rfl 2 (by decide) q146 rfl rfl dJ2_grow_2 ?_
  refine lv_iconst (v := 1) hx hb dJ2_grow_5 (by decide) ?_
  refine lv_iadd hx hb dJ2_grow_6 ?_
  rw [show (0 : Int32) + 1 = 1 from by decide]
  refine va_callr (cr_V (n := 1) (As := [.int 1]) (rest := []) ⟨hx, hb, hml, hown, hts⟩ hK hR (m_J2_grow_2 (X := xl X []) (Or.inl hX)) q857 q859 qs19 q77 q860 rfl rfl hd_J2_grow_2 ⟨Nat.le_of_ble_eq_true rfl, Nat.le_of_ble_eq_true rfl⟩ (rv_at hK (hR.X hX) rfl) rfl rfl hl.1 rfl (lv_room (Nat.le_of_ble_eq_true rfl)) dJ2_grow_7 ⟨Nat.le_of_ble_eq_true rfl, Nat.le_of_ble_eq_true rfl⟩) hS (fun _ _ h => h) (fun _ h => h) (fun u r t H1 locs1 ht _ _ hB _ _ hS => ?_)
  rw [ht] at hB
  have hR := hR.wroteX hX hB
  exact W.aret hx hb hr (Or.inr ⟨_, rfl⟩) (Or.inr ⟨_, rfl⟩) (fun t ht _ => ⟨⟨(), r, rfl, trivial, rpt ht hR⟩, hS.F ht⟩) hS.2.2 dJ2_grow_10
theorem hd_J2_add_2 : yJ2_add_2.cls = RJ2 ∧ yJ2_add_2.cls ≠ "java/lang/invoke/MethodHandle" ∧ yJ2_add_2.cls ≠ "java/lang/invoke/VarHandle" ∧ (parseMethodDescriptor yJ2_add_2.desc).map (fun d => d.parameters.length) = some 3 := by decide +kernel
abbrev rm_J2_add_2 : Room := { frames := 4, cells := 1, slots := 10, locals := 120 }
set_option maxHeartbeats 4000000 in
theorem m_J2_add_2 {l : Launch} {κ : Kx} {w : Wd} {y : Ly} {X : XR} {a q : Nat} {mc : Int32} (hX : X a (eL mc (kA κ 1) 0)) (hO : ∀ (X1 : XR) (L : va_W) (H : Heap), (∀ z g, z ≠ a → X z g → X1 z g) → Rp κ w y X1 L H → Ob κ H q) : Met l yJ2_add_2 (ws_ yJ2_add_2 cJ2_add_2 4 (Option.none : Option Jvm.ClassFile.FieldType)) rm_J2_add_2 (va_Pc [.ref a, .ref q, .ref (kA κ 1), .int 0] (RC κ w y X)) (va_Qv (fun _ : Nat => True) (fun r t => Rp κ w y (upX X a (eL mc r 1)) [(r, eA κ (va_up (fun _ => none) 0 (some q)))] t.heap) (Af κ)) 1 10 (Af κ) := by
  refine Met.ofW (cc := cJ2_add_2) (maxL := 4) (ret := (Option.none : Option Jvm.ClassFile.FieldType)) (by decide) rfl ?_
  intro p e s m args below meth c s₁ B hml hv
  obtain ⟨rfl, hR, hK⟩ := hv
  have hx := B.exec
  have hb := B.bytes
  have hr := B.returns
  have hts := atoms_spec (ws := ws_ yJ2_add_2 cJ2_add_2 4 (Option.none : Option Jvm.ClassFile.FieldType)) B.pre
  have hts : ∀ w ∈ lw_all, w.before _ s = true := fun w h => hts w (List.mem_cons_of_mem _ h)
  have hown : s.vm.findClass RJ2 = some m.cls := findClass_of_methodNamed B.named
  have hlocks := B.notSynchronized
  have hS : va_S (Af κ) s.heap s.heap [] := va_S.rf
  have hl := lv_entry ([.ref a, .ref q, .ref (kA κ 1), .int 0]) (n := 4) (Nat.le_of_ble_eq_true rfl)
  rw [lg_entry_eq]
  generalize (lg_sl ([.ref a, .ref q, .ref (kA κ 1), .int 0]) ++ List.replicate (4 - (lg_sl ([.ref a, .ref q, .ref (kA κ 1), .int 0])).length) Slot.unset).toArray = ls at hl ⊢
  have hl : lv_has ls 4 [(0, .ref a), (1, .ref q), (2, .ref (kA κ 1)), (3, .int 0)] := hl
  have hE : va_at (kD κ) Cl (kA κ 1, .inl (kT κ 4, (0, .inr (.inr (.inr (.inr (fun _ => none))))))) s.heap := hK.2.2.2.1.kept (hR.1.2 _ hK.2.2.2.2.2.1.2.1)
  refine lv_iload_n hx hb dJ2_add_2_0 rfl (lv_at hl 3 rfl) ?_
  refine lv_aload_n hx hb dJ2_add_2_1 rfl (lv_at hl 2 rfl) ?_
  refine xa_alen hx hb hK.1 hE 4 rfl dJ2_add_2_2 ?_
  refine lv_icmp_ne (tgt := 11) hx hb dJ2_add_2_3 (by decide) (fun c => absurd (by decide) c) (fun _ => ?_)
  refine lv_aload_n hx hb dJ2_add_2_6 rfl (lv_at hl 0 rfl) ?_
  refine va_callr (cr_V (n := 0) (As := []) (rest := []) ⟨hx, hb, hml, hown, hts⟩ hK hR (m_J2_grow (X := xl X []) (Or.inl hX)) q853 q855 qs18 q77 q856 rfl rfl hd_J2_grow ⟨Nat.le_of_ble_eq_true rfl, Nat.le_of_ble_eq_true rfl⟩ (rv_at hK (hR.X hX) rfl) rfl rfl hl.1 rfl (lv_room (Nat.le_of_ble_eq_true rfl)) dJ2_add_2_7 ⟨Nat.le_of_ble_eq_true rfl, Nat.le_of_ble_eq_true rfl⟩) hS (fun _ _ h => h) (fun _ h => h) (fun u r t H1 locs1 ht _ _ hB _ _ hS => ?_)
  rw [ht] at hB
  have hR := hR.wroteX hX hB
  clear hB ht hE
  generalize H1 = H at hR hS ⊢
  refine lv_astore_n (lv' := [(2, .ref r), (0, .ref a), (1, .ref q), (3, .int 0)]) hx hb dJ2_add_2_10 rfl hl (by decide) rfl (fun ls hl => ?_)
  refine lv_aload_n hx hb dJ2_add_2_11 rfl (lv_at hl 0 rfl) ?_
  refine lv_iload_n hx hb dJ2_add_2_12 rfl (lv_at hl 3 rfl) ?_
  refine lv_aload_n hx hb dJ2_add_2_13 rfl (lv_at hl 2 rfl) ?_
  obtain ⟨ci, vs, r9, hc9, hq9, hv9⟩ := hO _ _ _ (fun z g hz hx => Or.inr ⟨hz, hx⟩) hR
  refine xa_aast hx hb hK.1 hS (hR.LD.2 0 _ rfl) (hR.L 0 _ rfl) 4 rfl (hK.2.1.2.2.1 _ hq9) hv9 hc9 (by unfold vp_in; decide) dJ2_add_2_14 (fun H1 locs h1 hz ho hS => ?_)
  have hR := hR.putL (t := 0) rfl h1 hz ho
  clear h1 hz ho hv9
  generalize H1 = H at hR hS ⊢
  refine lv_aload_n hx hb dJ2_add_2_15 rfl (lv_at hl 1 rfl) ?_
  refine lv_iload_n hx hb dJ2_add_2_16 rfl (lv_at hl 3 rfl) ?_
  refine lv_iconst (v := 1) hx hb dJ2_add_2_17 (by decide) ?_
  refine lv_iadd hx hb dJ2_add_2_18 ?_
  rw [show (0 : Int32) + 1 = 1 from by decide]
  refine xa_put (T := TJ2) (N := 3) hx hb hts in_J2 tyJ2 tyJ2_ok nmJ2 hown hK.1 hS (hR.2.2.2.1 _ _ (upX_self _ _ _)).2.1 (hR.X (upX_self _ _ _)) rfl 2 (by decide) q146 rfl rfl rfl rfl (Nat.le_of_ble_eq_true rfl) dJ2_add_2_19 (fun H1 locs h1 hz ho hS => ?_)
  have hR := hR.putXL2 h1 hz ho
  exact W.vret hx hb hr (fun t ht hW9 => ⟨⟨r, rfl, trivial, rpt ht hR⟩, hS.F ht⟩) hS.2.2 dJ2_add_2_22
abbrev rm_J2_add_2N : Room := { frames := 4, locals := 120 }
set_option maxHeartbeats 4000000 in
theorem m_J2_add_2N {l : Launch} {κ : Kx} {w : Wd} {y : Ly} {X : XR} {a q r n : Nat} {mc : Int32} {f : Nat → Option Nat} (har : r ≠ a) (hn : n < 10) (hX : X a (eL mc r (nI n))) (hXr : X r (eA κ f)) (hO : ∀ (X1 : XR) (L : va_W) (H : Heap), (∀ z g, z ≠ a → z ≠ r → X z g → X1 z g) → Rp κ w y X1 L H → Ob κ H q) : Met l yJ2_add_2 (ws_ yJ2_add_2 cJ2_add_2 4 (Option.none : Option Jvm.ClassFile.FieldType)) rm_J2_add_2N (va_Pc [.ref a, .ref q, .ref r, .int (nI n)] (RC κ w y X)) (va_Qv (fun _ : Unit => True) (fun _ t => Rp κ w y (upX (upX X r (eA κ (va_up f n (some q)))) a (eL mc r (nI (n + 1)))) [] t.heap) (Af κ)) 0 0 (Af κ) := by
  refine Met.ofW (cc := cJ2_add_2) (maxL := 4) (ret := (Option.none : Option Jvm.ClassFile.FieldType)) (by decide) rfl ?_
  intro p e s m args below meth c s₁ B hml hv
  obtain ⟨rfl, hR, hK⟩ := hv
  have hx := B.exec
  have hb := B.bytes
  have hr := B.returns
  have hts := atoms_spec (ws := ws_ yJ2_add_2 cJ2_add_2 4 (Option.none : Option Jvm.ClassFile.FieldType)) B.pre
  have hts : ∀ w ∈ lw_all, w.before _ s = true := fun w h => hts w (List.mem_cons_of_mem _ h)
  have hown : s.vm.findClass RJ2 = some m.cls := findClass_of_methodNamed B.named
  have hlocks := B.notSynchronized
  have hS : va_S (Af κ) s.heap s.heap [] := va_S.rf
  have hl := lv_entry ([.ref a, .ref q, .ref r, .int (nI n)]) (n := 4) (Nat.le_of_ble_eq_true rfl)
  rw [lg_entry_eq]
  generalize (lg_sl ([.ref a, .ref q, .ref r, .int (nI n)]) ++ List.replicate (4 - (lg_sl ([.ref a, .ref q, .ref r, .int (nI n)])).length) Slot.unset).toArray = ls at hl ⊢
  have hl : lv_has ls 4 [(0, .ref a), (1, .ref q), (2, .ref r), (3, .int (nI n))] := hl
  refine lv_iload_n hx hb dJ2_add_2_0 rfl (lv_at hl 3 rfl) ?_
  refine lv_aload_n hx hb dJ2_add_2_1 rfl (lv_at hl 2 rfl) ?_
  refine xa_alen hx hb hK.1 (hR.X hXr) 4 rfl dJ2_add_2_2 ?_
  refine lv_icmp_ne (tgt := 11) hx hb dJ2_add_2_3 (by decide) (fun _ => ?_) (fun c => absurd (show nI n = nI 10 from c) (fun c => by have := (nI_eq (by omega) (by decide)).mp c; omega))
  refine lv_aload_n hx hb dJ2_add_2_11 rfl (lv_at hl 2 rfl) ?_
  refine lv_iload_n hx hb dJ2_add_2_12 rfl (lv_at hl 3 rfl) ?_
  refine lv_aload_n hx hb dJ2_add_2_13 rfl (lv_at hl 1 rfl) ?_
  obtain ⟨ci, vs, r9, hc9, hq9, hv9⟩ := hO _ _ _ (fun z g _ _ hx => hx) hR
  refine xa_aast hx hb hK.1 hS (hR.2.2.2.1 _ _ hXr).2.1 (hR.X hXr) 4 rfl (hK.2.1.2.2.1 _ hq9) hv9 hc9 (vp_in_nI (by omega) (by decide)) dJ2_add_2_14 (fun H1 locs h1 hz ho hS => ?_)
  rw [nI_clamp (by omega)] at h1
  have hR := hR.putXL hXr h1 hz ho
  have hX9 : upX X r (eA κ (va_up f n (some q))) a (eL mc r (nI n)) := Or.inr ⟨har.symm, hX⟩
  clear h1 hz ho hv9
  generalize H1 = H at hR hS ⊢
  refine lv_aload_n hx hb dJ2_add_2_15 rfl (lv_at hl 0 rfl) ?_
  refine lv_iload_n hx hb dJ2_add_2_16 rfl (lv_at hl 3 rfl) ?_
  refine lv_iconst (v := 1) hx hb dJ2_add_2_17 (by decide) ?_
  refine lv_iadd hx hb dJ2_add_2_18 ?_
  rw [nI_1]
  refine xa_put (T := TJ2) (N := 3) hx hb hts in_J2 tyJ2 tyJ2_ok nmJ2 hown hK.1 hS (hR.2.2.2.1 _ _ hX9).2.1 (hR.X hX9) rfl 2 (by decide) q146 rfl rfl rfl rfl (Nat.le_of_ble_eq_true rfl) dJ2_add_2_19 (fun H1 locs h1 hz ho hS => ?_)
  have hR := hR.putXL hX9 h1 hz ho
  exact W.vret hx hb hr (fun t ht hW9 => ⟨⟨(), rfl, trivial, rpt ht hR⟩, hS.F ht⟩) hS.2.2 dJ2_add_2_22
theorem hd_J2_add : yJ2_add.cls = RJ2 ∧ yJ2_add.cls ≠ "java/lang/invoke/MethodHandle" ∧ yJ2_add.cls ≠ "java/lang/invoke/VarHandle" ∧ (parseMethodDescriptor yJ2_add.desc).map (fun d => d.parameters.length) = some 1 := by decide +kernel
abbrev rm_J2_addE : Room := { frames := 5, cells := 1, slots := 10, locals := 150 }
set_option maxHeartbeats 4000000 in
theorem m_J2_addE {l : Launch} {κ : Kx} {w : Wd} {y : Ly} {X : XR} {a q : Nat} {mc : Int32} (hX : X a (eL mc (kA κ 1) 0)) (hO : ∀ (X1 : XR) (L : va_W) (H : Heap), (∀ z g, z ≠ a → X z g → X1 z g) → Rp κ w y X1 L H → Ob κ H q) : Met l yJ2_add (ws_ yJ2_add cJ2_add 2 (Option.some Jvm.ClassFile.FieldType.boolean)) rm_J2_addE (va_Pc [.ref a, .ref q] (RC κ w y X)) (va_Qi (fun (v : Int32) (_ : Nat) => v = 1) (fun r t => Rp κ w y (upX X a (eL (mc + 1) r 1)) [(r, eA κ (va_up (fun _ => none) 0 (some q)))] t.heap) (Af κ)) 1 10 (Af κ) := by
  refine Met.ofW (cc := cJ2_add) (maxL := 2) (ret := (Option.some Jvm.ClassFile.FieldType.boolean)) (by decide) rfl ?_
  intro p e s m args below meth c s₁ B hml hv
  obtain ⟨rfl, hR, hK⟩ := hv
  have hx := B.exec
  have hb := B.bytes
  have hr := B.returns
  have hts := atoms_spec (ws := ws_ yJ2_add cJ2_add 2 (Option.some Jvm.ClassFile.FieldType.boolean)) B.pre
  have hts : ∀ w ∈ lw_all, w.before _ s = true := fun w h => hts w (List.mem_cons_of_mem _ h)
  have hown : s.vm.findClass RJ2 = some m.cls := findClass_of_methodNamed B.named
  have hlocks := B.notSynchronized
  have hS : va_S (Af κ) s.heap s.heap [] := va_S.rf
  have hl := lv_entry ([.ref a, .ref q]) (n := 2) (Nat.le_of_ble_eq_true rfl)
  rw [lg_entry_eq]
  generalize (lg_sl ([.ref a, .ref q]) ++ List.replicate (2 - (lg_sl ([.ref a, .ref q])).length) Slot.unset).toArray = ls at hl ⊢
  have hl : lv_has ls 2 [(0, .ref a), (1, .ref q)] := hl
  refine lv_aload_n hx hb dJ2_add_0 rfl (lv_at hl 0 rfl) ?_
  refine lv_dup hx hb dJ2_add_1 rfl ?_
  refine va_get (T := TJ2) (N := 3) (v := .int mc) hx hb hts in_J2 hown hK.1 (va_P1 (hR.X hX)) 0 rfl rfl 0 (by decide) (hts _ q150) (same_mc hts) rfl dJ2_add_2 ?_
  refine lv_iconst (v := 1) hx hb dJ2_add_5 (by decide) ?_
  refine lv_iadd hx hb dJ2_add_6 ?_
  refine xa_putM (T := TJ2) (N := 3) hx hb hts in_J2 tyJ2 tyJ2_ok nmJ2 hown hK.1 hS (hR.2.2.2.1 _ _ hX).2.1 (hR.X hX) rfl 0 (by decide) q150 (same_mc hts) rfl rfl rfl (Nat.le_of_ble_eq_true rfl) dJ2_add_7 (fun H1 locs h1 hz ho hS => ?_)
  have hR := hR.putXL hX h1 hz ho
  clear h1 hz ho
  generalize H1 = H at hR hS ⊢
  have hX1 : upX X a (eL (mc + 1) (kA κ 1) 0) a (eL (mc + 1) (kA κ 1) 0) := upX_self _ _ _
  refine lv_aload_n hx hb dJ2_add_10 rfl (lv_at hl 0 rfl) ?_
  refine lv_aload_n hx hb dJ2_add_11 rfl (lv_at hl 1 rfl) ?_
  refine lv_aload_n hx hb dJ2_add_12 rfl (lv_at hl 0 rfl) ?_
  refine xa_get (T := TJ2) (N := 3) (v := .ref (kA κ 1)) hx hb hts in_J2 hown hK.1 (hR.X hX1) rfl 1 (by decide) q143 rfl rfl dJ2_add_13 ?_
  refine lv_aload_n hx hb dJ2_add_16 rfl (lv_at hl 0 rfl) ?_
  refine xa_get (T := TJ2) (N := 3) (v := .int 0) hx hb hts in_J2 hown hK.1 (hR.X hX1) rfl 2 (by decide) q146 rfl rfl dJ2_add_17 ?_
  refine va_callv (cr_V (n := 3) (As := [.ref q, .ref (kA κ 1), .int 0]) (rest := []) ⟨hx, hb, hml, hown, hts⟩ hK hR (m_J2_add_2 (X := xl (upX X a (eL (mc + 1) (kA κ 1) 0)) []) (Or.inl hX1) (fun X1 L H h9 hR9 => hO X1 L H (fun z g hz hx => h9 z g hz (Or.inl (Or.inr ⟨hz, hx⟩))) hR9)) q849 q851 qs17 q77 q852 rfl rfl hd_J2_add_2 ⟨Nat.le_of_ble_eq_true rfl, Nat.le_of_ble_eq_true rfl⟩ (rv_at hK (hR.X hX1) rfl) rfl rfl hl.1 rfl (lv_room (Nat.le_of_ble_eq_true rfl)) dJ2_add_20 ⟨Nat.le_of_ble_eq_true rfl, Nat.le_of_ble_eq_true rfl⟩) hS (fun _ _ h => h) (fun _ h => h) (fun r t H1 locs1 ht _ _ hB _ _ hS => ?_)
  rw [ht] at hB
  have hR := hR.wroteX hX1 hB
  rw [upX_upX] at hR
  refine lv_iconst (v := 1) hx hb dJ2_add_23 (by decide) ?_
  exact W.zret (v := 1) hx hb hr rfl (fun t ht _ => ⟨⟨1, r, rfl, rfl, rpt ht hR⟩, hS.F ht⟩) hS.2.2 dJ2_add_24
abbrev rm_J2_addN : Room := { frames := 5, locals := 150 }
set_option maxHeartbeats 4000000 in
theorem m_J2_addN {l : Launch} {κ : Kx} {w : Wd} {y : Ly} {X : XR} {a q r n : Nat} {mc : Int32} {f : Nat → Option Nat} (har : r ≠ a) (hn : n < 10) (hX : X a (eL mc r (nI n))) (hXr : X r (eA κ f)) (hO : ∀ (X1 : XR) (L : va_W) (H : Heap), (∀ z g, z ≠ a → z ≠ r → X z g → X1 z g) → Rp κ w y X1 L H → Ob κ H q) : Met l yJ2_add (ws_ yJ2_add cJ2_add 2 (Option.some Jvm.ClassFile.FieldType.boolean)) rm_J2_addN (va_Pc [.ref a, .ref q] (RC κ w y X)) (va_Qi (fun (v : Int32) (_ : Unit) => v = 1) (fun _ t => Rp κ w y (upX (upX X r (eA κ (va_up f n (some q)))) a (eL (mc + 1) r (nI (n + 1)))) [] t.heap) (Af κ)) 0 0 (Af κ) := by
  refine Met.ofW (cc := cJ2_add) (maxL := 2) (ret := (Option.some Jvm.ClassFile.FieldType.boolean)) (by decide) rfl ?_
  intro p e s m args below meth c s₁ B hml hv
  obtain ⟨rfl, hR, hK⟩ := hv
  have hx := B.exec
  have hb := B.bytes
  have hr := B.returns
  have hts := atoms_spec (ws := ws_ yJ2_add cJ2_add 2 (Option.some Jvm.ClassFile.FieldType.boolean)) B.pre
  have hts : ∀ w ∈ lw_all, w.before _ s = true := fun w h => hts w (List.mem_cons_of_mem _ h)
  have hown : s.vm.findClass RJ2 = some m.cls := findClass_of_methodNamed B.named
  have hlocks := B.notSynchronized
  have hS : va_S (Af κ) s.heap s.heap [] := va_S.rf
  have hl := lv_entry ([.ref a, .ref q]) (n := 2) (Nat.le_of_ble_eq_true rfl)
  rw [lg_entry_eq]
  generalize (lg_sl ([.ref a, .ref q]) ++ List.replicate (2 - (lg_sl ([.ref a, .ref q])).length) Slot.unset).toArray = ls at hl ⊢
  have hl : lv_has ls 2 [(0, .ref a), (1, .ref q)] := hl
  refine lv_aload_n hx hb dJ2_add_0 rfl (lv_at hl 0 rfl) ?_
  refine lv_dup hx hb dJ2_add_1 rfl ?_
  refine va_get (T := TJ2) (N := 3) (v := .int mc) hx hb hts in_J2 hown hK.1 (va_P1 (hR.X hX)) 0 rfl rfl 0 (by decide) (hts _ q150) (same_mc hts) rfl dJ2_add_2 ?_
  refine lv_iconst (v := 1) hx hb dJ2_add_5 (by decide) ?_
  refine lv_iadd hx hb dJ2_add_6 ?_
  refine xa_putM (T := TJ2) (N := 3) hx hb hts in_J2 tyJ2 tyJ2_ok nmJ2 hown hK.1 hS (hR.2.2.2.1 _ _ hX).2.1 (hR.X hX) rfl 0 (by decide) q150 (same_mc hts) rfl rfl rfl (Nat.le_of_ble_eq_true rfl) dJ2_add_7 (fun H1 locs h1 hz ho hS => ?_)
  have hR := hR.putXL hX h1 hz ho
  clear h1 hz ho
  generalize H1 = H at hR hS ⊢
  have hX1 : upX X a (eL (mc + 1) r (nI n)) a (eL (mc + 1) r (nI n)) := upX_self _ _ _
  refine lv_aload_n hx hb dJ2_add_10 rfl (lv_at hl 0 rfl) ?_
  refine lv_aload_n hx hb dJ2_add_11 rfl (lv_at hl 1 rfl) ?_
  refine lv_aload_n hx hb dJ2_add_12 rfl (lv_at hl 0 rfl) ?_
  refine xa_get (T := TJ2) (N := 3) (v := .ref r) hx hb hts in_J2 hown hK.1 (hR.X hX1) rfl 1 (by decide) q143 rfl rfl dJ2_add_13 ?_
  refine lv_aload_n hx hb dJ2_add_16 rfl (lv_at hl 0 rfl) ?_
  refine xa_get (T := TJ2) (N := 3) (v := .int (nI n)) hx hb hts in_J2 hown hK.1 (hR.X hX1) rfl 2 (by decide) q146 rfl rfl dJ2_add_17 ?_
  refine va_callv (cr_V (n := 3) (As := [.ref q, .ref r, .int (nI n)]) (rest := []) ⟨hx, hb, hml, hown, hts⟩ hK hR (m_J2_add_2N (X := xl (upX X a (eL (mc + 1) r (nI n))) []) har hn (Or.inl hX1) (Or.inl (Or.inr ⟨har, hXr⟩)) (fun X1 L H h9 hR9 => hO X1 L H (fun z g hz hz2 hx => h9 z g hz hz2 (Or.inl (Or.inr ⟨hz, hx⟩))) hR9)) q849 q851 qs17 q77 q852 rfl rfl hd_J2_add_2 ⟨Nat.le_of_ble_eq_true rfl, Nat.le_of_ble_eq_true rfl⟩ (rv_at hK (hR.X hX1) rfl) rfl rfl hl.1 rfl (lv_room (Nat.le_of_ble_eq_true rfl)) dJ2_add_20 ⟨Nat.le_of_ble_eq_true rfl, Nat.le_of_ble_eq_true rfl⟩) hS (fun _ _ h => h) (fun _ h => h) (fun u t H1 locs1 ht _ _ hB _ _ hS => ?_)
  rw [ht] at hB
  have hR : Rp κ w y (upX (upX X r (eA κ (va_up f n (some q)))) a (eL (mc + 1) r (nI (n + 1)))) [] H1 := by
    refine hB.back (X := upX (upX X r (eA κ (va_up f n (some q)))) a (eL (mc + 1) r (nI (n + 1)))) (fun z g hz => ?_) (fun _ _ => False) (fun _ _ h _ => ⟨h, rfl, rfl⟩) (fun _ _ _ h => h.elim) (fun _ _ _ _ _ _ h => h.elim) (fun t q h => by simp at h) va_D0
    rcases hz with hz | ⟨h1, hz | ⟨h2, hz⟩⟩
    · exact Or.inl hz
    · exact Or.inr ⟨h1, Or.inl hz⟩
    · exact Or.inr ⟨h1, Or.inr ⟨h2, Or.inl (Or.inr ⟨h1, hz⟩)⟩⟩
  refine lv_iconst (v := 1) hx hb dJ2_add_23 (by decide) ?_
  exact W.zret (v := 1) hx hb hr rfl (fun t ht _ => ⟨⟨1, (), rfl, rfl, rpt ht hR⟩, hS.F ht⟩) hS.2.2 dJ2_add_24
