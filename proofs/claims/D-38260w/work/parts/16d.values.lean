/-! Duty.values (printed by wip gen/vals.py); xa_clone follows the kit's va_clone, with the whole heap in sight -/
set_option maxRecDepth 100000
abbrev dvC (κ : Kx) : va_E := .inl (kT κ 7, (3, .inr (.inr (.inr (.inr (fun t => some (kA κ (20 + t))))))))
section VL
variable {p : Program} {l : Launch} {e : Env} {R : Room} {s : State} {m : MethodId} {args : Array Value} {below : List Frame} {meth : Method} {c : Code} {H : Heap} {locs : List Loc} {cells slots : Nat} {Q : State → Prop}
variable {cc : ByteArray} {pc nL mc ms n index maxL : Nat} {ls : Array Slot} {rest : List Value} {κ : Kx} {w : Wd} {y : Ly} {X : XR} {L : va_W} {own : String} {a : Nat} {D : va_G}
theorem xa_clone (hexec : p.tables.exec = Jvm.exec) (hb : c.code = cc) (hml : c.maxLocals = ls.size) {ad : String} (hown : s.vm.findClass own = some m.cls)
    (hlink : (Cond.methodLink own index ⟨ad, "clone", "()Ljava/lang/Object;"⟩).before args s = true) (hsame : (Cond.sameMethod ad "java/lang/Object" "clone" "()Ljava/lang/Object;").before args s = true)
    (hnat : (Cond.native ⟨"java/lang/Object", "clone", "()Ljava/lang/Object;"⟩).before args s = true) (hinst : (Cond.instanceMethod ⟨"java/lang/Object", "clone", "()Ljava/lang/Object;"⟩).before args s = true)
    (hsel : (Cond.selects ad ⟨ad, "clone", "()Ljava/lang/Object;"⟩ ⟨"java/lang/Object", "clone", "()Ljava/lang/Object;"⟩).before args s = true) (hcl : va_Nw (.castable ad "java/lang/Cloneable") s)
    {tys : List (ClassId × FieldType)} (hK : va_K D Cl tys s) (t0 : Nat) {cA : ClassId} {x : vp_A} {ty : FieldType} (ha : va_at D Cl (a, .inl (cA, x)) H) (ht : tys[t0]? = some (cA, ty))
    (hnm : s.vm.findClass ad = some cA) (hfit : ∀ (i : Nat) (v : Value), (vp_cell cA x).slots[i]? = some v → fits ty v = true)
    (hframes : 1 ≤ R.frames) (hlocals : (rest.map fun v => v.category).sum + 14 ≤ R.locals) (hcells : cells + 1 ≤ R.cells) (hslots : slots + x.1 ≤ R.slots) (hdg : decode cc pc = .ok (.invokevirtual index, 3))
    (kk : ∀ (q : Nat) (H1 : Heap), q = H.size → va_at D Cl (q, .inl (cA, x)) H1 → H1.size = H.size + 1 → (∀ q : Nat, q < H.size → H1[q]? = H[q]?) →
      W p l e R s m args below meth c H1 locs (cells + 1) (slots + x.1) Q (F0 m (pc + 3) ls (.ref q :: rest))) : W p l e R s m args below meth c H locs cells slots Q (F0 m pc ls (.ref a :: rest)) := by
  have hsz : (vp_cell cA x).slots.size = x.1 := by
    obtain ⟨n, f | f | f | f | f⟩ := x <;> exact arrV_size _ _ _
  have hvm0 : (vp_cell cA x).vm = .none := by
    obtain ⟨n, f | f | f | f | f⟩ := x <;> rfl
  have hcl0 : (vp_cell cA x).cls = cA := by
    obtain ⟨n, f | f | f | f | f⟩ := x <;> rfl
  have hcellE : ({ cls := (vp_cell cA x).cls, slots := (vp_cell cA x).slots } : Cell) = vp_cell cA x := by
    obtain ⟨n, f | f | f | f | f⟩ := x <;> rfl
  obtain ⟨c0, t0', f1, f2, f3⟩ := Cond.castable_spec (va_Nw.use (A := args) rfl hcl)
  cases hnm.symm.trans f1
  intro T hT X
  have hcellT : T.heap[a]? = some (vp_cell cA x) := by rw [hT]; exact ha
  obtain ⟨-, kA, hkA, comp, hkind⟩ := State.isArrayOf_alike X.warmed.alike ((hK.2 t0 _ ht).1 0 (fun _ => .null))
  obtain ⟨-, kS, hkS, compS, hkindS⟩ := (hK.2 t0 _ ht).1 0 (fun _ => .null)
  obtain ⟨vm', X', st⟩ := X.cloneArray hexec hown hlink hsame hnat hinst hsel (a := a) (cell := vp_cell cA x) hcellT (fun k h => by rw [hvm0] at h; cases h) (by rw [hvm0]; exact fun h => by cases h) (by rw [hcl0]; exact hnm) f2 (by rw [hcl0]; exact f3)
    (fun i v hv => by
      rw [hcl0]
      have hk' : T.vm.classes[cA]? = some kA := hkA
      simpa [State.fitsSlot, State.slotType?, hk', hkind] using hfit i v hv)
    (g := F0 m pc ls (.ref a :: rest)) rfl (by rw [hml]) rfl (by rw [hb]; exact hdg) hframes (by show 2 * 0 + _ + 14 ≤ _; omega) hcells (by rw [hsz]; exact hslots) (hloader := by rw [hcl0]; exact Vm.clonesLoader_of_array hkS hkindS)
  rw [hcellE, hsz] at X'
  generalize hH1 : H.push (vp_cell cA x) = H1
  have z1 : H1.size = H.size + 1 := by rw [← hH1, Array.size_push]
  have e1 : H1[H.size]? = some (vp_cell cA x) := by rw [← hH1, Array.getElem?_push_size]
  have o1 : ∀ q : Nat, q < H.size → H1[q]? = H[q]? := fun q hq => by rw [← hH1, Array.getElem?_push, if_neg (Nat.ne_of_lt hq)]
  obtain ⟨t, b1, b2⟩ := kk H.size H1 rfl e1 z1 o1 ((T.setVm vm').pushCell (vp_cell cA x)) (by rw [← hH1, ← hT]; rfl) X'
  refine ⟨t, st t ?_, b2⟩
  rw [hcellE, hT]
  exact b1
end VL
theorem hds_X7_values : yX7_values.cls ≠ "java/lang/invoke/MethodHandle" ∧ yX7_values.cls ≠ "java/lang/invoke/VarHandle" ∧ (parseMethodDescriptor yX7_values.desc).map (fun d => d.parameters.length) = some 0 := by decide +kernel
abbrev rm_X7_values : Room := { frames := 1, cells := 1, slots := 3, locals := 20 }
set_option maxHeartbeats 4000000 in
theorem m_X7_values {l : Launch} {κ : Kx} {w : Wd} {y : Ly} {X : XR} : Met l yX7_values (ws_ yX7_values cX7_values 0 (Option.some (Jvm.ClassFile.FieldType.array (Jvm.ClassFile.FieldType.object "Publicanry$Duty")))) rm_X7_values (va_Pc [] (RC κ w y X)) (va_Qr (fun _ : Unit => True) (fun _ q t => Rp κ w y X [(q, dvC κ)] t.heap) (Af κ)) 1 3 (Af κ) := by
  refine Met.ofW (cc := cX7_values) (maxL := 0) (ret := (Option.some (Jvm.ClassFile.FieldType.array (Jvm.ClassFile.FieldType.object "Publicanry$Duty")))) (by decide) rfl ?_
  intro p e s m args below meth c s₁ B hml hv
  obtain ⟨rfl, hR, hK⟩ := hv
  have hx := B.exec
  have hb := B.bytes
  have hr := B.returns
  have hts := atoms_spec (ws := ws_ yX7_values cX7_values 0 (Option.some (Jvm.ClassFile.FieldType.array (Jvm.ClassFile.FieldType.object "Publicanry$Duty")))) B.pre
  have hts : ∀ w ∈ lw_all, w.before _ s = true := fun w h => hts w (List.mem_cons_of_mem _ h)
  have hown : s.vm.findClass RX7 = some m.cls := findClass_of_methodNamed B.named
  have hS : va_S (Af κ) s.heap s.heap [] := va_S.rf
  have hl := lv_entry ([]) (n := 0) (Nat.le_of_ble_eq_true rfl)
  rw [lg_entry_eq]
  generalize (lg_sl ([]) ++ List.replicate (0 - (lg_sl ([])).length) Slot.unset).toArray = ls at hl ⊢
  have hV : va_at (kD κ) Cl (kA κ 30, dvC κ) s.heap := hK.2.2.2.2.1.kept (hR.1.2 _ hK.2.2.2.2.2.1.2.2.1)
  refine jr_gets (own := RX7) (j := 30) hx hb hown hK hR hS (List.mem_of_getElem? (i := 6) rfl) q209 hts dX7_values_0 ?_
  refine xa_clone hx hb (hml.trans hl.1.symm) hown (hts _ q211) (hts _ q212) (hts _ q213) (hts _ q214) (hts _ q215) (hK.2.1.2.2.1 _ (List.mem_of_getElem? (i := 47) rfl)) hK.1 7 hV rfl (va_nmO (hK.1.2 7 _ rfl).2 (by decide +kernel)) ?_ (Nat.le_of_ble_eq_true rfl) (Nat.le_of_ble_eq_true rfl) (Nat.le_of_ble_eq_true rfl) (Nat.le_of_ble_eq_true rfl) dX7_values_3 (fun q H1 hq h1 hz ho => ?_)
  · intro i v hv
    by_cases hi : i < 3
    · rw [show (vp_cell (kT κ 7) (3, .inr (.inr (.inr (.inr (fun t => some (kA κ (20 + t)))))))).slots[i]? = some (.ref (kA κ (20 + i))) from arrV_read _ _ hi] at hv
      cases hv
      rfl
    · have := (Array.getElem?_eq_some_iff.mp hv).1
      rw [show (vp_cell (kT κ 7) (3, .inr (.inr (.inr (.inr (fun t => some (kA κ (20 + t)))))))).slots.size = 3 from arrV_size _ _ _] at this
      exact absurd this hi
  have hS1 : va_S (Af κ) s.heap H1 [] := ⟨Nat.le_trans hS.1 (by omega), fun q h1 h2 => (ho q (Nat.lt_of_lt_of_le h1 hS.1)).trans (hS.2.1 q h1 h2), hS.2.2⟩
  have hR1 := hR.newL hq h1 (by omega) ho
  refine va_castA (q0 := 0) hx hb hown (hts _ q218) (va_P1 h1) rfl (va_nmO (hK.1.2 7 _ rfl).2 (by decide +kernel)) dX7_values_6 ?_
  exact W.aret hx hb hr (Or.inr ⟨_, rfl⟩) (Or.inr ⟨_, rfl⟩) (fun t ht _ => ⟨⟨(), q, rfl, trivial, rpt ht hR1⟩, hS1.F ht⟩) hS1.2.2 dX7_values_9
theorem jr_values {p : Program} {l : Launch} {e : Env} {R : Room} {s : State} {m : MethodId} {args : Array Value} {below : List Frame} {meth : Method} {c : Code} {H : Heap} {locs : List Loc} {cells slots : Nat} {Q : State → Prop} {cc : ByteArray} {pc nL index : Nat} {ls : Array Slot} {rest : List Value} {κ : Kx} {w : Wd} {y : Ly} {X : XR} {L : va_W} {own : String}
    (S : CallFix p m c cc nL s args lw_all own) (hK : KK κ s) (hR : Rp κ w y X L H) (hS : va_S (Af κ) s.heap H locs) (q1 : Cond.methodLink own index yX7_values ∈ lw_all) (hRm : rm_X7_values.frames + 1 ≤ R.frames ∧ 8 + (0 + 11) + rm_X7_values.locals ≤ R.locals) (hsize : ls.size = nL) (hW : (rest.map fun v => v.category).sum ≤ 8) (hdg : decode cc pc = .ok (.invokestatic index, 3)) (hf : cells + 1 ≤ R.cells ∧ slots + 3 ≤ R.slots)
    (kk : ∀ (q : Nat) (H1 : Heap) (locs1 : List Loc), Rp κ w y X (L ++ [(q, dvC κ)]) H1 → va_S (Af κ) s.heap H1 locs1 → W p l e R s m args below meth c H1 locs1 (cells + 1) (slots + 3) Q (F0 m (pc + 3) ls (.ref q :: rest))) : W p l e R s m args below meth c H locs cells slots Q (F0 m pc ls rest) :=
  va_callr (cr_S (n := 0) (As := []) (rest := rest) S hK hR m_X7_values q1 q207 q84 q208 rfl rfl hds_X7_values hRm rfl rfl hsize rfl (lv_room hW) hdg hf) hS (fun _ _ h => h) (fun _ h => h) (fun u q t H1 locs1 ht _ _ hB _ _ hS => kk q H1 locs1 (hR.up2 (ht ▸ hB)) hS)
