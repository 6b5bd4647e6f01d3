/-! The holder of a lot is set -/
set_option maxRecDepth 100000
theorem lsC_eq {κ : Kx} {y y' : Ly} {k i : Nat} (h2 : y'.1 (k + 200) i = y.1 (k + 200) i) (h1 : y'.1 (k + 1) i = y.1 (k + 1) i) (h0 : y'.1 (k + 100) i = y.1 (k + 100) i) (ha : y'.2 (k + 1) i = y.2 (k + 1) i) : lsC κ y' k i = lsC κ y k i := by
  unfold lsC
  rw [h2, h1, h0, ha]
theorem laC_eq {κ : Kx} {y y' : Ly} {k i : Nat} (h0 : y'.1 (k + 100) i = y.1 (k + 100) i) (ha : y'.2 (k + 300) = y.2 (k + 300)) : laC κ y' k i = laC κ y k i := by
  unfold laC laF
  rw [h0, ha]
/-- layouts that differ at options only: what other cells hold -/
theorem ce_hold {κ : Kx} {y y' : Ly} {j k i : Nat} {g : Nat → Int32} {d : Int64} (h1 : ∀ k' i', ¬ (k' = 14 ∧ i' = j) → y'.1 k' i' = y.1 k' i') (h2 : ∀ k' i', ¬ (k' = 14 ∧ i' = j) → y'.2 k' i' = y.2 k' i') (hn : ¬ (k = 11 ∧ i = j)) : ce κ y' k i g d = ce κ y k i g d := by
  have a1 : ∀ k', k' ≠ 14 → y'.1 k' = y.1 k' := fun k' h => funext fun i' => h1 k' i' (fun e => h e.1)
  have a2 : ∀ k', k' ≠ 14 → y'.2 k' = y.2 k' := fun k' h => funext fun i' => h2 k' i' (fun e => h e.1)
  unfold ce
  split
  all_goals first
    | rfl
    | (split
       · exact lsC_eq (by rw [a1 _ (by omega)]) (by rw [a1 _ (by omega)]) (by rw [a1 _ (by omega)]) (by rw [a2 _ (by omega)])
       · exact laC_eq (by rw [a1 _ (by omega)]) (a2 _ (by omega)))
    | (simp only [a1 25 (by decide), a2 25 (by decide), a2 1 (by decide), a2 2 (by decide), a2 3 (by decide), a2 4 (by decide), a2 5 (by decide), a2 7 (by decide), a2 8 (by decide), a2 9 (by decide), a2 12 (by decide), a2 13 (by decide), a2 16 (by decide), a2 22 (by decide), a2 23 (by decide), a2 24 (by decide), a2 28 (by decide), a2 29 (by decide), a2 30 (by decide), a2 31 (by decide), a2 32 (by decide), a2 33 (by decide), a2 34 (by decide), a2 35 (by decide), a2 40 (by decide), a2 42 (by decide), a2 44 (by decide), a2 46 (by decide), a2 48 (by decide), a2 50 (by decide), a2 52 (by decide), a2 54 (by decide), a2 56 (by decide), a2 58 (by decide)]; done)
    | (have hi : i ≠ j := fun e => hn ⟨rfl, e⟩
       simp only [a2 12 (by decide), a2 13 (by decide), h1 14 i (fun e => hi e.2), h2 14 i (fun e => hi e.2)])
section HD
variable {p : Program} {l : Launch} {e : Env} {R : Room} {s : State} {m : MethodId} {args : Array Value} {below : List Frame} {meth : Method} {c : Code} {H : Heap} {locs : List Loc} {cells slots : Nat} {Q : State → Prop}
variable {cc : ByteArray} {pc nL index : Nat} {ls : Array Slot} {rest : List Value} {κ : Kx} {w : Wd} {y : Ly} {X : XR} {L : va_W} {own : String}
theorem live_seF {y : Ly} {k i : Nat} {k' i' : Nat} (h : live (seF y k i 0) k' i') : ¬ (k' = k ∧ i' = i) ∧ live y k' i' := by
  by_cases hc : k' = k ∧ i' = i
  · obtain ⟨rfl, rfl⟩ := hc
    have h1 := h.1
    rw [seF_eq] at h1
    cases h1
  · exact ⟨hc, by have h1 := h.1; rw [seF_ne hc] at h1; exact ⟨h1, h.2⟩⟩
theorem p11_8n {i : Nat} (hx : p.tables.exec = Jvm.exec) (hb : c.code = cc) (hts : ∀ w ∈ lw_all, w.before args s = true) (hown : s.vm.findClass own = some m.cls) (hK : KK κ s) (hR : Rp κ w y X L H) (hS : va_S (Af κ) s.heap H locs) (hl : live y 11 i) (hlink : Cond.fieldLink own index "Publicanry$Lot" "holder" "Ljava/util/Optional;" ∈ lw_all) (hdg : decode cc pc = .ok (.putfield index, 3))
    (kk : ∀ (H1 : Heap) (locs1 : List Loc) (y1 : Ly), y1 = seF y 14 i 0 → Rp κ w y1 X L H1 → va_S (Af κ) s.heap H1 locs1 → W p l e R s m args below meth c H1 locs1 cells slots Q (F0 m (pc + 3) ls rest)) : W p l e R s m args below meth c H locs cells slots Q (F0 m pc ls (.ref (kA κ 0) :: .ref (y.2 11 i) :: rest)) := by
  refine xa_put (T := TX15) (N := 15) hx hb hts in_X15 tyX15 tyX15_ok nmX15 hown hK.1 hS (hR.2.1 _ _ hl).2 (hR.role hl) rfl 8 (Nat.le_of_ble_eq_true rfl) hlink rfl rfl rfl rfl (Nat.le_of_ble_eq_true rfl) hdg (fun H1 locs1 h1 hz ho hS1 => kk H1 locs1 _ rfl ?_ hS1)
  refine hR.absorb (w' := w) (y' := seF y 14 i 0) (L' := L) (fun _ _ => False) hl id rfl ?_ hz ho ?_ (fun _ _ _ h => h.elim) (fun _ _ _ _ h => h.elim) (fun t q h => ⟨⟨t, h⟩, fun _ _ h => h.elim⟩) hR.LD
  · have e9 : ce κ (seF y 14 i 0) 11 i (w.1 11 i) w.2 = .inr (9, [.int (nI i), .ref (kA κ (20 + (w.1 11 i 1).toNatClampNeg)), .int (w.1 11 i 2), .int (w.1 11 i 3), .int (w.1 11 i 4), .ref (y.2 12 i), .ref (y.2 13 i), .ref (kA κ (10 + (w.1 11 i 7).toNatClampNeg)), .ref (kA κ 0), .int (w.1 11 i 9), .int (w.1 11 i 10), .int (w.1 11 i 11), .int (w.1 11 i 12), .int (w.1 11 i 13), .int (w.1 11 i 14)]) := by
      show Sum.inr _ = _
      rw [seF_eq]
      rfl
    rw [e9]
    exact h1
  · intro k i' h _ hn
    obtain ⟨n1, n2⟩ := live_seF h
    exact ⟨n2, rfl, ce_hold (j := i) (fun _ _ h => seF_ne h) (fun _ _ _ => rfl) hn⟩
theorem p11_8s {i j q : Nat} (hx : p.tables.exec = Jvm.exec) (hb : c.code = cc) (hts : ∀ w ∈ lw_all, w.before args s = true) (hown : s.vm.findClass own = some m.cls) (hK : KK κ s) (hR : Rp κ w y X L H) (hS : va_S (Af κ) s.heap H locs) (hl : live y 11 i) (hL : L = [(q, .inr (18, [.ref (y.2 9 j)]))]) (hj : j < 100) (hlink : Cond.fieldLink own index "Publicanry$Lot" "holder" "Ljava/util/Optional;" ∈ lw_all) (hdg : decode cc pc = .ok (.putfield index, 3))
    (kk : ∀ (H1 : Heap) (locs1 : List Loc) (w1 : Wd) (y1 : Ly), w1 = sv w 14 i 0 (nI j) → y1 = seF (seA y 14 i q) 14 i 1 → Rp κ w1 y1 X [] H1 → va_S (Af κ) s.heap H1 locs1 → W p l e R s m args below meth c H1 locs1 cells slots Q (F0 m (pc + 3) ls rest)) : W p l e R s m args below meth c H locs cells slots Q (F0 m pc ls (.ref q :: .ref (y.2 11 i) :: rest)) := by
  refine xa_put (T := TX15) (N := 15) hx hb hts in_X15 tyX15 tyX15_ok nmX15 hown hK.1 hS (hR.2.1 _ _ hl).2 (hR.role hl) rfl 8 (Nat.le_of_ble_eq_true rfl) hlink rfl rfl rfl rfl (Nat.le_of_ble_eq_true rfl) hdg (fun H1 locs1 h1 hz ho hS1 => kk H1 locs1 _ _ rfl rfl ?_ hS1)
  subst hL
  have f1 : ∀ k' i', ¬ (k' = 14 ∧ i' = i) → (seF (seA y 14 i q) 14 i 1).1 k' i' = y.1 k' i' := fun k' i' h => seF_ne h
  have f2 : ∀ k' i', ¬ (k' = 14 ∧ i' = i) → (seF (seA y 14 i q) 14 i 1).2 k' i' = y.2 k' i' := fun k' i' h => seA_ne h
  refine hR.absorb (w' := sv w 14 i 0 (nI j)) (y' := seF (seA y 14 i q) 14 i 1) (L' := []) (fun k' i' => k' = 14 ∧ i' = i) hl (fun h => by cases h.1) (f2 _ _ (fun h => by cases h.1)) ?_ hz ho ?_ ?_ (fun k i k' i' h h' _ => ⟨h.1.trans h'.1.symm, h.2.trans h'.2.symm⟩) (fun t q h => by simp at h) va_D0
  · have e9 : ce κ (seF (seA y 14 i q) 14 i 1) 11 i ((sv w 14 i 0 (nI j)).1 11 i) (sv w 14 i 0 (nI j)).2 = .inr (9, [.int (nI i), .ref (kA κ (20 + (w.1 11 i 1).toNatClampNeg)), .int (w.1 11 i 2), .int (w.1 11 i 3), .int (w.1 11 i 4), .ref (y.2 12 i), .ref (y.2 13 i), .ref (kA κ (10 + (w.1 11 i 7).toNatClampNeg)), .ref q, .int (w.1 11 i 9), .int (w.1 11 i 10), .int (w.1 11 i 11), .int (w.1 11 i 12), .int (w.1 11 i 13), .int (w.1 11 i 14)]) := by
      rw [sv_ne _ _ _ _ _ (fun h => by cases h.1)]
      show Sum.inr _ = _
      rw [seF_eq, if_pos rfl, f2 12 i (fun h => by cases h.1), f2 13 i (fun h => by cases h.1)]
      rw [show (seF (seA y 14 i q) 14 i 1).2 14 i = q from seA_eq]
    rw [e9]
    exact h1
  · intro k i' h hA hn
    have h9 := h.1
    rw [f1 k i' hA] at h9
    refine ⟨⟨h9, h.2⟩, f2 k i' hA, ?_⟩
    rw [sv_ne _ _ _ _ _ hA]
    exact ce_hold (j := i) f1 f2 hn
  · rintro k i' h ⟨rfl, rfl⟩
    refine ⟨0, ?_⟩
    rw [show (seF (seA y 14 i' q) 14 i' 1).2 14 i' = q from seA_eq]
    show some (q, Sum.inr (18, [Value.ref (y.2 9 j)])) = some (q, Sum.inr (18, [Value.ref ((seF (seA y 14 i' q) 14 i' 1).2 9 ((sv w 14 i' 0 (nI j)).1 14 i' 0).toNatClampNeg)]))
    rw [sv_same, show upd (w.1 14 i') 0 (nI j) 0 = nI j from if_pos rfl, nI_clamp (by omega), f2 9 j (fun h => by cases h.1)]
end HD
theorem WFc.same14 {κ : Kx} {y y' : Ly} (h : WFc κ y) (h1 : ∀ k, k ≠ 14 → y'.1 k = y.1 k) (h2 : ∀ k, k ≠ 14 → y'.2 k = y.2 k) : WFc κ y' := by
  have e : WFc κ y' = WFc κ y := by
    unfold WFc live nV nC nL nP
    rw [h1 0 (by decide), h1 1 (by decide), h1 2 (by decide), h1 3 (by decide), h1 4 (by decide), h1 5 (by decide), h1 6 (by decide), h1 7 (by decide), h1 8 (by decide), h1 9 (by decide), h1 10 (by decide), h1 11 (by decide), h1 12 (by decide), h1 13 (by decide), h1 15 (by decide), h1 16 (by decide), h1 40 (by decide), h1 41 (by decide), h1 42 (by decide), h1 43 (by decide), h1 44 (by decide), h1 45 (by decide), h1 46 (by decide), h1 47 (by decide), h1 48 (by decide), h1 49 (by decide), h1 140 (by decide), h1 142 (by decide), h1 144 (by decide), h1 146 (by decide), h1 148 (by decide), h2 340 (by decide), h2 342 (by decide), h2 344 (by decide), h2 346 (by decide), h2 348 (by decide), h2 6 (by decide), h2 9 (by decide), h2 10 (by decide), h2 11 (by decide), h2 15 (by decide)]
  rw [e]
  exact h
theorem WFc.hoN {κ : Kx} {y : Ly} {i : Nat} (h : WFc κ y) : WFc κ (seF y 14 i 0) := h.same14 (fun _ hk => funext fun _ => seF_ne (fun e => hk e.1)) (fun _ _ => rfl)
theorem WFc.hoS {κ : Kx} {y : Ly} {i q : Nat} (h : WFc κ y) : WFc κ (seF (seA y 14 i q) 14 i 1) := h.same14 (fun _ hk => funext fun _ => seF_ne (fun e => hk e.1)) (fun _ hk => funext fun _ => seA_ne (fun e => hk e.1))
theorem leS_hoN {y : Ly} {i : Nat} : LeS y (seF y 14 i 0) := LeS.seF rfl
theorem leS_hoS {y : Ly} {i q : Nat} : LeS y (seF (seA y 14 i q) 14 i 1) := LeS.trans (LeS.seA rfl) (LeS.seF rfl)
