/-! ROWS of the reference's levies: an array of arrays; a list's indexOf -/
set_option maxRecDepth 100000
def sr (w : Wd) (k i : Nat) (f : Nat → Int32) : Wd := (fun k' i' => if k' = k ∧ i' = i then f else w.1 k' i', w.2)
theorem sr_same {w : Wd} {k i : Nat} {f : Nat → Int32} : (sr w k i f).1 k i = f := if_pos ⟨rfl, rfl⟩
theorem sr_ne {w : Wd} {k i k' i' : Nat} {f : Nat → Int32} (h : ¬ (k' = k ∧ i' = i)) : (sr w k i f).1 k' i' = w.1 k' i' := if_neg h
def yRow (y : Ly) (e q : Nat) : Ly := seF (seA y 25 e q) 25 e 1
theorem leS_row {y : Ly} {e q : Nat} : LeS y (yRow y e q) := LeS.trans (LeS.seA rfl) (LeS.seF rfl)
theorem yRow_1 {y : Ly} {e q k i : Nat} (h : ¬ (k = 25 ∧ i = e)) : (yRow y e q).1 k i = y.1 k i := seF_ne h
theorem yRow_2 {y : Ly} {e q k i : Nat} (h : ¬ (k = 25 ∧ i = e)) : (yRow y e q).2 k i = y.2 k i := seA_ne h
theorem WFm.same25 {κ : Kx} {y y' : Ly} (h : WFm κ y) (h1 : ∀ k, k ≠ 25 → y'.1 k = y.1 k) (h2 : ∀ k, k ≠ 25 → y'.2 k = y.2 k) : WFm κ y' := by
  have e : WFm κ y' = WFm κ y := by
    unfold WFm live mV mC mL mS mT bxO
    rw [h1 20 (by decide), h1 21 (by decide), h1 22 (by decide), h1 23 (by decide), h1 24 (by decide), h1 26 (by decide), h1 27 (by decide), h1 28 (by decide), h1 29 (by decide), h1 30 (by decide), h1 31 (by decide), h1 32 (by decide), h1 33 (by decide), h1 34 (by decide), h1 35 (by decide), h1 36 (by decide), h1 50 (by decide), h1 51 (by decide), h1 52 (by decide), h1 53 (by decide), h1 54 (by decide), h1 55 (by decide), h1 56 (by decide), h1 57 (by decide), h1 58 (by decide), h1 59 (by decide), h1 137 (by decide), h1 150 (by decide), h1 152 (by decide), h1 154 (by decide), h1 156 (by decide), h1 158 (by decide), h2 350 (by decide), h2 352 (by decide), h2 354 (by decide), h2 356 (by decide), h2 358 (by decide), h2 21 (by decide), h2 26 (by decide), h2 27 (by decide), h2 36 (by decide)]
  rw [e]
  exact h
theorem WFm.row {κ : Kx} {y : Ly} {e q : Nat} (h : WFm κ y) : WFm κ (yRow y e q) := h.same25 (fun k hk => funext fun _ => yRow_1 (fun e => hk e.1)) (fun k hk => funext fun _ => yRow_2 (fun e => hk e.1))
theorem ce_row {κ : Kx} {y : Ly} {j d q k i : Nat} {g : Nat → Int32} {l : Int64} (hd : d < 3) (h24 : ¬ (k = 24 ∧ i = j)) : ce κ (yRow y (3 * j + d) q) k i g l = ce κ y k i g l := by
  have a1 : ∀ k', k' ≠ 25 → (yRow y (3 * j + d) q).1 k' = y.1 k' := fun k' h => funext fun i' => yRow_1 (fun e => h e.1)
  have a2 : ∀ k', k' ≠ 25 → (yRow y (3 * j + d) q).2 k' = y.2 k' := fun k' h => funext fun i' => yRow_2 (fun e => h e.1)
  have b1 : ∀ i', i' ≠ 3 * j + d → (yRow y (3 * j + d) q).1 25 i' = y.1 25 i' := fun i' h => yRow_1 (fun e => h e.2)
  have b2 : ∀ i', i' ≠ 3 * j + d → (yRow y (3 * j + d) q).2 25 i' = y.2 25 i' := fun i' h => yRow_2 (fun e => h e.2)
  generalize yRow y (3 * j + d) q = y' at *
  unfold ce
  split
  all_goals first
    | rfl
    | (have n24 : k ≠ 24 := by assumption
       split
       · exact lsC_eq (by rw [a1 _ (by omega)]) (by rw [a1 _ (by omega)]) (by rw [a1 _ (by omega)]) (by rw [a2 _ (by omega)])
       · exact laC_eq (by rw [a1 _ (by omega)]) (a2 _ (by omega)))
    | (simp only [a1 14 (by decide), a1 15 (by decide), a2 14 (by decide), a2 15 (by decide), a2 1 (by decide), a2 2 (by decide), a2 3 (by decide), a2 4 (by decide), a2 5 (by decide), a2 7 (by decide), a2 8 (by decide), a2 9 (by decide), a2 12 (by decide), a2 13 (by decide), a2 16 (by decide), a2 22 (by decide), a2 23 (by decide), a2 24 (by decide), a2 28 (by decide), a2 29 (by decide), a2 30 (by decide), a2 31 (by decide), a2 32 (by decide), a2 33 (by decide), a2 34 (by decide), a2 35 (by decide), a2 40 (by decide), a2 42 (by decide), a2 44 (by decide), a2 46 (by decide), a2 48 (by decide), a2 50 (by decide), a2 52 (by decide), a2 54 (by decide), a2 56 (by decide), a2 58 (by decide)]; done)
    | (have hf : (fun t => if t < 3 ∧ y'.1 25 (3 * i + t) = 1 then some (y'.2 25 (3 * i + t)) else none) = (fun t => if t < 3 ∧ y.1 25 (3 * i + t) = 1 then some (y.2 25 (3 * i + t)) else none) := by
         funext t
         by_cases ht : t < 3
         · have hne : 3 * i + t ≠ 3 * j + d := fun e => h24 ⟨rfl, by omega⟩
           rw [b1 _ hne, b2 _ hne]
         · rw [if_neg (fun e => ht e.1), if_neg (fun e => ht e.1)]
       rw [hf])
section RW
variable {p : Program} {l : Launch} {e : Env} {R : Room} {s : State} {m : MethodId} {args : Array Value} {below : List Frame} {meth : Method} {c : Code} {H : Heap} {locs : List Loc} {cells slots : Nat} {Q : State → Prop}
variable {cc : ByteArray} {pc nL index : Nat} {ls : Array Slot} {rest : List Value} {κ : Kx} {w : Wd} {y : Ly} {X : XR} {L : va_W} {own : String}
theorem a24 {i : Nat} {j : Int32} (hx : p.tables.exec = Jvm.exec) (hb : c.code = cc) (hK : KK κ s) (hR : Rp κ w y X L H) (hl : live y 24 i) (hin : vp_in j 3) (hdg : decode cc pc = .ok (.aaload, 1))
    (k1 : y.1 25 (3 * i + j.toNatClampNeg) = 1 → W p l e R s m args below meth c H locs cells slots Q (F0 m (pc + 1) ls (.ref (y.2 25 (3 * i + j.toNatClampNeg)) :: rest)))
    (k2 : ¬ y.1 25 (3 * i + j.toNatClampNeg) = 1 → W p l e R s m args below meth c H locs cells slots Q (F0 m (pc + 1) ls (.null :: rest))) : W p l e R s m args below meth c H locs cells slots Q (F0 m pc ls (.int j :: .ref (y.2 24 i) :: rest)) := by
  have hlt := vp_lt hin
  have go : ∀ v : Value, va_rf (if j.toNatClampNeg < 3 ∧ y.1 25 (3 * i + j.toNatClampNeg) = 1 then some (y.2 25 (3 * i + j.toNatClampNeg)) else none) = v → W p l e R s m args below meth c H locs cells slots Q (F0 m (pc + 1) ls (v :: rest)) → W p l e R s m args below meth c H locs cells slots Q (F0 m pc ls (.int j :: .ref (y.2 24 i) :: rest)) := fun v hv kk => by
    subst hv
    exact W.aald (v := va_rf (if j.toNatClampNeg < 3 ∧ y.1 25 (3 * i + j.toNatClampNeg) = 1 then some (y.2 25 (3 * i + j.toNatClampNeg)) else none)) (ty := .array .int) hx hb (hR.role hl) ((hK.1.2 6 _ rfl).1 3 (fun t => va_rf (if t < 3 ∧ y.1 25 (3 * i + t) = 1 then some (y.2 25 (3 * i + t)) else none))) rfl (fun q => by cases q) (by show ¬ (j < 0 ∨ (arrV _ _ _).slots.size ≤ _); rw [arrV_size]; exact hin) (by show (arrV _ _ _).slots[_]? = _; rw [arrV_read _ _ hlt]) rfl rfl hdg kk
  by_cases h : y.1 25 (3 * i + j.toNatClampNeg) = 1
  · exact go _ (by rw [if_pos ⟨hlt, h⟩]; rfl) (k1 h)
  · exact go _ (by rw [if_neg (fun e => h e.2)]; rfl) (k2 h)
theorem b24 {i q : Nat} {j : Int32} {f : Nat → Int32} (hx : p.tables.exec = Jvm.exec) (hb : c.code = cc) (hK : KK κ s) (hR : Rp κ w y X L H) (hS : va_S (Af κ) s.heap H locs) (hl : live y 24 i) (hin : vp_in j 3) (hL : L = [(q, .inl (kT κ 0, (6, .inl f)))]) (hdg : decode cc pc = .ok (.aastore, 1))
    (kk : ∀ (H1 : Heap) (locs1 : List Loc) (w1 : Wd) (y1 : Ly), w1 = sr w 25 (3 * i + j.toNatClampNeg) f → y1 = yRow y (3 * i + j.toNatClampNeg) q → Rp κ w1 y1 X [] H1 → va_S (Af κ) s.heap H1 locs1 → W p l e R s m args below meth c H1 locs1 cells slots Q (F0 m (pc + 1) ls rest)) : W p l e R s m args below meth c H locs cells slots Q (F0 m pc ls (.ref q :: .int j :: .ref (y.2 24 i) :: rest)) := by
  have hlt := vp_lt hin
  have h0 : ¬ j < 0 := fun q => hin (Or.inl q)
  have hM := hR.role hl
  have hQ : va_at (kD κ) Cl (q, .inl (kT κ 0, (6, .inl f))) H := hR.L 0 _ (by rw [hL]; rfl)
  have hAR : va_AR .int s := hK.2.1.2.2.2.2.2.1.2.2.2.1
  obtain ⟨comp, cA, kA9, k1, k2, k3, k4, k5⟩ := arrayOverA_spec hAR
  have e1 : s.vm.findClass ("[" ++ (FieldType.array .int).toString) = some (kT κ 6) := (hK.1.2 6 _ rfl).2
  have e2 : s.vm.findClass ("[" ++ FieldType.int.toString) = some (kT κ 0) := (hK.1.2 0 _ rfl).2
  cases Option.some.inj (k5.symm.trans e1)
  cases Option.some.inj (k1.symm.trans e2)
  obtain ⟨kC, hkC, -⟩ := Vm.findClass_spec e2
  refine W.aast hx hb hM (fun q h => by cases h) (fun h => by cases h) k3 k4 rfl hkC ⟨h0, by show _ < (arrV _ _ _).slots.size; rw [arrV_size]; exact hlt⟩ hQ (fun q h => by cases h) hkC (va_asg _ _) rfl rfl hdg fun H1 e z oq => ?_
  refine kk H1 _ _ _ rfl rfl ?_ (hS.put z oq (hR.2.1 _ _ hl).2)
  generalize j.toNatClampNeg = d at hlt e ⊢
  subst hL
  refine hR.absorb (A := fun k' i' => k' = 25 ∧ i' = 3 * i + d) (L' := []) hl (fun h => by omega) (yRow_2 (fun e => by omega)) ?_ z oq ?_ ?_ (fun k i k' i' h h' _ => ⟨h.1.trans h'.1.symm, h.2.trans h'.2.symm⟩) (fun t q h => by simp at h) va_D0
  · show H1[y.2 24 i]? = some (vp_cell _ _)
    rw [e]
    rw [vp_cell_q, vp_cell_q, arrV_store]
    congr 2
    funext t
    by_cases ht : t = d
    · subst ht
      have h8 : (yRow y (3 * i + t) q).1 25 (3 * i + t) = 1 := seF_eq
      have h9 : (yRow y (3 * i + t) q).2 25 (3 * i + t) = q := seA_eq
      simp [updV, va_rf, h8, h9, hlt]
    · have h8 : (yRow y (3 * i + d) q).1 25 (3 * i + t) = y.1 25 (3 * i + t) := yRow_1 (fun e => ht (by omega))
      have h9 : (yRow y (3 * i + d) q).2 25 (3 * i + t) = y.2 25 (3 * i + t) := yRow_2 (fun e => ht (by omega))
      simp [updV, ht, h8, h9]
  · intro k i' h hA hn
    have h9 := h.1
    rw [yRow_1 hA] at h9
    refine ⟨⟨h9, h.2⟩, yRow_2 hA, ?_⟩
    rw [sr_ne hA]
    exact ce_row hlt hn
  · rintro k i' h ⟨rfl, rfl⟩
    refine ⟨0, ?_⟩
    rw [show (yRow y (3 * i + d) q).2 25 (3 * i + d) = q from seA_eq, sr_same]
    rfl
end RW
