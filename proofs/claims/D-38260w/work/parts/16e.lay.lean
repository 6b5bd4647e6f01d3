/-! LAYOUTS that differ in the volatile cells only (options, levies, rows of levies, boxes) -/
set_option maxRecDepth 100000
def vol (k : Nat) : Bool := k == 14 || k == 15 || k == 16 || k == 25 || k == 36 || k == 137
def vol2 (k : Nat) : Bool := k == 14 || k == 15 || k == 16 || k == 25 || k == 36 || k == 346 || k == 356 || k == 358
def LeS (y y' : Ly) : Prop := (∀ k, vol k = false → y'.1 k = y.1 k) ∧ ∀ k, vol2 k = false → y'.2 k = y.2 k
theorem LeS.rf {y : Ly} : LeS y y := ⟨fun _ _ => rfl, fun _ _ => rfl⟩
theorem LeS.trans {a b c : Ly} (h : LeS a b) (h1 : LeS b c) : LeS a c := ⟨fun k hk => (h1.1 k hk).trans (h.1 k hk), fun k hk => (h1.2 k hk).trans (h.2 k hk)⟩
theorem LeS.symm {a b : Ly} (h : LeS a b) : LeS b a := ⟨fun k hk => (h.1 k hk).symm, fun k hk => (h.2 k hk).symm⟩
theorem LeS.live {a b : Ly} (h : LeS a b) {k i : Nat} (hk : vol k = false) (hl : live a k i) : live b k i := ⟨by rw [h.1 k hk]; exact hl.1, hl.2⟩
theorem LeS.it {a b : Ly} (h : LeS a b) {k : Nat} (hk : vol (k + 200) = false) (hk2 : vol2 k = false) (i c : Nat) (z : Int32) : itC b k i c z = itC a k i c z := by
  unfold itC
  rw [h.1 _ hk, h.2 _ hk2]
def seF (y : Ly) (k i v : Nat) : Ly := (fun k' i' => if k' = k ∧ i' = i then v else y.1 k' i', y.2)
def seA (y : Ly) (k i a : Nat) : Ly := (y.1, fun k' i' => if k' = k ∧ i' = i then a else y.2 k' i')
theorem seF_ne {y : Ly} {k i v k' i' : Nat} (h : ¬ (k' = k ∧ i' = i)) : (seF y k i v).1 k' i' = y.1 k' i' := if_neg h
theorem seF_eq {y : Ly} {k i v : Nat} : (seF y k i v).1 k i = v := if_pos ⟨rfl, rfl⟩
theorem seA_ne {y : Ly} {k i v k' i' : Nat} (h : ¬ (k' = k ∧ i' = i)) : (seA y k i v).2 k' i' = y.2 k' i' := if_neg h
theorem seA_eq {y : Ly} {k i v : Nat} : (seA y k i v).2 k i = v := if_pos ⟨rfl, rfl⟩
theorem LeS.seF {y : Ly} {k i v : Nat} (hk : vol k = true) : LeS y (seF y k i v) := ⟨fun k' h => funext fun i' => seF_ne (fun e => by rw [e.1, hk] at h; cases h), fun _ _ => rfl⟩
theorem LeS.seA {y : Ly} {k i v : Nat} (hk : vol2 k = true) : LeS y (seA y k i v) := ⟨fun _ _ => rfl, fun k' h => funext fun i' => seA_ne (fun e => by rw [e.1, hk] at h; cases h)⟩
section CY
variable {p : Program} {l : Launch} {e : Env} {R : Room} {s : State} {m : MethodId} {args : Array Value} {below : List Frame} {meth : Method} {c : Code} {H : Heap} {locs : List Loc} {cells slots : Nat} {Q : State → Prop}
variable {pc mc ms : Nat} {ls : Array Slot} {rest st0 : List Value} {a : Array Value} {κ : Kx} {w : Wd} {y : Ly} {X : XR} {L : va_W} {Sg : Type} {fw : Sg → Wd} {fy : Sg → Ly} {P : Sg → Prop}
theorem cey_qi {post : Int32 → Sg → Prop} (hr : va_Run p l e R s m args below meth c H locs cells slots mc ms (F0 m pc ls st0) rest (va_Qi post (fun u t => Rp κ (fw u) (fy u) (xl X L) [] t.heap ∧ P u) (Af κ) a) (Af κ)) (hR : Rp κ w y X L H) (hS : va_S (Af κ) s.heap H locs)
    (kk : ∀ (r : Int32) (u : Sg) (H1 : Heap) (locs1 : List Loc), post r u → P u → Rp κ (fw u) (fy u) X L H1 → H.size ≤ H1.size → va_S (Af κ) s.heap H1 locs1 → W p l e R s m args below meth c H1 locs1 (cells + mc) (slots + ms) Q (F0 m (pc + 3) ls (.int r :: rest))) : W p l e R s m args below meth c H locs cells slots Q (F0 m pc ls st0) :=
  va_calli hr hS (fun _ _ h => h) (fun _ h => h) (fun r u t H1 locs1 ht _ hp hB hz _ hS => kk r u H1 locs1 hp hB.2 (hR.up (by rw [← ht]; exact hB.1)) hz hS)
theorem cey_qv {post : Sg → Prop} (hr : va_Run p l e R s m args below meth c H locs cells slots mc ms (F0 m pc ls st0) rest (va_Qv post (fun u t => Rp κ (fw u) (fy u) (xl X L) [] t.heap ∧ P u) (Af κ) a) (Af κ)) (hR : Rp κ w y X L H) (hS : va_S (Af κ) s.heap H locs)
    (kk : ∀ (u : Sg) (H1 : Heap) (locs1 : List Loc), post u → P u → Rp κ (fw u) (fy u) X L H1 → H.size ≤ H1.size → va_S (Af κ) s.heap H1 locs1 → W p l e R s m args below meth c H1 locs1 (cells + mc) (slots + ms) Q (F0 m (pc + 3) ls rest)) : W p l e R s m args below meth c H locs cells slots Q (F0 m pc ls st0) :=
  va_callv hr hS (fun _ _ h => h) (fun _ h => h) (fun u t H1 locs1 ht _ hp hB hz _ hS => kk u H1 locs1 hp hB.2 (hR.up (by rw [← ht]; exact hB.1)) hz hS)
end CY
