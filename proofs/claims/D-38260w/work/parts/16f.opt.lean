/-! OPTIONS made by the program; cells that go over from the temporaries into the world -/
set_option maxRecDepth 100000
/-- one cell of the world is written; temporaries go over into the world (A); the layout changes -/
theorem Rp.absorb {κ : Kx} {w w' : Wd} {y y' : Ly} {X : XR} {L L' : va_W} {H H1 : Heap} (h : Rp κ w y X L H) (A : Nat → Nat → Prop) {k0 i0 : Nat} (hl0 : live y k0 i0) (hA0 : ¬ A k0 i0) (e0 : y'.2 k0 i0 = y.2 k0 i0)
    (h1 : va_at (kD κ) Cl (y.2 k0 i0, ce κ y' k0 i0 (w'.1 k0 i0) w'.2) H1) (hz : H1.size = H.size) (ho : ∀ q : Nat, q ≠ y.2 k0 i0 → H1[q]? = H[q]?)
    (hd1 : ∀ k i, live y' k i → ¬ A k i → ¬ (k = k0 ∧ i = i0) → live y k i ∧ y'.2 k i = y.2 k i ∧ ce κ y' k i (w'.1 k i) w'.2 = ce κ y k i (w.1 k i) w.2)
    (hd2 : ∀ k i, live y' k i → A k i → ∃ t : Nat, L[t]? = some (y'.2 k i, ce κ y' k i (w'.1 k i) w'.2))
    (hdi : ∀ k i k' i', A k i → A k' i' → y'.2 k i = y'.2 k' i' → k = k' ∧ i = i')
    (hL : ∀ (t : Nat) (q : Nat × va_E), L'[t]? = some q → (∃ t0 : Nat, L[t0]? = some q) ∧ ∀ k i, A k i → y'.2 k i ≠ q.1) (hD : va_D (Af κ) L') : Rp κ w' y' X L' H1 := by
  obtain ⟨⟨a1, a2⟩, a3, a4, a5, a6, a7, a8⟩ := h
  have hk0 := (a3 k0 i0 hl0).2
  refine ⟨⟨by rw [hz]; exact a1, fun q hq => ?_⟩, fun k i hl => ?_, fun k i k' i' hl hl' e => ?_, fun q e hx => ?_, fun t q ht => ?_, hD, fun t q ht => ?_⟩
  · rw [ho q (by omega)]
    exact a2 q hq
  · by_cases hA : A k i
    · obtain ⟨t, ht⟩ := hd2 k i hl hA
      refine ⟨(a6 t _ ht).kept (ho _ (fun e => (a8 t _ ht).2 k0 i0 hl0 e.symm)), a7.2 t _ ht⟩
    · by_cases hc : k = k0 ∧ i = i0
      · obtain ⟨rfl, rfl⟩ := hc
        rw [e0]
        exact ⟨h1, hk0⟩
      · obtain ⟨b1, b2, b3⟩ := hd1 k i hl hA hc
        rw [b2, b3]
        exact ⟨(a3 k i b1).1.kept (ho _ (fun e => hc (a4 _ _ _ _ b1 hl0 e))), (a3 k i b1).2⟩
  · have old : ∀ k i, live y' k i → ¬ A k i → live y k i ∧ y'.2 k i = y.2 k i := fun k i hl hA => by
      by_cases hc : k = k0 ∧ i = i0
      · obtain ⟨rfl, rfl⟩ := hc
        exact ⟨hl0, e0⟩
      · exact ⟨(hd1 k i hl hA hc).1, (hd1 k i hl hA hc).2.1⟩
    by_cases hA : A k i
    · by_cases hA' : A k' i'
      · exact hdi k i k' i' hA hA' e
      · obtain ⟨t, ht⟩ := hd2 k i hl hA
        obtain ⟨b1, b2⟩ := old k' i' hl' hA'
        exact absurd (b2.symm.trans e.symm) ((a8 t _ ht).2 k' i' b1)
    · by_cases hA' : A k' i'
      · obtain ⟨t, ht⟩ := hd2 k' i' hl' hA'
        obtain ⟨b1, b2⟩ := old k i hl hA
        exact absurd (b2.symm.trans e) ((a8 t _ ht).2 k i b1)
      · obtain ⟨b1, b2⟩ := old k i hl hA
        obtain ⟨c1, c2⟩ := old k' i' hl' hA'
        exact a4 _ _ _ _ b1 c1 (b2.symm.trans (e.trans c2))
  · obtain ⟨b1, b2, b3⟩ := a5 q e hx
    refine ⟨b1.kept (ho q (fun e => b3 k0 i0 hl0 e.symm)), b2, fun k i hl e9 => ?_⟩
    by_cases hA : A k i
    · obtain ⟨t, ht⟩ := hd2 k i hl hA
      exact (a8 t _ ht).1 e (by rw [e9]; exact hx)
    · by_cases hc : k = k0 ∧ i = i0
      · obtain ⟨rfl, rfl⟩ := hc
        exact b3 k i hl0 (e0.symm.trans e9)
      · obtain ⟨c1, c2, -⟩ := hd1 k i hl hA hc
        exact b3 k i c1 (c2.symm.trans e9)
  · obtain ⟨⟨t0, h0⟩, -⟩ := hL t q ht
    exact (a6 t0 q h0).kept (ho _ (fun e => (a8 t0 q h0).2 k0 i0 hl0 e.symm))
  · obtain ⟨⟨t0, h0⟩, h9⟩ := hL t q ht
    refine ⟨(a8 t0 q h0).1, fun k i hl e => ?_⟩
    by_cases hA : A k i
    · exact h9 k i hA e
    · by_cases hc : k = k0 ∧ i = i0
      · obtain ⟨rfl, rfl⟩ := hc
        exact (a8 t0 q h0).2 k i hl0 (e0.symm.trans e)
      · obtain ⟨c1, c2, -⟩ := hd1 k i hl hA hc
        exact (a8 t0 q h0).2 k i c1 (c2.symm.trans e)
def wnL (y : Ly) : Option Nat → Nat → va_W
  | none, _ => []
  | some j, ra => [(ra, .inr (18, [.ref (y.2 9 j)]))]
def wnP (κ : Kx) (y : Ly) : Option Nat → Nat → Prop
  | none, ra => ra = kA κ 0
  | some j, _ => live y 9 j
section OPT
variable {p : Program} {l : Launch} {e : Env} {R : Room} {s : State} {m : MethodId} {args : Array Value} {below : List Frame} {meth : Method} {c : Code} {H : Heap} {locs : List Loc} {cells slots : Nat} {Q : State → Prop}
variable {cc : ByteArray} {pc nL index : Nat} {ls : Array Slot} {rest : List Value} {κ : Kx} {w : Wd} {y : Ly} {X : XR} {L : va_W} {own : String}
theorem jr_empty (S : CallFix p m c cc nL s args lw_all own) (hK : KK κ s) (hR : Rp κ w y X L H) (q1 : Cond.methodLink own index yJ9_empty ∈ lw_all) (hRm : rm_J9_empty.frames + 1 ≤ R.frames ∧ 8 + (1 + 11) + rm_J9_empty.locals ≤ R.locals) (hsize : ls.size = nL) (hW : (rest.map fun v => v.category).sum ≤ 8) (hdg : decode cc pc = .ok (.invokestatic index, 3)) (hf : cells + 0 ≤ R.cells ∧ slots + 0 ≤ R.slots)
    (kk : W p l e R s m args below meth c H locs cells slots Q (F0 m (pc + 3) ls (.ref (kA κ 0) :: rest))) : W p l e R s m args below meth c H locs cells slots Q (F0 m pc ls rest) :=
  ce_s (cr_S (n := 0) (As := []) (rest := rest) S hK hR m_J9_empty q1 q841 q93 q842 rfl rfl hds_J9_empty hRm rfl rfl hsize rfl (lv_room hW) hdg hf) kk
theorem jr_of (S : CallFix p m c cc nL s args lw_all own) (hK : KK κ s) (hR : Rp κ w y X L H) (hS : va_S (Af κ) s.heap H locs) {a : Nat} (q1 : Cond.methodLink own index yJ9_of ∈ lw_all) (hRm : rm_J9_of.frames + 1 ≤ R.frames ∧ 8 + (1 + 11) + rm_J9_of.locals ≤ R.locals) (hsize : ls.size = nL) (hW : (rest.map fun v => v.category).sum ≤ 8) (hdg : decode cc pc = .ok (.invokestatic index, 3)) (hf : cells + 1 ≤ R.cells ∧ slots + 1 ≤ R.slots)
    (kk : ∀ (q : Nat) (H1 : Heap) (locs1 : List Loc), Rp κ w y X (L ++ [(q, .inr (18, [.ref a]))]) H1 → va_S (Af κ) s.heap H1 locs1 → W p l e R s m args below meth c H1 locs1 (cells + 1) (slots + 1) Q (F0 m (pc + 3) ls (.ref q :: rest))) : W p l e R s m args below meth c H locs cells slots Q (F0 m pc ls (.ref a :: rest)) :=
  va_callr (cr_S (n := 1) (As := [.ref a]) (rest := rest) S hK hR m_J9_of q1 q1356 q93 q1357 rfl rfl hds_J9_of hRm rfl rfl hsize rfl (lv_room hW) hdg hf) hS (fun _ _ h => h) (fun _ h => h) (fun u q t H1 locs1 ht _ _ hB _ _ hS => kk q H1 locs1 (hR.up2 (ht ▸ hB)) hS)
theorem ce_wn {mc ms : Nat} {st0 : List Value} {a : Array Value} {post : Option Nat × Wd → Prop} (hr : va_Run p l e R s m args below meth c H locs cells slots mc ms (F0 m pc ls st0) rest (va_Qr post (fun u ra t => Rp κ u.2 y (xl X L) (wnL y u.1 ra) t.heap ∧ wnP κ y u.1 ra) (Af κ) a) (Af κ)) (hR : Rp κ w y X L H) (hS : va_S (Af κ) s.heap H locs)
    (kk : ∀ (u : Option Nat × Wd) (ra : Nat) (H1 : Heap) (locs1 : List Loc), post u → wnP κ y u.1 ra → Rp κ u.2 y X (L ++ wnL y u.1 ra) H1 → va_S (Af κ) s.heap H1 locs1 → W p l e R s m args below meth c H1 locs1 (cells + mc) (slots + ms) Q (F0 m (pc + 3) ls (.ref ra :: rest))) : W p l e R s m args below meth c H locs cells slots Q (F0 m pc ls st0) :=
  va_callr hr hS (fun _ _ h => h) (fun _ h => h) (fun u ra t H1 locs1 ht _ hp hB _ _ hS => kk u ra H1 locs1 hp hB.2 (hR.up2 (ht ▸ hB.1)) hS)
end OPT
