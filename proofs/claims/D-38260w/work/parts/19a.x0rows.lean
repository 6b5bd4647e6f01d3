/-! THE LAW's WRAPPERS: rows (printed by wip gen/x0.py) -/
set_option maxRecDepth 100000
/-- nothing is thrown -/
abbrev XF (κ : Kx) : String → State → State → Prop := vx_X (fun _ : Unit => False) (fun _ _ _ => True) (Af κ)
theorem Rp.xsame {κ : Kx} {w : Wd} {y : Ly} {X : XR} {L : va_W} {H : Heap} {a : Nat} {e0 : va_E} (hX : X a e0) (h : Rp κ w y X L H) : Rp κ w y (upX X a e0) L H := by
  obtain ⟨a12, a3, a4, a5, a6, a7, a8⟩ := h
  have key : ∀ q e, upX X a e0 q e → X q e := by
    intro q e hx
    rcases hx with ⟨rfl, rfl⟩ | ⟨-, hx⟩
    · exact hX
    · exact hx
  exact ⟨a12, a3, a4, fun q e hx => a5 q e (key q e hx), a6, a7, fun t q ht => ⟨fun e hx => (a8 t q ht).1 e (key _ _ hx), (a8 t q ht).2⟩⟩
section XO
variable {p : Program} {l : Launch} {e : Env} {R : Room} {s : State} {m : MethodId} {args : Array Value} {below : List Frame} {meth : Method} {c : Code} {H : Heap} {locs : List Loc} {cells slots : Nat} {Q : State → Prop}
variable {cc : ByteArray} {pc mc ms : Nat} {ls : Array Slot} {rest st0 : List Value} {κ : Kx} {w : Wd} {y : Ly} {X : XR} {L : va_W} {a : Array Value} {px : String → Wd → Prop}
theorem xa_putN {D : va_G} {A : Nat → Prop} {a : Nat} {tys : List (ClassId × FieldType)} {H0 : Heap} (hx : p.tables.exec = Jvm.exec) (hb : c.code = cc) {own ref C host : String} {T : u_T} {N ci index : Nat} (hts : ∀ w ∈ lw_all, w.before args s = true) (hin : ∀ w ∈ u_ws C T N, w ∈ lw_all) (ty0 : Nat → FieldType) (hty : ∀ k, k < N → parseFieldDescriptor (T k).2.2.1 = some (ty0 k)) (hnm : ∀ a, a < N → ∀ b, b < N → a ≠ b → (T a).2.1 ≠ (T b).2.1) (hown : s.vm.findClass own = some m.cls) (hK : va_K D Cl tys s) {fs : List Value} (hS0 : va_S A H0 H locs) (hA : A a) (he : va_at D Cl (a, .inr (ci, fs)) H) (hc : Cl[ci]? = some (C, T, N)) (k : Nat) (hk : k < N) (hlink : (Cond.fieldLinkNest own index ref (T k).2.1 (T k).2.2.1 host).before args s = true) (href : ref = (T k).1) (hfin : (T k).2.2.2 = false) {v : Value} (hn : narrow (ty0 k) v = v) (hfit : fits (ty0 k) v = true) (hl : k < fs.length)
    (hdg : decode cc pc = .ok (.putfield index, 3)) (kk : ∀ (H1 : Heap) (locs1 : List Loc), va_at D Cl (a, .inr (ci, fs.set k v)) H1 → H1.size = H.size → (∀ q : Nat, q ≠ a → H1[q]? = H[q]?) → va_S A H0 H1 locs1 → W p l e R s m args below meth c H1 locs1 cells slots Q (F0 m (pc + 3) ls rest)) : W p l e R s m args below meth c H locs cells slots Q (F0 m pc ls (v :: .ref a :: rest)) := by
  have hap := va_apart (own := own) hts hin ty0 hty hnm hK hc
  have hd := hty k hk
  obtain ⟨r, h1, cell, q1, q2, q3, q4⟩ := he
  have hr : r = (C, T, N) := Option.some.inj (h1.symm.trans hc)
  subst hr
  subst href
  obtain ⟨hS, hfc, kC, hkC, hkind⟩ := hK.1 ci _ hc
  obtain ⟨cf, kf, fi, f, hi, hsl⟩ := hS k hk
  have hlay := hts _ (hin _ (u_in_lay hk))
  unfold u_lay at hlay
  rw [if_neg (by rw [hfin]; decide)] at hlay
  have hst := (u_facts hfc hkC (u_lays hts hin hk) hi).1
  have h6 := u_store hfc hkC hkind hlay hi hd hn hfit
  refine va_WputK hx hb (f := f) hown hlink hi hst (by rw [q2]; exact h6) q1 q3 (by rw [hsl]; exact k2_hasslot (q4 k hk)) rfl rfl hdg fun H' e1 e2 e3 => ?_
  rw [hsl] at e1 ⊢
  exact kk H' _ ⟨_, hc, t_OB.to (V := updV (vp_V fs) k v) ⟨_, e1, q2, q3, t_set q4 hap hk v⟩ (fun j _ => vp_updV_set hl v j)⟩ e2 e3 (hS0.put e2 e3 hA)
theorem cew_qi {Sg : Type} {fw : Sg → Wd} {fy : Sg → Ly} {BB : Sg → Prop} {PB : Sg → State → Prop} {post : Int32 → Sg → Prop} (hPB : ∀ u t, PB u t → Rp κ (fw u) (fy u) (xl X L) [] t.heap ∧ BB u) (hr : vx_Run p l e R s m args below meth c H locs cells slots mc ms (F0 m pc ls st0) rest (va_Qi post PB (Af κ) a) (XCk κ y (xl X L) px) (Af κ)) (hR : Rp κ w y X L H) (hS : va_S (Af κ) s.heap H locs)
    (kx : ∀ (E : String) (ce : Cell) (q9 : Addr) (u : Wd) (H1 : Heap) (locs1 : List Loc), px E u → Rp κ u y X L H1 → va_S (Af κ) s.heap H1 locs1 → H1[q9]? = some ce → ce.vm = .none → s.vm.findClass E = some ce.cls → vx_W p l e R s m args below meth c H1 locs1 (cells + mc) (slots + ms) Q (F0 m pc ls rest) q9)
    (kk : ∀ (r : Int32) (u : Sg) (H1 : Heap) (locs1 : List Loc), post r u → BB u → Rp κ (fw u) (fy u) X L H1 → va_S (Af κ) s.heap H1 locs1 → W p l e R s m args below meth c H1 locs1 (cells + mc) (slots + ms) Q (F0 m (pc + 3) ls (.int r :: rest))) : W p l e R s m args below meth c H locs cells slots Q (F0 m pc ls st0) :=
  vx_calli hr hS (fun _ _ h => h) (fun _ h => h) (fun _ _ h => h) (fun E ce q9 u t H1 locs1 e1 _ _ hu _ _ hS hcell hv hcl => kx E ce q9 u H1 locs1 hu.1 (hR.up (by rw [← e1]; exact hu.2)) hS hcell hv hcl) (fun r u t H1 locs1 ht _ hp hB hz _ hS => kk r u H1 locs1 hp (hPB u t hB).2 (hR.up (by rw [← ht]; exact (hPB u t hB).1)) hS)
theorem cew_qd {Sg : Type} {fw : Sg → Wd} {fy : Sg → Ly} {BB : Sg → Prop} {PB : Sg → State → Prop} {post : UInt64 → Sg → Prop} (hPB : ∀ u t, PB u t → Rp κ (fw u) (fy u) (xl X L) [] t.heap ∧ BB u) (hr : vx_Run p l e R s m args below meth c H locs cells slots mc ms (F0 m pc ls st0) rest (va_Qd post PB (Af κ) a) (XCk κ y (xl X L) px) (Af κ)) (hR : Rp κ w y X L H) (hS : va_S (Af κ) s.heap H locs)
    (kx : ∀ (E : String) (ce : Cell) (q9 : Addr) (u : Wd) (H1 : Heap) (locs1 : List Loc), px E u → Rp κ u y X L H1 → va_S (Af κ) s.heap H1 locs1 → H1[q9]? = some ce → ce.vm = .none → s.vm.findClass E = some ce.cls → vx_W p l e R s m args below meth c H1 locs1 (cells + mc) (slots + ms) Q (F0 m pc ls rest) q9)
    (kk : ∀ (r : UInt64) (u : Sg) (H1 : Heap) (locs1 : List Loc), post r u → BB u → Rp κ (fw u) (fy u) X L H1 → va_S (Af κ) s.heap H1 locs1 → W p l e R s m args below meth c H1 locs1 (cells + mc) (slots + ms) Q (F0 m (pc + 3) ls (.double r :: rest))) : W p l e R s m args below meth c H locs cells slots Q (F0 m pc ls st0) :=
  vx_calld hr hS (fun _ _ h => h) (fun _ h => h) (fun _ _ h => h) (fun E ce q9 u t H1 locs1 e1 _ _ hu _ _ hS hcell hv hcl => kx E ce q9 u H1 locs1 hu.1 (hR.up (by rw [← e1]; exact hu.2)) hS hcell hv hcl) (fun r u t H1 locs1 ht _ hp hB hz _ hS => kk r u H1 locs1 hp (hPB u t hB).2 (hR.up (by rw [← ht]; exact (hPB u t hB).1)) hS)
end XO
