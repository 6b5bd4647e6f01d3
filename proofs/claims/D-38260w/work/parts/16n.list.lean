/-! A LIVE LIST's add -/
set_option maxRecDepth 100000
/-- the element q put behind the last one; r: the list's array -/
def yAdd (y : Ly) (k i r q : Nat) : Ly := seA (seF (seF (seF (seA y (k + 1) i r) (k + 1) i 1) (k + 100) i (y.1 (k + 100) i + 1)) (k + 200) i (y.1 (k + 200) i + 1)) (k + 300) (16 * i + y.1 (k + 100) i) q
def YAdd (y : Ly) (k i q : Nat) (y' : Ly) : Prop :=
  (y'.1 (k + 1) i = 1 ∧ y'.1 (k + 100) i = y.1 (k + 100) i + 1 ∧ y'.1 (k + 200) i = y.1 (k + 200) i + 1 ∧ y'.2 (k + 300) (16 * i + y.1 (k + 100) i) = q) ∧
  (∀ a b, ¬ (a = k + 1 ∧ b = i) → ¬ (a = k + 100 ∧ b = i) → ¬ (a = k + 200 ∧ b = i) → y'.1 a b = y.1 a b) ∧
  ∀ a b, ¬ (a = k + 1 ∧ b = i) → ¬ (a = k + 300 ∧ b = 16 * i + y.1 (k + 100) i) → y'.2 a b = y.2 a b
theorem yAdd_ok {y : Ly} {k i r q : Nat} : YAdd y k i q (yAdd y k i r q) := by
  have f : ∀ a b, (yAdd y k i r q).1 a b = (seF (seF (seF y (k + 1) i 1) (k + 100) i (y.1 (k + 100) i + 1)) (k + 200) i (y.1 (k + 200) i + 1)).1 a b := fun _ _ => rfl
  refine ⟨⟨?_, ?_, ?_, seA_eq⟩, fun a b h1 h2 h3 => ?_, fun a b h1 h2 => ?_⟩
  · rw [f, seF_ne (fun e => by omega), seF_ne (fun e => by omega), seF_eq]
  · rw [f, seF_ne (fun e => by omega), seF_eq]
  · rw [f, seF_eq]
  · rw [f, seF_ne h3, seF_ne h2, seF_ne h1]
  · show (seA (seA y (k + 1) i r) (k + 300) (16 * i + y.1 (k + 100) i) q).2 a b = _
    rw [seA_ne h2, seA_ne h1]
theorem yAdd_r {y : Ly} {k i r q : Nat} : (yAdd y k i r q).2 (k + 1) i = r := by
  show (seA (seA y (k + 1) i r) (k + 300) (16 * i + y.1 (k + 100) i) q).2 (k + 1) i = r
  rw [seA_ne (fun e => by omega), seA_eq]
theorem laC_eq2 {κ : Kx} {y y' : Ly} {k i : Nat} (h0 : y'.1 (k + 100) i = y.1 (k + 100) i) (ha : ∀ t, t < 16 → y'.2 (k + 300) (16 * i + t) = y.2 (k + 300) (16 * i + t)) : laC κ y' k i = laC κ y k i := by
  have e : laF y' k i = laF y k i := by
    funext t
    unfold laF
    rw [h0]
    by_cases ht : t < y.1 (k + 100) i ∧ t < 16
    · rw [if_pos ht, if_pos ht, ha t ht.2]
    · rw [if_neg ht, if_neg ht]
  unfold laC
  rw [e]
/-- a change at one list is not seen elsewhere -/
theorem ce_list {κ : Kx} {y y' : Ly} {k i k' i' : Nat} {g : Nat → Int32} {d : Int64} (hke : k % 2 = 0) (h40 : 40 ≤ k) (h60 : k < 60) (hk' : k' < 100) (n1 : ¬ (k' = k ∧ i' = i)) (n2 : ¬ (k' = k + 1 ∧ i' = i))
    (h1 : ∀ a b, ¬ (a = k ∧ b = i) → ¬ (a = k + 1 ∧ b = i) → ¬ (a = k + 100 ∧ b = i) → ¬ (a = k + 200 ∧ b = i) → y'.1 a b = y.1 a b)
    (h2 : ∀ a b, ¬ (a = k + 1 ∧ b = i) → ¬ (a = k + 300 ∧ ∃ t, t < 16 ∧ b = 16 * i + t) → y'.2 a b = y.2 a b) : ce κ y' k' i' g d = ce κ y k' i' g d := by
  have a1 : ∀ a, a < 40 → y'.1 a = y.1 a := fun a h => funext fun b => h1 a b (fun e => by omega) (fun e => by omega) (fun e => by omega) (fun e => by omega)
  have a2 : ∀ a, a < 60 → a % 2 = 0 ∨ a < 40 → y'.2 a = y.2 a := fun a h h' => funext fun b => h2 a b (fun e => by omega) (fun e => by omega)
  unfold ce
  split
  all_goals first
    | rfl
    | (split
       · exact lsC_eq (h1 _ _ (fun e => by omega) (fun e => by omega) (fun e => by omega) (fun e => n1 (by omega))) (h1 _ _ (fun e => by omega) (fun e => n1 (by omega)) (fun e => by omega) (fun e => by omega)) (h1 _ _ (fun e => by omega) (fun e => by omega) (fun e => n1 (by omega)) (fun e => by omega)) (h2 _ _ (fun e => n1 (by omega)) (fun e => by omega))
       · exact laC_eq2 (h1 _ _ (fun e => by omega) (fun e => by omega) (fun e => n2 (by omega)) (fun e => by omega)) (fun t ht => h2 _ _ (fun e => by omega) (fun e => by obtain ⟨e1, t2, e2, e3⟩ := e; exact n2 (by omega))))
    | (simp only [a1 14 (by decide), a1 25 (by decide), a2 1 (by decide) (by decide), a2 2 (by decide) (by decide), a2 3 (by decide) (by decide), a2 4 (by decide) (by decide), a2 5 (by decide) (by decide), a2 7 (by decide) (by decide), a2 8 (by decide) (by decide), a2 9 (by decide) (by decide), a2 12 (by decide) (by decide), a2 13 (by decide) (by decide), a2 14 (by decide) (by decide), a2 16 (by decide) (by decide), a2 22 (by decide) (by decide), a2 23 (by decide) (by decide), a2 24 (by decide) (by decide), a2 25 (by decide) (by decide), a2 28 (by decide) (by decide), a2 29 (by decide) (by decide), a2 30 (by decide) (by decide), a2 31 (by decide) (by decide), a2 32 (by decide) (by decide), a2 33 (by decide) (by decide), a2 34 (by decide) (by decide), a2 35 (by decide) (by decide), a2 40 (by decide) (by decide), a2 42 (by decide) (by decide), a2 44 (by decide) (by decide), a2 46 (by decide) (by decide), a2 48 (by decide) (by decide), a2 50 (by decide) (by decide), a2 52 (by decide) (by decide), a2 54 (by decide) (by decide), a2 56 (by decide) (by decide), a2 58 (by decide) (by decide)]; done)
    | (simp only [a1 14 (by decide), a1 25 (by decide), a2 1 (by decide) (by decide), a2 2 (by decide) (by decide), a2 3 (by decide) (by decide), a2 4 (by decide) (by decide), a2 5 (by decide) (by decide), a2 7 (by decide) (by decide), a2 8 (by decide) (by decide), a2 9 (by decide) (by decide), a2 12 (by decide) (by decide), a2 13 (by decide) (by decide), a2 14 (by decide) (by decide), a2 16 (by decide) (by decide), a2 22 (by decide) (by decide), a2 23 (by decide) (by decide), a2 24 (by decide) (by decide), a2 25 (by decide) (by decide), a2 28 (by decide) (by decide), a2 29 (by decide) (by decide), a2 30 (by decide) (by decide), a2 31 (by decide) (by decide), a2 32 (by decide) (by decide), a2 33 (by decide) (by decide), a2 34 (by decide) (by decide), a2 35 (by decide) (by decide), a2 40 (by decide) (by decide), a2 42 (by decide) (by decide), a2 44 (by decide) (by decide), a2 46 (by decide) (by decide), a2 48 (by decide) (by decide), a2 50 (by decide) (by decide), a2 52 (by decide) (by decide), a2 54 (by decide) (by decide), a2 56 (by decide) (by decide), a2 58 (by decide) (by decide)]; rfl)
abbrev yOff (y : Ly) (k i : Nat) : Ly := seF (seF y k i 0) (k + 1) i 0
theorem lv_off {y : Ly} {k i a b : Nat} (h : live (yOff y k i) a b) : live y a b ∧ ¬ (a = k ∧ b = i) ∧ ¬ (a = k + 1 ∧ b = i) := by
  obtain ⟨n1, h1⟩ := live_seF h
  obtain ⟨n2, h2⟩ := live_seF h1
  exact ⟨h2, n2, n1⟩
theorem ce_off {κ : Kx} {y : Ly} {k i a b : Nat} {g : Nat → Int32} {d : Int64} (hke : k % 2 = 0) (h40 : 40 ≤ k) (h60 : k < 60) (h : live (yOff y k i) a b) : ce κ (yOff y k i) a b g d = ce κ y a b g d := by
  obtain ⟨h1, h2, h3⟩ := lv_off h
  exact ce_list hke h40 h60 h1.2 h2 h3 (fun a b n1 n2 _ _ => by rw [show (yOff y k i).1 a b = _ from seF_ne n2, seF_ne n1]) (fun _ _ _ _ => rfl)
theorem live_off {y : Ly} {k i a b : Nat} (h : live y a b) (n1 : ¬ (a = k ∧ b = i)) (n2 : ¬ (a = k + 1 ∧ b = i)) : live (yOff y k i) a b := ⟨by rw [show (yOff y k i).1 a b = _ from seF_ne n2, seF_ne n1]; exact h.1, h.2⟩
theorem laF_add {y y' : Ly} {k i q : Nat} (h : YAdd y k i q y') (h16 : y.1 (k + 100) i < 16) : laF y' k i = va_up (laF y k i) (y.1 (k + 100) i) (some q) := by
  obtain ⟨⟨-, h2, -, h4⟩, -, h6⟩ := h
  funext t
  unfold laF va_up
  rw [h2]
  by_cases ht : t = y.1 (k + 100) i
  · subst ht
    rw [if_pos rfl, if_pos ⟨by omega, h16⟩, h4]
  · rw [if_neg ht, h6 (k + 300) (16 * i + t) (fun e => by omega) (fun e => ht (by omega))]
    show _ = if t < y.1 (k + 100) i ∧ t < 16 then some (y.2 (k + 300) (16 * i + t)) else none
    by_cases h9 : t < y.1 (k + 100) i ∧ t < 16
    · rw [if_pos h9, if_pos ⟨by omega, h9.2⟩]
    · rw [if_neg h9, if_neg (fun e => h9 ⟨by omega, e.2⟩)]
section AD
variable {p : Program} {l : Launch} {e : Env} {R : Room} {s : State} {m : MethodId} {args : Array Value} {below : List Frame} {meth : Method} {c : Code} {H : Heap} {locs : List Loc} {cells slots : Nat} {Q : State → Prop}
variable {cc : ByteArray} {pc nL index index2 : Nat} {ls : Array Slot} {rest : List Value} {κ : Kx} {w : Wd} {y : Ly} {X : XR} {L : va_W} {own : String}
theorem jr_add (S : CallFix p m c cc nL s args lw_all own) (hK : KK κ s) (hR : Rp κ w y X L H) (hS : va_S (Af κ) s.heap H locs) {k i q : Nat} (hk : IsLs k) (hke : k % 2 = 0) (h40 : 40 ≤ k) (h60 : k < 60) (hl : live y k i) (hz10 : y.1 (k + 100) i < 10) (hA : 0 < y.1 (k + 100) i → live y (k + 1) i) (hO : ∀ (X1 : XR) (L1 : va_W) (H1 : Heap), Rp κ w (yOff y k i) X1 L1 H1 → Ob κ H1 q)
    (q1 : Cond.methodLink own index yJ2_add ∈ lw_all) (hRm : rm_J2_addE.frames + 1 ≤ R.frames ∧ 8 + (2 + 11) + rm_J2_addE.locals ≤ R.locals) (hsize : ls.size = nL) (hWd : (rest.map fun v => v.category).sum ≤ 8) (hdg : decode cc pc = .ok (.invokevirtual index, 3)) (hf : cells + 1 ≤ R.cells ∧ slots + 10 ≤ R.slots)
    (kk : ∀ (H1 : Heap) (locs1 : List Loc) (y1 : Ly), YAdd y k i q y1 → Rp κ w y1 X L H1 → va_S (Af κ) s.heap H1 locs1 → W p l e R s m args below meth c H1 locs1 (cells + 1) (slots + 10) Q (F0 m (pc + 3) ls (.int 1 :: rest))) : W p l e R s m args below meth c H locs cells slots Q (F0 m pc ls (.ref q :: .ref (y.2 k i) :: rest)) := by
  have hL0 := hR.role hl
  rw [hk.1] at hL0
  have hsep : ∀ (t : Nat) (z : Nat × va_E), L[t]? = some z → z.1 ≠ y.2 k i := fun t z hz e => (hR.2.2.2.2.2.2 t z hz).2 k i hl e.symm
  by_cases hfl : y.1 (k + 1) i = 1
  · have hl1 : live y (k + 1) i := ⟨hfl, by omega⟩
    have hne : y.2 (k + 1) i ≠ y.2 k i := fun e => by have := (hR.inj hl1 hl e).1; omega
    have hR1 := hR.lend (y' := yOff y k i) (fun a b => (a = k ∨ a = k + 1) ∧ b = i) (fun a b h => ⟨(lv_off h).1, fun e => by have := (lv_off h).2; omega, rfl, ce_off hke h40 h60 h⟩)
    have hXa : (fun q e => X q e ∨ ∃ a b, ((a = k ∨ a = k + 1) ∧ b = i) ∧ live y a b ∧ q = y.2 a b ∧ e = ce κ y a b (w.1 a b) w.2) (y.2 k i) (eL (nI (y.1 (k + 200) i)) (y.2 (k + 1) i) (nI (y.1 (k + 100) i))) := Or.inr ⟨k, i, ⟨Or.inl rfl, rfl⟩, hl, rfl, by rw [hk.1]; unfold lsC; rw [if_pos hfl]⟩
    have hXr : (fun q e => X q e ∨ ∃ a b, ((a = k ∨ a = k + 1) ∧ b = i) ∧ live y a b ∧ q = y.2 a b ∧ e = ce κ y a b (w.1 a b) w.2) (y.2 (k + 1) i) (eA κ (laF y k i)) := Or.inr ⟨k + 1, i, ⟨Or.inr rfl, rfl⟩, hl1, rfl, by rw [hk.2]; rfl⟩
    have hsr : ∀ (t : Nat) (z : Nat × va_E), L[t]? = some z → z.1 ≠ y.2 (k + 1) i := fun t z hz e => (hR.2.2.2.2.2.2 t z hz).2 (k + 1) i hl1 e.symm
    refine va_calli (cr_V (n := 1) (As := [.ref q]) (rest := rest) S hK hR1 (m_J2_addN (X := xl _ L) hne hz10 (Or.inl hXa) (Or.inl hXr) (fun X1 L1 H1 _ hR9 => hO X1 L1 H1 hR9)) q1 q846 q847 q77 q848 rfl rfl hd_J2_add ⟨Nat.le_trans (by decide) hRm.1, Nat.le_trans (by decide) hRm.2⟩ (rv_at hK (hR1.X hXa) rfl) rfl rfl hsize rfl (lv_room hWd) hdg ⟨by omega, by omega⟩) hS (fun _ _ h => h) (fun _ h => h) (fun v u t H1 locs1 ht _ hp hB _ _ hS => ?_)
    cases hp
    rw [ht] at hB
    refine W.widen (k := cells + 1) (n := slots + 10) (by omega) (by omega) ?_
    refine kk H1 locs1 (yAdd y k i (y.2 (k + 1) i) q) yAdd_ok ?_ hS
    have hR2 := hR1.wroteA (X2 := upX (upX (fun q e => X q e ∨ ∃ a b, ((a = k ∨ a = k + 1) ∧ b = i) ∧ live y a b ∧ q = y.2 a b ∧ e = ce κ y a b (w.1 a b) w.2) (y.2 (k + 1) i) (eA κ (va_up (laF y k i) (y.1 (k + 100) i) (some q)))) (y.2 k i) (eL (nI (y.1 (k + 200) i) + 1) (y.2 (k + 1) i) (nI (y.1 (k + 100) i + 1)))) (L' := L) hB (fun z g hz => by
        rcases hz with ⟨rfl, -⟩ | ⟨-, ⟨rfl, -⟩ | ⟨-, hz⟩⟩
        · exact ⟨_, hXa⟩
        · exact ⟨_, hXr⟩
        · exact ⟨g, hz⟩) (fun z g hz _ => by
        rcases hz with hz | ⟨n1, hz | ⟨n2, hz⟩⟩
        · exact Or.inl hz
        · exact Or.inr ⟨n1, Or.inl hz⟩
        · exact Or.inr ⟨n1, Or.inr ⟨n2, Or.inl hz⟩⟩) (fun t z hz => ⟨Or.inr ⟨hsep t z hz, Or.inr ⟨hsr t z hz, Or.inr ⟨t, hz⟩⟩⟩, z.2, hz⟩)
    have hY := yAdd_ok (y := y) (k := k) (i := i) (r := y.2 (k + 1) i) (q := q)
    have hr9 := yAdd_r (y := y) (k := k) (i := i) (r := y.2 (k + 1) i) (q := q)
    generalize yAdd y k i (y.2 (k + 1) i) q = y1 at hY hr9
    have hlF := laF_add hY (by omega)
    obtain ⟨⟨f1, f2, f3, f4⟩, f5, f6⟩ := hY
    have hka : y1.2 k i = y.2 k i := f6 k i (fun e => by omega) (fun e => by omega)
    refine hR2.back (X := X) (w' := w) (y' := y1) (L' := L) (fun z g hz => ?_) (fun a b => (a = k ∨ a = k + 1) ∧ b = i) (fun a b h hA => ?_) (fun a b h hA => Or.inl ?_) (fun a b a' b' _ _ hA hA' e9 => ?_) (fun t z hz => ⟨⟨t, hz⟩, fun a b _ hA => ?_⟩) hR2.LD
    · exact Or.inr ⟨fun e => (hR.2.2.2.1 z g hz).2.2 k i hl e.symm, Or.inr ⟨fun e => (hR.2.2.2.1 z g hz).2.2 (k + 1) i hl1 e.symm, Or.inl hz⟩⟩
    · have n1 : ¬ (a = k ∧ b = i) := fun e => hA ⟨Or.inl e.1, e.2⟩
      have n2 : ¬ (a = k + 1 ∧ b = i) := fun e => hA ⟨Or.inr e.1, e.2⟩
      have h9 := h.1
      rw [f5 a b n2 (fun e => by have := h.2; omega) (fun e => by have := h.2; omega)] at h9
      have hl9 := live_off (k := k) (i := i) ⟨h9, h.2⟩ n1 n2
      refine ⟨hl9, f6 a b n2 (fun e => by have := h.2; omega), ?_⟩
      rw [ce_off hke h40 h60 hl9]
      exact ce_list hke h40 h60 h.2 n1 n2 (fun a b _ m2 m3 m4 => f5 a b m2 m3 m4) (fun a b m1 m2 => f6 a b m1 (fun e => m2 ⟨e.1, _, by omega, e.2⟩))
    · obtain ⟨rfl | rfl, rfl⟩ := hA
      · refine ⟨?_, fun g hg => (hR.2.2.2.1 _ g hg).2.2 _ _ hl hka.symm⟩
        rw [hk.1, hka]
        refine Or.inl ⟨rfl, ?_⟩
        unfold lsC
        rw [if_pos f1, hr9, f2, f3, nI_1]
      · refine ⟨?_, fun g hg => (hR.2.2.2.1 _ g hg).2.2 _ _ hl1 hr9.symm⟩
        rw [hk.2, hr9]
        refine Or.inr ⟨hne, Or.inl ⟨rfl, ?_⟩⟩
        unfold laC
        rw [hlF]
    · obtain ⟨rfl | rfl, rfl⟩ := hA <;> obtain ⟨rfl | rfl, rfl⟩ := hA'
      · exact ⟨rfl, rfl⟩
      · rw [hka, hr9] at e9; exact absurd e9.symm hne
      · rw [hka, hr9] at e9; exact absurd e9 hne
      · exact ⟨rfl, rfl⟩
    · obtain ⟨rfl | rfl, rfl⟩ := hA
      · rw [hka]; exact fun e => hsep t z hz e.symm
      · rw [hr9]; exact fun e => hsr t z hz e.symm
  · have hz0 : y.1 (k + 100) i = 0 := by
      rcases Nat.eq_zero_or_pos (y.1 (k + 100) i) with h | h
      · exact h
      · exact absurd (hA h).1 hfl
    have hR1 := hR.lend (y' := yOff y k i) (fun a b => a = k ∧ b = i) (fun a b h => ⟨(lv_off h).1, (lv_off h).2.1, rfl, ce_off hke h40 h60 h⟩)
    have hXa : (fun q e => X q e ∨ ∃ a b, (a = k ∧ b = i) ∧ live y a b ∧ q = y.2 a b ∧ e = ce κ y a b (w.1 a b) w.2) (y.2 k i) (eL (nI (y.1 (k + 200) i)) (kA κ 1) 0) := Or.inr ⟨k, i, ⟨rfl, rfl⟩, hl, rfl, by rw [hk.1]; unfold lsC; rw [if_neg hfl, hz0]; rfl⟩
    refine va_calli (cr_V (n := 1) (As := [.ref q]) (rest := rest) S hK hR1 (m_J2_addE (X := xl _ L) (Or.inl hXa) (fun X1 L1 H1 _ hR9 => hO X1 L1 H1 hR9)) q1 q846 q847 q77 q848 rfl rfl hd_J2_add hRm (rv_at hK (hR1.X hXa) rfl) rfl rfl hsize rfl (lv_room hWd) hdg hf) hS (fun _ _ h => h) (fun _ h => h) (fun v r t H1 locs1 ht _ hp hB _ _ hS => ?_)
    cases hp
    rw [ht] at hB
    refine kk H1 locs1 (yAdd y k i r q) yAdd_ok ?_ hS
    have hR2 := hR1.wroteX hXa hB
    have hY := yAdd_ok (y := y) (k := k) (i := i) (r := r) (q := q)
    have hr9 := yAdd_r (y := y) (k := k) (i := i) (r := r) (q := q)
    generalize yAdd y k i r q = y1 at hY hr9
    have hlF := laF_add hY (by omega)
    obtain ⟨⟨f1, f2, f3, f4⟩, f5, f6⟩ := hY
    have hka : y1.2 k i = y.2 k i := f6 k i (fun e => by omega) (fun e => by omega)
    have hlr : (L ++ [(r, eA κ (va_up (fun _ => none) 0 (some q)))])[L.length]? = some (r, eA κ (va_up (fun _ => none) 0 (some q))) := by
      rw [List.getElem?_append_right (Nat.le_refl _), Nat.sub_self]
      rfl
    have hra : r ≠ y.2 k i := fun e => (hR2.2.2.2.2.2.2 _ _ hlr).1 _ (Or.inl ⟨e, rfl⟩)
    have hlt : ∀ (t : Nat) (z : Nat × va_E), L[t]? = some z → (L ++ [(r, eA κ (va_up (fun _ => none) 0 (some q)))])[t]? = some z := fun t z hz => by
      rw [List.getElem?_append_left (List.getElem?_eq_some_iff.mp hz).1]
      exact hz
    refine hR2.back (X := X) (w' := w) (y' := y1) (L' := L) (fun z g hz => ?_) (fun a b => (a = k ∨ a = k + 1) ∧ b = i) (fun a b h hA => ?_) (fun a b h hA => ?_) (fun a b a' b' _ _ hA hA' e9 => ?_) (fun t z hz => ⟨⟨t, hlt t z hz⟩, fun a b _ hA => ?_⟩) hR.LD
    · exact Or.inr ⟨fun e => (hR.2.2.2.1 z g hz).2.2 k i hl e.symm, Or.inl hz⟩
    · have n1 : ¬ (a = k ∧ b = i) := fun e => hA ⟨Or.inl e.1, e.2⟩
      have n2 : ¬ (a = k + 1 ∧ b = i) := fun e => hA ⟨Or.inr e.1, e.2⟩
      have h9 := h.1
      rw [f5 a b n2 (fun e => by have := h.2; omega) (fun e => by have := h.2; omega)] at h9
      have hl9 := live_off (k := k) (i := i) ⟨h9, h.2⟩ n1 n2
      refine ⟨hl9, f6 a b n2 (fun e => by have := h.2; omega), ?_⟩
      rw [ce_off hke h40 h60 hl9]
      exact ce_list hke h40 h60 h.2 n1 n2 (fun a b _ m2 m3 m4 => f5 a b m2 m3 m4) (fun a b m1 m2 => f6 a b m1 (fun e => m2 ⟨e.1, _, by omega, e.2⟩))
    · obtain ⟨rfl | rfl, rfl⟩ := hA
      · refine Or.inl ⟨?_, fun g hg => (hR.2.2.2.1 _ g hg).2.2 _ _ hl hka.symm⟩
        rw [hk.1, hka]
        refine Or.inl ⟨rfl, ?_⟩
        unfold lsC
        rw [if_pos f1, hr9, f2, f3, nI_1, hz0]
        rfl
      · refine Or.inr ⟨L.length, ?_⟩
        rw [hk.2, hr9, hlr]
        unfold laC
        rw [hlF, hz0]
        congr 6
        funext t
        unfold laF
        rw [hz0, if_neg (fun e => by omega)]
    · obtain ⟨rfl | rfl, rfl⟩ := hA <;> obtain ⟨rfl | rfl, rfl⟩ := hA'
      · exact ⟨rfl, rfl⟩
      · rw [hka, hr9] at e9; exact absurd e9.symm hra
      · rw [hka, hr9] at e9; exact absurd e9 hra
      · exact ⟨rfl, rfl⟩
    · obtain ⟨rfl | rfl, rfl⟩ := hA
      · rw [hka]; exact fun e => hsep t z hz e.symm
      · rw [hr9]
        intro e9
        have := hR2.LD.1 _ _ _ _ hlr (hlt t z hz) e9
        have := (List.getElem?_eq_some_iff.mp hz).1
        omega
/-- shares.add(v), told.add(v): the box made on the way -/
theorem jr_vadd (S : CallFix p m c cc nL s args lw_all own) (hK : KK κ s) (hR : Rp κ w y X L H) (hS : va_S (Af κ) s.heap H locs) {k j0 n9 : Nat} {v : Int32} (hk : IsLs k) (hke : k % 2 = 0) (h40 : 56 ≤ k) (h60 : k < 60) (hl : live y k j0) (hz10 : y.1 (k + 100) j0 < 10) (hA : 0 < y.1 (k + 100) j0 → live y (k + 1) j0) (q1 : Cond.methodLink own index yJ20_valueOf ∈ lw_all) (q2 : Cond.methodLink own index2 yJ2_add ∈ lw_all) (hRm : rm_J20_valueOf.frames + 1 ≤ R.frames ∧ 8 + (1 + 11) + rm_J20_valueOf.locals ≤ R.locals) (hRm2 : rm_J2_addE.frames + 1 ≤ R.frames ∧ 8 + (2 + 11) + rm_J2_addE.locals ≤ R.locals) (hsize : ls.size = nL) (hWd : (rest.map fun v => v.category).sum ≤ 6) (hdg : decode cc pc = .ok (.invokestatic index, 3)) (hdg2 : decode cc (pc + 3) = .ok (.invokevirtual index2, 3)) (hdg3 : decode cc (pc + 3 + 3) = .ok (.pop, 1)) (hf : cells + 2 ≤ R.cells ∧ slots + 11 ≤ R.slots)
    (kk : ∀ (H1 : Heap) (locs1 : List Loc) (w1 : Wd) (y1 y2 : Ly) (q : Nat), BxS w w1 y y1 n9 v → bxO κ y1 q n9 → (∀ a b, ¬ (a = 36 ∧ b = n9) → y1.2 a b = y.2 a b) → YAdd y1 k j0 q y2 → Rp κ w1 y2 X L H1 → va_S (Af κ) s.heap H1 locs1 → W p l e R s m args below meth c H1 locs1 (cells + 2) (slots + 11) Q (F0 m (pc + 3 + 3 + 1) ls rest)) : W p l e R s m args below meth c H locs cells slots Q (F0 m pc ls (.int v :: .ref (y.2 k j0) :: rest)) := by
  refine va_callr (cr_S (n := 1) (As := [.int v]) (rest := .ref (y.2 k j0) :: rest) S hK hR (m_J20_valueOf (v := v)) q1 q2194 q110 q2195 rfl rfl hds_J20_valueOf hRm rfl rfl hsize rfl (lv_room (by simp only [List.map_cons, List.sum_cons]; show 1 + _ ≤ 8; omega)) hdg ⟨by omega, by omega⟩) hS (fun _ _ h => h) (fun _ h => h) (fun u ra t H1 locs1 ht _ _ hB _ _ hS => ?_)
  rw [ht] at hB
  rcases hB with ⟨n, hn, hv, hra, hR1⟩ | hR1
  · have hBX := hK.2.1.2.2.2.2.2.1.2.2.2.2.2.1 _ hn
    have hRy := hR.up hR1
    -- the cached box: the layout notes it
    have g1 : ∀ a b, ¬ (a = 36 ∧ b = n9) → ¬ (a = 137 ∧ b = n9) → (seF (seF y 36 n9 0) 137 n9 n).1 a b = y.1 a b := fun a b h1 h2 => by rw [seF_ne h2, seF_ne h1]
    have a1 : (seF (seF y 36 n9 0) 137 n9 n).1 36 n9 = 0 := by rw [seF_ne (fun h => by omega), seF_eq]
    have a2 : (seF (seF y 36 n9 0) 137 n9 n).1 137 n9 = n := seF_eq
    have hR2 : Rp κ w (seF (seF y 36 n9 0) 137 n9 n) X L H1 := by
      refine hRy.back (X := X) (fun _ _ h => h) (fun _ _ => False) (fun a b h _ => ?_) (fun _ _ _ h => h.elim) (fun _ _ _ _ _ _ h => h.elim) (fun t q h => ⟨⟨t, h⟩, fun _ _ _ h => h.elim⟩) hRy.LD
      have h9 := h.1
      by_cases h6 : a = 36 ∧ b = n9
      · obtain ⟨rfl, rfl⟩ := h6
        rw [a1] at h9
        cases h9
      · rw [g1 a b h6 (fun e => by have := h.2; omega)] at h9
        exact ⟨⟨h9, h.2⟩, rfl, ce_bx (e := n9) h.2 g1 (fun _ _ _ => rfl)⟩
    have hB : BxS w w y (seF (seF y 36 n9 0) 137 n9 n) n9 v := by
      refine ⟨?_, fun e' he => ?_, fun _ _ _ => rfl, rfl, g1⟩
      · unfold bxV
        rw [a1, a2, if_neg (by decide), hv]
      · unfold bxV
        rw [g1 36 e' (fun h => he h.2) (fun h => he h.2), g1 137 e' (fun h => he h.2) (fun h => he h.2)]
    have hbo : bxO κ (seF (seF y 36 n9 0) 137 n9 n) ra n9 := Or.inr ⟨by rw [a1]; decide, by rw [a2]; exact hn, by rw [a2]; exact hra⟩
    have hsz : (seF (seF y 36 n9 0) 137 n9 n).1 (k + 100) j0 = y.1 (k + 100) j0 := g1 _ _ (fun e => by omega) (fun e => by omega)
    have hl2 : live (seF (seF y 36 n9 0) 137 n9 n) k j0 := ⟨by rw [g1 _ _ (fun e => by omega) (fun e => by omega)]; exact hl.1, hl.2⟩
    have hA2 : 0 < (seF (seF y 36 n9 0) 137 n9 n).1 (k + 100) j0 → live (seF (seF y 36 n9 0) 137 n9 n) (k + 1) j0 := fun h => ⟨by rw [g1 _ _ (fun e => by omega) (fun e => by omega)]; exact (hA (by rw [← hsz]; exact h)).1, by omega⟩
    have hk2 : (seF (seF y 36 n9 0) 137 n9 n).2 k j0 = y.2 k j0 := rfl
    rw [← hk2]
    refine jr_add S hK hR2 hS hk hke (by omega) h60 hl2 (by rw [hsz]; exact hz10) hA2 (fun X1 L1 H1 hR1 => ⟨19, _, _, rfl, List.mem_of_getElem? (i := 9) rfl, by rw [hra]; exact hBX.1.kept (hR1.1.2 _ hBX.2)⟩) q2 hRm2 hsize (by omega) hdg2 ⟨by omega, by omega⟩ (fun H2 locs2 y2 hY hR3 hS => ?_)
    refine lv_pop S.1 S.2.1 hdg3 rfl ?_
    exact kk H2 locs2 w _ y2 ra hB hbo (fun _ _ _ => rfl) hY hR3 hS
  · have hRy := hR.up2 hR1
    have g1 : ∀ a b, ¬ (a = 36 ∧ b = n9) → (seF (seA y 36 n9 ra) 36 n9 1).1 a b = y.1 a b := fun a b h1 => by rw [seF_ne h1]; rfl
    have g2 : ∀ a b, ¬ (a = 36 ∧ b = n9) → (seF (seA y 36 n9 ra) 36 n9 1).2 a b = y.2 a b := fun a b h1 => seA_ne h1
    have a1 : (seF (seA y 36 n9 ra) 36 n9 1).1 36 n9 = 1 := seF_eq
    have a2 : (seF (seA y 36 n9 ra) 36 n9 1).2 36 n9 = ra := seA_eq
    have hR2 : Rp κ (sv w 36 n9 0 v) (seF (seA y 36 n9 ra) 36 n9 1) X L H1 := by
      refine hRy.back (X := X) (fun _ _ h => h) (fun a b => a = 36 ∧ b = n9) (fun a b h hA => ?_) (fun a b h hA => Or.inr ⟨L.length, ?_⟩) (fun a b a' b' _ _ h h' _ => ⟨h.1.trans h'.1.symm, h.2.trans h'.2.symm⟩) (fun t q h => ⟨⟨t, ?_⟩, fun a b _ hA e9 => ?_⟩) hR.LD
      · have h9 := h.1
        rw [g1 a b hA] at h9
        refine ⟨⟨h9, h.2⟩, g2 a b hA, ?_⟩
        rw [sv_ne _ _ _ _ _ hA]
        exact ce_bx (e := n9) h.2 (fun a b h _ => g1 a b h) g2
      · obtain ⟨rfl, rfl⟩ := hA
        rw [a2, List.getElem?_append_right (Nat.le_refl _), Nat.sub_self]
        show some (ra, Sum.inr (19, [Value.int v])) = some (ra, Sum.inr (19, [Value.int ((sv w 36 b 0 v).1 36 b 0)]))
        rw [sv_same, show upd (w.1 36 b) 0 v 0 = v from if_pos rfl]
      · rw [List.getElem?_append_left (List.getElem?_eq_some_iff.mp h).1]
        exact h
      · obtain ⟨rfl, rfl⟩ := hA
        rw [a2] at e9
        have hlt := (List.getElem?_eq_some_iff.mp h).1
        have h8 := hRy.LD.1 t L.length q (ra, .inr (19, [.int v])) (by rw [List.getElem?_append_left hlt]; exact h) (by rw [List.getElem?_append_right (Nat.le_refl _), Nat.sub_self]; rfl) e9.symm
        omega
    have hB : BxS w (sv w 36 n9 0 v) y (seF (seA y 36 n9 ra) 36 n9 1) n9 v := by
      refine ⟨?_, fun e' he => ?_, fun a b h => sv_ne _ _ _ _ _ h, rfl, fun a b h _ => g1 a b h⟩
      · unfold bxV
        rw [a1, if_pos rfl]
        simp [gv, sv]
      · unfold bxV
        rw [g1 36 e' (fun h => he h.2), g1 137 e' (fun h => he h.2)]
        unfold gv
        rw [sv_ne _ _ _ _ _ (fun h => he h.2)]
    have hbo : bxO κ (seF (seA y 36 n9 ra) 36 n9 1) ra n9 := Or.inl ⟨a1, a2.symm⟩
    have hsz : (seF (seA y 36 n9 ra) 36 n9 1).1 (k + 100) j0 = y.1 (k + 100) j0 := g1 _ _ (fun e => by omega)
    have hl2 : live (seF (seA y 36 n9 ra) 36 n9 1) k j0 := ⟨by rw [g1 _ _ (fun e => by omega)]; exact hl.1, hl.2⟩
    have hA2 : 0 < (seF (seA y 36 n9 ra) 36 n9 1).1 (k + 100) j0 → live (seF (seA y 36 n9 ra) 36 n9 1) (k + 1) j0 := fun h => ⟨by rw [g1 _ _ (fun e => by omega)]; exact (hA (by rw [← hsz]; exact h)).1, by omega⟩
    have hk2 : (seF (seA y 36 n9 ra) 36 n9 1).2 k j0 = y.2 k j0 := g2 _ _ (fun e => by omega)
    rw [← hk2]
    have hlb : live (seF (seA y 36 n9 ra) 36 n9 1) 36 n9 := ⟨a1, by decide⟩
    refine jr_add S hK hR2 hS hk hke (by omega) h60 hl2 (by rw [hsz]; exact hz10) hA2 (fun X1 L1 H1 hR1 => ⟨19, _, _, rfl, List.mem_of_getElem? (i := 9) rfl, by have h9 := hR1.role (live_off (k := k) (i := j0) hlb (by omega) (by omega)); rw [show (yOff (seF (seA y 36 n9 ra) 36 n9 1) k j0).2 36 n9 = ra from a2] at h9; exact h9⟩) q2 hRm2 hsize (by omega) hdg2 ⟨by omega, by omega⟩ (fun H2 locs2 y2 hY hR3 hS => ?_)
    refine lv_pop S.1 S.2.1 hdg3 rfl ?_
    exact kk H2 locs2 (sv w 36 n9 0 v) _ y2 ra hB hbo g2 hY hR3 hS
end AD
