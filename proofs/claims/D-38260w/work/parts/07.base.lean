/-! BASE 1: the abstract world, its cells, and the predicate that a heap holds it.
w : ints by kind, index, field (and the long that the digest adds up); y : counts and flags, and addresses, by kind and index; X: cells of a caller; L: temporaries of this method -/
set_option maxRecDepth 100000
abbrev Wd : Type := (Nat → Nat → Nat → Int32) × Int64
abbrev Ly : Type := (Nat → Nat → Nat) × (Nat → Nat → Nat)
abbrev Kx : Type := va_G × (Nat → ClassId) × (Nat → Nat) × Nat × Heap
abbrev XR : Type := Nat → va_E → Prop
abbrev kD (κ : Kx) : va_G := κ.1
abbrev kT (κ : Kx) : Nat → ClassId := κ.2.1
abbrev kA (κ : Kx) : Nat → Nat := κ.2.2.1
abbrev kZ (κ : Kx) : Nat := κ.2.2.2.1
abbrev kH (κ : Kx) : Heap := κ.2.2.2.2
def Af (κ : Kx) : Nat → Prop := fun q => kZ κ ≤ q
/-- the classes, by number -/
abbrev Cl : List vw_C := [(RX1, TX1, 16), (RX2, TX2, 1), (RX3, TX3, 1), (RX4, TX4, 2), (RX5, TX5, 1), (RX6, TX6, 6), (RX10, TX10, 18), (RX12, TX12, 12), (RX14, TX14, 2), (RX15, TX15, 15), (RX17, TX17, 6), (RX8, TX8, 22), (RX11, TX11, 17), (RX13, TX13, 11), (RX16, TX16, 13), (RX9, TX9, 3), (RJ2, TJ2, 3), (RJ18, TJ18, 4), (RJ9, TJ9, 1), (RJ20, TJ20, 1), (RJ24, TJ24, 4), (RJ17, TJ17, 4), (RJ7, TX2, 0), (RJ8, TX2, 0), (RJ15, TX2, 0), (RJ22, TX2, 0)]
/-- the array classes -/
abbrev tys (κ : Kx) : List (ClassId × FieldType) := [(kT κ 0, .int), (kT κ 1, .long), (kT κ 2, .boolean), (kT κ 3, .byte), (kT κ 4, .object "java/lang/Object"), (kT κ 5, .object "Publicanry$Rule"), (kT κ 6, .array .int), (kT κ 7, .object "Publicanry$Duty")]
def gv (w : Wd) (k i f : Nat) : Int32 := w.1 k i f
def sv (w : Wd) (k i f : Nat) (x : Int32) : Wd := (fun k' i' f' => if f' = f ∧ k' = k ∧ i' = i then x else w.1 k' i' f', w.2)
def sd (w : Wd) (x : Int64) : Wd := (w.1, x)
theorem sv_same (w : Wd) (k i f : Nat) (x : Int32) : (sv w k i f x).1 k i = upd (w.1 k i) f x := by
  funext f'
  simp [sv, upd]
theorem sv_ne (w : Wd) (k i f : Nat) (x : Int32) {k' i' : Nat} (h : ¬ (k' = k ∧ i' = i)) : (sv w k i f x).1 k' i' = w.1 k' i' := by
  funext f'
  simp only [sv]
  rw [if_neg (fun q => h q.2)]
/-- a list object, its array -/
def lsC (κ : Kx) (y : Ly) (k i : Nat) : va_E := .inr (16, [.int (nI (y.1 (k + 200) i)), .ref (if y.1 (k + 1) i = 1 then y.2 (k + 1) i else kA κ 1), .int (nI (y.1 (k + 100) i))])
def laF (y : Ly) (k i : Nat) : Nat → Option Nat := fun t => if t < y.1 (k + 100) i ∧ t < 16 then some (y.2 (k + 300) (16 * i + t)) else none
def laC (κ : Kx) (y : Ly) (k i : Nat) : va_E := .inl (kT κ 4, (10, .inr (.inr (.inr (.inr (laF y k i))))))
/-- what the cell of kind k, index i holds -/
def ce (κ : Kx) (y : Ly) (k i : Nat) (g : Nat → Int32) (d : Int64) : va_E := match k with
  | 0 => .inr (0, [.ref (y.2 40 0), .ref (y.2 42 0), .ref (y.2 44 0), .ref (y.2 5 0), .ref (y.2 1 0), .ref (y.2 1 1), .ref (y.2 2 0), .ref (y.2 3 0), .int (g 8), .int (g 9), .int (g 10), .int (g 11), .int (g 12), .int (g 13), .int (g 14), .long d])
  | 1 => .inr (if i = 0 then 2 else 1, [.int (g 0)])
  | 2 => .inr (3, [.ref (y.2 1 2), .int (g 1)])
  | 3 => .inr (4, [.int (g 0)])
  | 4 => .inr (5, [.int (g 0), .int (g 1), .int (g 2), .int (g 3), .int (g 4), .int (g 5)])
  | 5 => .inl (kT κ 5, (3, .inr (.inr (.inr (.inr (fun t => some (y.2 4 t)))))))
  | 6 => .inr (6, [.int (nI i), .int (g 1), .ref (y.2 1 (3 + i)), .ref (y.2 7 i), .ref (y.2 8 i), .ref (y.2 46 i), .int (g 6), .int (g 7), .int (g 8), .int (g 9), .int (g 10), .int (g 11), .int (g 12), .int (g 13), .int (g 14), .int (g 15), .int (g 16), .int (g 17)])
  | 7 => .inl (kT κ 0, (3, .inl g))
  | 8 => .inl (kT κ 2, (3, .inl g))
  | 9 => .inr (7, [.int (nI i), .ref (y.2 1 (11 + i)), .ref (y.2 48 i), .int (g 3), .int (g 4), .int (g 5), .int (g 6), .int (g 7), .int (g 8), .int (g 9), .int (g 10), .int (g 11)])
  | 10 => .inr (8, [.int (g 0), .int (g 1)])
  | 11 => .inr (9, [.int (nI i), .ref (kA κ (20 + (g 1).toNatClampNeg)), .int (g 2), .int (g 3), .int (g 4), .ref (y.2 12 i), .ref (y.2 13 i), .ref (kA κ (10 + (g 7).toNatClampNeg)), .ref (if y.1 14 i = 1 then y.2 14 i else kA κ 0), .int (g 9), .int (g 10), .int (g 11), .int (g 12), .int (g 13), .int (g 14)])
  | 12 => .inl (kT κ 0, (4, .inl g))
  | 13 => .inl (kT κ 0, (8, .inl g))
  | 14 => .inr (18, [.ref (y.2 9 (g 0).toNatClampNeg)])
  | 15 => .inr (18, [.ref (y.2 16 i)])
  | 16 => .inr (10, [.int (g 0), .int (g 1), .int (g 2), .int (g 3), .int (g 4), .int (g 5)])
  | 20 => .inr (11, [.int (g 0), .int (g 1), .int (g 2), .ref (y.2 50 0), .ref (y.2 52 0), .ref (y.2 54 0), .ref (y.2 30 0), .ref (y.2 31 0), .ref (y.2 32 0), .ref (y.2 33 0), .ref (y.2 34 0), .ref (y.2 35 0), .int (g 12), .int (g 13), .int (g 14), .int (g 15), .int (g 16), .int (g 17), .int (g 18), .int (g 19), .int (g 20), .int (g 21)])
  | 21 => .inr (12, [.int (g 0), .int (g 1), .int (g 2), .int (g 3), .int (g 4), .int (g 5), .int (g 6), .int (g 7), .int (g 8), .int (g 9), .int (g 10), .int (g 11), .int (g 12), .int (g 13), .ref (y.2 22 i), .ref (y.2 23 i), .ref (y.2 24 i)])
  | 22 => .inl (kT κ 0, (3, .inl g))
  | 23 => .inl (kT κ 2, (3, .inl g))
  | 24 => .inl (kT κ 6, (3, .inr (.inr (.inr (.inr (fun t => if t < 3 ∧ y.1 25 (3 * i + t) = 1 then some (y.2 25 (3 * i + t)) else none))))))
  | 25 => .inl (kT κ 0, (6, .inl g))
  | 26 => .inr (13, [.int (g 0), .int (g 1), .int (g 2), .int (g 3), .int (g 4), .int (g 5), .int (g 6), .int (g 7), .int (g 8), .ref (y.2 56 i), .ref (y.2 58 i)])
  | 27 => .inr (14, [.int (g 0), .int (g 1), .int (g 2), .int (g 3), .int (g 4), .int (g 5), .int (g 6), .int (g 7), .int (g 8), .int (g 9), .int (g 10), .ref (y.2 28 i), .ref (y.2 29 i)])
  | 28 => .inl (kT κ 0, (4, .inl g))
  | 29 => .inl (kT κ 0, (8, .inl g))
  | 30 => .inl (kT κ 0, (3, .inl g))
  | 31 => .inl (kT κ 0, (3, .inl g))
  | 32 => .inl (kT κ 0, (3, .inl g))
  | 33 => .inl (kT κ 0, (3, .inl g))
  | 34 => .inl (kT κ 2, (3, .inl g))
  | 35 => .inl (kT κ 0, (3, .inl g))
  | 36 => .inr (19, [.int (g 0)])
  | k => if k % 2 = 0 then lsC κ y k i else laC κ y (k - 1) i
theorem ce_d (κ : Kx) (y : Ly) (k i : Nat) (g : Nat → Int32) (d d' : Int64) (h : k ≠ 0) : ce κ y k i g d = ce κ y k i g d' := by
  unfold ce
  split <;> first | rfl | exact absurd rfl h
def live (y : Ly) (k i : Nat) : Prop := y.1 k i = 1 ∧ k < 100
/-- the heap H holds the world -/
def Rp (κ : Kx) (w : Wd) (y : Ly) (X : XR) (L : va_W) (H : Heap) : Prop :=
  (kZ κ ≤ H.size ∧ ∀ q, q < kZ κ → H[q]? = (kH κ)[q]?) ∧
  (∀ k i, live y k i → va_at (kD κ) Cl (y.2 k i, ce κ y k i (w.1 k i) w.2) H ∧ kZ κ ≤ y.2 k i) ∧
  (∀ k i k' i', live y k i → live y k' i' → y.2 k i = y.2 k' i' → k = k' ∧ i = i') ∧
  (∀ q e, X q e → va_at (kD κ) Cl (q, e) H ∧ kZ κ ≤ q ∧ ∀ k i, live y k i → y.2 k i ≠ q) ∧
  va_P (kD κ) Cl L H ∧ va_D (Af κ) L ∧
  (∀ (t : Nat) (q : Nat × va_E), L[t]? = some q → (∀ e, ¬ X q.1 e) ∧ ∀ k i, live y k i → y.2 k i ≠ q.1)
theorem Rp.role {κ : Kx} {w : Wd} {y : Ly} {X : XR} {L : va_W} {H : Heap} (h : Rp κ w y X L H) {k i : Nat} (hl : live y k i) : va_at (kD κ) Cl (y.2 k i, ce κ y k i (w.1 k i) w.2) H := (h.2.1 k i hl).1
theorem va_P1 {D : va_G} {q : Nat × va_E} {H : Heap} (h : va_at D Cl q H) : va_P D Cl [q] H := by
  intro k x hx
  have hz : k < 1 := (List.getElem?_eq_some_iff.mp hx).1
  rw [show k = 0 by omega] at hx
  cases hx
  exact h
theorem va_D1 {A : Nat → Prop} {q : Nat × va_E} (h : A q.1) : va_D A [q] := by
  refine ⟨fun i j x y hx hy _ => ?_, fun k x hx => ?_⟩
  · have h1 := (List.getElem?_eq_some_iff.mp hx).1
    have h2 := (List.getElem?_eq_some_iff.mp hy).1
    simp at h1 h2
    omega
  · have hz : k < 1 := (List.getElem?_eq_some_iff.mp hx).1
    rw [show k = 0 by omega] at hx
    cases hx
    exact h
theorem Rp.P1 {κ : Kx} {w : Wd} {y : Ly} {X : XR} {L : va_W} {H : Heap} (h : Rp κ w y X L H) {k i : Nat} (hl : live y k i) : va_P (kD κ) Cl [(y.2 k i, ce κ y k i (w.1 k i) w.2)] H := va_P1 (h.role hl)
theorem Rp.L {κ : Kx} {w : Wd} {y : Ly} {X : XR} {L : va_W} {H : Heap} (h : Rp κ w y X L H) : va_P (kD κ) Cl L H := h.2.2.2.2.1
theorem Rp.LD {κ : Kx} {w : Wd} {y : Ly} {X : XR} {L : va_W} {H : Heap} (h : Rp κ w y X L H) : va_D (Af κ) L := h.2.2.2.2.2.1
theorem Rp.inj {κ : Kx} {w : Wd} {y : Ly} {X : XR} {L : va_W} {H : Heap} (h : Rp κ w y X L H) {k i k' i' : Nat} (h1 : live y k i) (h2 : live y k' i') (e : y.2 k i = y.2 k' i') : k = k' ∧ i = i' := h.2.2.1 k i k' i' h1 h2 e
/-- one cell of the world is written -/
theorem Rp.put {κ : Kx} {w w' : Wd} {y : Ly} {X : XR} {L : va_W} {H H1 : Heap} (h : Rp κ w y X L H) {k i : Nat} (hl : live y k i)
    (h1 : va_at (kD κ) Cl (y.2 k i, ce κ y k i (w'.1 k i) w'.2) H1) (hz : H1.size = H.size) (ho : ∀ q : Nat, q ≠ y.2 k i → H1[q]? = H[q]?)
    (hw : ∀ k' i', live y k' i' → ¬ (k' = k ∧ i' = i) → ce κ y k' i' (w'.1 k' i') w'.2 = ce κ y k' i' (w.1 k' i') w.2) : Rp κ w' y X L H1 := by
  obtain ⟨⟨a1, a2⟩, a3, a4, a5, a6, a7, a8⟩ := h
  have hk := (a3 k i hl).2
  refine ⟨⟨by rw [hz]; exact a1, fun q hq => ?_⟩, fun k' i' hl' => ?_, a4, fun q e hx => ?_, fun t q ht => ?_, a7, a8⟩
  · rw [ho q (by omega)]
    exact a2 q hq
  · by_cases hc : k' = k ∧ i' = i
    · obtain ⟨rfl, rfl⟩ := hc
      exact ⟨h1, hk⟩
    · rw [hw k' i' hl' hc]
      refine ⟨(a3 k' i' hl').1.kept (ho _ (fun e => hc ?_)), (a3 k' i' hl').2⟩
      exact a4 _ _ _ _ hl' hl e
  · obtain ⟨b1, b2, b3⟩ := a5 q e hx
    exact ⟨b1.kept (ho q (fun e => b3 k i hl e.symm)), b2, b3⟩
  · exact (a6 t q ht).kept (ho _ (fun e => (a8 t q ht).2 k i hl e.symm))
theorem Rp.putv {κ : Kx} {w : Wd} {y : Ly} {X : XR} {L : va_W} {H H1 : Heap} (h : Rp κ w y X L H) {k i : Nat} (f : Nat) (x : Int32) (hl : live y k i)
    (h1 : va_at (kD κ) Cl (y.2 k i, ce κ y k i (upd (w.1 k i) f x) w.2) H1) (hz : H1.size = H.size) (ho : ∀ q : Nat, q ≠ y.2 k i → H1[q]? = H[q]?) : Rp κ (sv w k i f x) y X L H1 :=
  h.put hl (by rw [sv_same]; exact h1) hz ho (fun k' i' _ hc => by rw [sv_ne _ _ _ _ _ hc]; rfl)
/-- the heap has grown -/
theorem Rp.grow {κ : Kx} {w : Wd} {y : Ly} {X : XR} {L : va_W} {H H1 : Heap} (h : Rp κ w y X L H) (hz : H.size ≤ H1.size) (ho : ∀ q : Nat, q < H.size → H1[q]? = H[q]?) : Rp κ w y X L H1 := by
  obtain ⟨⟨a1, a2⟩, a3, a4, a5, a6, a7, a8⟩ := h
  exact ⟨⟨by omega, fun q hq => (ho q (by omega)).trans (a2 q hq)⟩, fun k i hl => ⟨(a3 k i hl).1.kept (ho _ (a3 k i hl).1.lt), (a3 k i hl).2⟩, a4, fun q e hx => ⟨(a5 q e hx).1.kept (ho _ (a5 q e hx).1.lt), (a5 q e hx).2⟩, fun t q ht => (a6 t q ht).kept (ho _ (a6 t q ht).lt), a7, a8⟩
/-- a temporary is written -/
theorem Rp.putL {κ : Kx} {w : Wd} {y : Ly} {X : XR} {L : va_W} {H H1 : Heap} (h : Rp κ w y X L H) {t a : Nat} {e0 e1 : va_E} (ht : L[t]? = some (a, e0))
    (h1 : va_at (kD κ) Cl (a, e1) H1) (hz : H1.size = H.size) (ho : ∀ q : Nat, q ≠ a → H1[q]? = H[q]?) : Rp κ w y X (L.set t (a, e1)) H1 := by
  obtain ⟨⟨a1, a2⟩, a3, a4, a5, a6, a7, a8⟩ := h
  have hA : kZ κ ≤ a := a7.2 t _ ht
  refine ⟨⟨by rw [hz]; exact a1, fun q hq => ?_⟩, fun k i hl => ⟨(a3 k i hl).1.kept (ho _ ((a8 t _ ht).2 k i hl)), (a3 k i hl).2⟩, a4, fun q e hx => ?_, a6.set a7 ht h1 ho, a7.set ht, fun t' q hq => ?_⟩
  · rw [ho q (by omega)]
    exact a2 q hq
  · obtain ⟨b1, b2, b3⟩ := a5 q e hx
    exact ⟨b1.kept (ho q (fun e2 => (a8 t _ ht).1 e (by rw [← e2]; exact hx))), b2, b3⟩
  · by_cases hc : t' = t
    · subst hc
      rw [List.getElem?_set_self (List.getElem?_eq_some_iff.mp ht).1] at hq
      cases hq
      exact a8 t' (a, e0) ht
    · rw [List.getElem?_set_ne (fun e => hc e.symm)] at hq
      exact a8 t' q hq
/-- a temporary is made -/
theorem Rp.newL {κ : Kx} {w : Wd} {y : Ly} {X : XR} {L : va_W} {H H1 : Heap} (h : Rp κ w y X L H) {e1 : va_E} {a : Nat} (ha : a = H.size)
    (h1 : va_at (kD κ) Cl (a, e1) H1) (hz : H.size ≤ H1.size) (ho : ∀ q : Nat, q < H.size → H1[q]? = H[q]?) : Rp κ w y X (L ++ [(a, e1)]) H1 := by
  have h' := h.grow hz ho
  subst ha
  obtain ⟨⟨a1, a2⟩, a3, a4, a5, a6, a7, a8⟩ := h
  obtain ⟨⟨b1, b2⟩, b3, b4, b5, b6, b7, b8⟩ := h'
  refine ⟨⟨b1, b2⟩, b3, b4, b5, b6.app (va_P1 h1), a7.push a6 rfl a1, fun t q hq => ?_⟩
  by_cases hc : t < L.length
  · rw [List.getElem?_append_left hc] at hq
    exact a8 t q hq
  · rw [List.getElem?_append_right (by omega)] at hq
    have hz : t - L.length < 1 := (List.getElem?_eq_some_iff.mp hq).1
    rw [show t - L.length = 0 by omega] at hq
    cases hq
    exact ⟨fun e hx => Nat.lt_irrefl _ (a5 _ e hx).1.lt, fun k i hl e => by have := (a3 k i hl).1.lt; dsimp only at this e; omega⟩
/-- fewer temporaries, by their places -/
theorem Rp.sub {κ : Kx} {w : Wd} {y : Ly} {X : XR} {L L' : va_W} {H : Heap} (h : Rp κ w y X L H) (is : List Nat) (hn : va_nd is = true) (hs : is.map (fun i => L[i]?) = L'.map some) : Rp κ w y X L' H := by
  obtain ⟨a12, a3, a4, a5, a6, a7, a8⟩ := h
  have key : ∀ (k : Nat) (q : Nat × va_E), L'[k]? = some q → ∃ i : Nat, L[i]? = some q := by
    intro k q hk
    have h1 : (is.map (fun i => L[i]?))[k]? = some (some q) := by rw [hs, List.getElem?_map, hk]; rfl
    rw [List.getElem?_map] at h1
    cases hi : is[k]? with
    | none => rw [hi] at h1; cases h1
    | some i => rw [hi] at h1; exact ⟨i, Option.some.inj h1⟩
  exact ⟨a12, a3, a4, a5, fun k q hk => by obtain ⟨i, hi⟩ := key k q hk; exact a6 i q hi, a7.sub is hn hs, fun k q hk => by obtain ⟨i, hi⟩ := key k q hk; exact a8 i q hi⟩
/-- a callee sees this method's temporaries as a caller's cells -/
def xl (X : XR) (L : va_W) : XR := fun q e => X q e ∨ ∃ t : Nat, L[t]? = some (q, e)
theorem va_P0 {D : va_G} {H : Heap} : va_P D Cl [] H := fun k q h => by simp at h
theorem va_D0 {A : Nat → Prop} : va_D A [] := ⟨fun i j p q h => by simp at h, fun k q h => by simp at h⟩
theorem Rp.down {κ : Kx} {w : Wd} {y : Ly} {X : XR} {L : va_W} {H : Heap} (h : Rp κ w y X L H) : Rp κ w y (xl X L) [] H := by
  obtain ⟨a12, a3, a4, a5, a6, a7, a8⟩ := h
  refine ⟨a12, a3, a4, fun q e hx => ?_, va_P0, va_D0, fun t q h => by simp at h⟩
  rcases hx with hx | ⟨t, ht⟩
  · exact a5 q e hx
  · exact ⟨a6 t _ ht, a7.2 t _ ht, (a8 t _ ht).2⟩
theorem Rp.up {κ : Kx} {w w' : Wd} {y y' : Ly} {X : XR} {L : va_W} {H H1 : Heap} (h : Rp κ w y X L H) (h1 : Rp κ w' y' (xl X L) [] H1) : Rp κ w' y' X L H1 := by
  obtain ⟨a12, a3, a4, a5, a6, a7, a8⟩ := h
  obtain ⟨b12, b3, b4, b5, b6, b7, b8⟩ := h1
  exact ⟨b12, b3, b4, fun q e hx => b5 q e (Or.inl hx), fun t q ht => (b5 q.1 q.2 (Or.inr ⟨t, ht⟩)).1, a7, fun t q ht => ⟨(a8 t q ht).1, (b5 q.1 q.2 (Or.inr ⟨t, ht⟩)).2.2⟩⟩
