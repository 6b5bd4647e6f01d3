/-! LAYOUTS: what holds of the layout between calls; where a method finds the cells it reaches -/
abbrev nV (y : Ly) : Nat := y.1 140 0
abbrev nC (y : Ly) : Nat := y.1 142 0
abbrev nL (y : Ly) : Nat := y.1 144 0
abbrev nP (y : Ly) (j : Nat) : Nat := y.1 148 j
abbrev mV (y : Ly) : Nat := y.1 150 0
abbrev mC (y : Ly) : Nat := y.1 152 0
abbrev mL (y : Ly) : Nat := y.1 154 0
abbrev mS (y : Ly) (j : Nat) : Nat := y.1 156 j
abbrev mT (y : Ly) (j : Nat) : Nat := y.1 158 j
/-- the class's part -/
def WFc (κ : Kx) (y : Ly) : Prop :=
  (live y 0 0 ∧ live y 1 0 ∧ live y 1 1 ∧ live y 1 2 ∧ live y 2 0 ∧ live y 3 0 ∧ (∀ d, d < 3 → live y 4 d) ∧ live y 5 0 ∧ live y 40 0 ∧ live y 42 0 ∧ live y 44 0 ∧ ∀ i, live y 0 i → i = 0) ∧
  (nV y ≤ 8 ∧ nC y ≤ 4 ∧ nL y ≤ 8) ∧
  (∀ i, i < nV y → live y 6 i ∧ y.2 340 (16 * 0 + i) = y.2 6 i) ∧
  (∀ i, live y 6 i → (live y 1 (3 + i) ∧ live y 7 i ∧ live y 8 i ∧ live y 46 i ∧ live y 47 i) ∧ y.1 146 i = 3 ∧ i < 8 ∧ ∀ d, d < 3 → y.2 346 (16 * i + d) = if y.1 15 (3 * i + d) = 1 then y.2 15 (3 * i + d) else kA κ 0) ∧
  (∀ q, live y 15 q → live y 16 q) ∧
  (∀ j, j < nC y → live y 9 j ∧ y.2 342 (16 * 0 + j) = y.2 9 j) ∧
  (∀ j, live y 9 j → (live y 1 (11 + j) ∧ live y 48 j) ∧ nP y j ≤ 5 ∧ j < 4 ∧ ∀ p, p < nP y j → live y 10 (5 * j + p) ∧ y.2 348 (16 * j + p) = y.2 10 (5 * j + p)) ∧
  (∀ k, k < nL y → live y 11 k ∧ y.2 344 (16 * 0 + k) = y.2 11 k) ∧
  (∀ k, live y 11 k → (live y 12 k ∧ live y 13 k) ∧ k < 9) ∧
  ((0 < nV y → live y 41 0) ∧ (0 < nC y → live y 43 0) ∧ (0 < nL y → live y 45 0) ∧ ∀ j, 0 < nP y j → live y 49 j)
section WFC
variable {κ : Kx} {y : Ly} {i : Nat}
theorem WFc.pub (h : WFc κ y) : live y 0 0 := h.1.1
theorem WFc.wor (h : WFc κ y) : live y 1 0 := h.1.2.1
theorem WFc.tre (h : WFc κ y) : live y 1 1 := h.1.2.2.1
theorem WFc.goc (h : WFc κ y) : live y 1 2 := h.1.2.2.2.1
theorem WFc.gov (h : WFc κ y) : live y 2 0 := h.1.2.2.2.2.1
theorem WFc.gua (h : WFc κ y) : live y 3 0 := h.1.2.2.2.2.2.1
theorem WFc.rul (h : WFc κ y) {d : Nat} (hd : d < 3) : live y 4 d := h.1.2.2.2.2.2.2.1 d hd
theorem WFc.rla (h : WFc κ y) : live y 5 0 := h.1.2.2.2.2.2.2.2.1
theorem WFc.lsV (h : WFc κ y) : live y 40 0 := h.1.2.2.2.2.2.2.2.2.1
theorem WFc.lsC (h : WFc κ y) : live y 42 0 := h.1.2.2.2.2.2.2.2.2.2.1
theorem WFc.lsL (h : WFc κ y) : live y 44 0 := h.1.2.2.2.2.2.2.2.2.2.2.1
theorem WFc.pu0 (h : WFc κ y) : ∀ i, live y 0 i → i = 0 := h.1.2.2.2.2.2.2.2.2.2.2.2
theorem WFc.nV8 (h : WFc κ y) : nV y ≤ 8 := h.2.1.1
theorem WFc.nC4 (h : WFc κ y) : nC y ≤ 4 := h.2.1.2.1
theorem WFc.nL8 (h : WFc κ y) : nL y ≤ 8 := h.2.1.2.2
theorem WFc.vil (h : WFc κ y) (hi : i < nV y) : live y 6 i := (h.2.2.1 i hi).1
theorem WFc.elV (h : WFc κ y) (hi : i < nV y) : y.2 340 (16 * 0 + i) = y.2 6 i := (h.2.2.1 i hi).2
theorem WFc.vch (h : WFc κ y) (hl : live y 6 i) : live y 1 (3 + i) := (h.2.2.2.1 i hl).1.1
theorem WFc.vra (h : WFc κ y) (hl : live y 6 i) : live y 7 i := (h.2.2.2.1 i hl).1.2.1
theorem WFc.vex (h : WFc κ y) (hl : live y 6 i) : live y 8 i := (h.2.2.2.1 i hl).1.2.2.1
theorem WFc.vle (h : WFc κ y) (hl : live y 6 i) : live y 46 i := (h.2.2.2.1 i hl).1.2.2.2.1
theorem WFc.vla (h : WFc κ y) (hl : live y 6 i) : live y 47 i := (h.2.2.2.1 i hl).1.2.2.2.2
theorem WFc.vl3 (h : WFc κ y) (hl : live y 6 i) : y.1 146 i = 3 := (h.2.2.2.1 i hl).2.1
theorem WFc.vi8 (h : WFc κ y) (hl : live y 6 i) : i < 8 := (h.2.2.2.1 i hl).2.2.1
theorem WFc.elE (h : WFc κ y) (hl : live y 6 i) {d : Nat} (hd : d < 3) : y.2 346 (16 * i + d) = if y.1 15 (3 * i + d) = 1 then y.2 15 (3 * i + d) else kA κ 0 := (h.2.2.2.1 i hl).2.2.2 d hd
theorem WFc.lev (h : WFc κ y) (hl : live y 15 i) : live y 16 i := h.2.2.2.2.1 i hl
theorem WFc.com (h : WFc κ y) (hi : i < nC y) : live y 9 i := (h.2.2.2.2.2.1 i hi).1
theorem WFc.elC (h : WFc κ y) (hi : i < nC y) : y.2 342 (16 * 0 + i) = y.2 9 i := (h.2.2.2.2.2.1 i hi).2
theorem WFc.cch (h : WFc κ y) (hl : live y 9 i) : live y 1 (11 + i) := (h.2.2.2.2.2.2.1 i hl).1.1
theorem WFc.cpa (h : WFc κ y) (hl : live y 9 i) : live y 48 i := (h.2.2.2.2.2.2.1 i hl).1.2
theorem WFc.nP5 (h : WFc κ y) (hl : live y 9 i) : nP y i ≤ 5 := (h.2.2.2.2.2.2.1 i hl).2.1
theorem WFc.ci4 (h : WFc κ y) (hl : live y 9 i) : i < 4 := (h.2.2.2.2.2.2.1 i hl).2.2.1
theorem WFc.par (h : WFc κ y) (hl : live y 9 i) {p : Nat} (hp : p < nP y i) : live y 10 (5 * i + p) := ((h.2.2.2.2.2.2.1 i hl).2.2.2 p hp).1
theorem WFc.elP (h : WFc κ y) (hl : live y 9 i) {p : Nat} (hp : p < nP y i) : y.2 348 (16 * i + p) = y.2 10 (5 * i + p) := ((h.2.2.2.2.2.2.1 i hl).2.2.2 p hp).2
theorem WFc.lot (h : WFc κ y) (hi : i < nL y) : live y 11 i := (h.2.2.2.2.2.2.2.1 i hi).1
theorem WFc.elL (h : WFc κ y) (hi : i < nL y) : y.2 344 (16 * 0 + i) = y.2 11 i := (h.2.2.2.2.2.2.2.1 i hi).2
theorem WFc.bid (h : WFc κ y) (hl : live y 11 i) : live y 12 i := (h.2.2.2.2.2.2.2.2.1 i hl).1.1
theorem WFc.age (h : WFc κ y) (hl : live y 11 i) : live y 13 i := (h.2.2.2.2.2.2.2.2.1 i hl).1.2
theorem WFc.li8 (h : WFc κ y) (hl : live y 11 i) : i < 9 := (h.2.2.2.2.2.2.2.2.1 i hl).2
theorem WFc.arV (h : WFc κ y) (hi : 0 < nV y) : live y 41 0 := h.2.2.2.2.2.2.2.2.2.1 hi
theorem WFc.arC (h : WFc κ y) (hi : 0 < nC y) : live y 43 0 := h.2.2.2.2.2.2.2.2.2.2.1 hi
theorem WFc.arL (h : WFc κ y) (hi : 0 < nL y) : live y 45 0 := h.2.2.2.2.2.2.2.2.2.2.2.1 hi
theorem WFc.arP (h : WFc κ y) (hi : 0 < nP y i) : live y 49 i := h.2.2.2.2.2.2.2.2.2.2.2.2 i hi
end WFC
/-- the box n of the reference lies at address a: one of its own, or one out of Integer's cache -/
def bxO (κ : Kx) (y : Ly) (a n : Nat) : Prop := (y.1 36 n = 1 ∧ a = y.2 36 n) ∨ (¬ y.1 36 n = 1 ∧ y.1 137 n < 256 ∧ a = kA κ (5000 + y.1 137 n))
/-- what it holds -/
def bxV (w : Wd) (y : Ly) (n : Nat) : Int32 := if y.1 36 n = 1 then gv w 36 n 0 else nI (y.1 137 n) - 128
/-- the reference's part -/
def WFm (κ : Kx) (y : Ly) : Prop :=
  (live y 20 0 ∧ live y 50 0 ∧ live y 52 0 ∧ live y 54 0 ∧ live y 30 0 ∧ live y 31 0 ∧ live y 32 0 ∧ live y 33 0 ∧ live y 34 0 ∧ live y 35 0) ∧
  (mV y ≤ 8 ∧ mC y ≤ 4 ∧ mL y ≤ 8) ∧
  (∀ i, i < mV y → live y 21 i ∧ y.2 350 (16 * 0 + i) = y.2 21 i) ∧
  (∀ i, live y 21 i → (live y 22 i ∧ live y 23 i ∧ live y 24 i) ∧ i < 8) ∧
  (∀ j, j < mC y → live y 26 j ∧ y.2 352 (16 * 0 + j) = y.2 26 j) ∧
  (∀ j, live y 26 j → (live y 56 j ∧ live y 58 j) ∧ mS y j ≤ 5 ∧ mT y j ≤ mS y j ∧ j < 4 ∧ (∀ t, t < mS y j → bxO κ y (y.2 356 (16 * j + t)) (5 * j + t)) ∧ ∀ t, t < mT y j → bxO κ y (y.2 358 (16 * j + t)) (50 + (5 * j + t))) ∧
  (∀ k, k < mL y → live y 27 k ∧ y.2 354 (16 * 0 + k) = y.2 27 k) ∧
  (∀ k, live y 27 k → (live y 28 k ∧ live y 29 k) ∧ k < 8) ∧
  ((0 < mV y → live y 51 0) ∧ (0 < mC y → live y 53 0) ∧ (0 < mL y → live y 55 0) ∧ (∀ j, 0 < mS y j → live y 57 j) ∧ ∀ j, 0 < mT y j → live y 59 j)
section WFM
variable {κ : Kx} {y : Ly} {i : Nat}
theorem WFm.mro (h : WFm κ y) : live y 20 0 := h.1.1
theorem WFm.lsV (h : WFm κ y) : live y 50 0 := h.1.2.1
theorem WFm.lsC (h : WFm κ y) : live y 52 0 := h.1.2.2.1
theorem WFm.lsL (h : WFm κ y) : live y 54 0 := h.1.2.2.2.1
theorem WFm.r30 (h : WFm κ y) : live y 30 0 := h.1.2.2.2.2.1
theorem WFm.r31 (h : WFm κ y) : live y 31 0 := h.1.2.2.2.2.2.1
theorem WFm.r32 (h : WFm κ y) : live y 32 0 := h.1.2.2.2.2.2.2.1
theorem WFm.r33 (h : WFm κ y) : live y 33 0 := h.1.2.2.2.2.2.2.2.1
theorem WFm.r34 (h : WFm κ y) : live y 34 0 := h.1.2.2.2.2.2.2.2.2.1
theorem WFm.r35 (h : WFm κ y) : live y 35 0 := h.1.2.2.2.2.2.2.2.2.2
theorem WFm.mV8 (h : WFm κ y) : mV y ≤ 8 := h.2.1.1
theorem WFm.mC4 (h : WFm κ y) : mC y ≤ 4 := h.2.1.2.1
theorem WFm.mL8 (h : WFm κ y) : mL y ≤ 8 := h.2.1.2.2
theorem WFm.vil (h : WFm κ y) (hi : i < mV y) : live y 21 i := (h.2.2.1 i hi).1
theorem WFm.elV (h : WFm κ y) (hi : i < mV y) : y.2 350 (16 * 0 + i) = y.2 21 i := (h.2.2.1 i hi).2
theorem WFm.vra (h : WFm κ y) (hl : live y 21 i) : live y 22 i := (h.2.2.2.1 i hl).1.1
theorem WFm.vex (h : WFm κ y) (hl : live y 21 i) : live y 23 i := (h.2.2.2.1 i hl).1.2.1
theorem WFm.vle (h : WFm κ y) (hl : live y 21 i) : live y 24 i := (h.2.2.2.1 i hl).1.2.2
theorem WFm.vi8 (h : WFm κ y) (hl : live y 21 i) : i < 8 := (h.2.2.2.1 i hl).2
theorem WFm.com (h : WFm κ y) (hi : i < mC y) : live y 26 i := (h.2.2.2.2.1 i hi).1
theorem WFm.elC (h : WFm κ y) (hi : i < mC y) : y.2 352 (16 * 0 + i) = y.2 26 i := (h.2.2.2.2.1 i hi).2
theorem WFm.csh (h : WFm κ y) (hl : live y 26 i) : live y 56 i := (h.2.2.2.2.2.1 i hl).1.1
theorem WFm.cto (h : WFm κ y) (hl : live y 26 i) : live y 58 i := (h.2.2.2.2.2.1 i hl).1.2
theorem WFm.mS5 (h : WFm κ y) (hl : live y 26 i) : mS y i ≤ 5 := (h.2.2.2.2.2.1 i hl).2.1
theorem WFm.mTS (h : WFm κ y) (hl : live y 26 i) : mT y i ≤ mS y i := (h.2.2.2.2.2.1 i hl).2.2.1
theorem WFm.ci4 (h : WFm κ y) (hl : live y 26 i) : i < 4 := (h.2.2.2.2.2.1 i hl).2.2.2.1
theorem WFm.bxS (h : WFm κ y) (hl : live y 26 i) {t : Nat} (ht : t < mS y i) : bxO κ y (y.2 356 (16 * i + t)) (5 * i + t) := (h.2.2.2.2.2.1 i hl).2.2.2.2.1 t ht
theorem WFm.bxT (h : WFm κ y) (hl : live y 26 i) {t : Nat} (ht : t < mT y i) : bxO κ y (y.2 358 (16 * i + t)) (50 + (5 * i + t)) := (h.2.2.2.2.2.1 i hl).2.2.2.2.2 t ht
theorem WFm.lot (h : WFm κ y) (hi : i < mL y) : live y 27 i := (h.2.2.2.2.2.2.1 i hi).1
theorem WFm.elL (h : WFm κ y) (hi : i < mL y) : y.2 354 (16 * 0 + i) = y.2 27 i := (h.2.2.2.2.2.2.1 i hi).2
theorem WFm.bid (h : WFm κ y) (hl : live y 27 i) : live y 28 i := (h.2.2.2.2.2.2.2.1 i hl).1.1
theorem WFm.age (h : WFm κ y) (hl : live y 27 i) : live y 29 i := (h.2.2.2.2.2.2.2.1 i hl).1.2
theorem WFm.li8 (h : WFm κ y) (hl : live y 27 i) : i < 8 := (h.2.2.2.2.2.2.2.1 i hl).2
theorem WFm.arV (h : WFm κ y) (hi : 0 < mV y) : live y 51 0 := h.2.2.2.2.2.2.2.2.1 hi
theorem WFm.arC (h : WFm κ y) (hi : 0 < mC y) : live y 53 0 := h.2.2.2.2.2.2.2.2.2.1 hi
theorem WFm.arL (h : WFm κ y) (hi : 0 < mL y) : live y 55 0 := h.2.2.2.2.2.2.2.2.2.2.1 hi
theorem WFm.arS (h : WFm κ y) (hi : 0 < mS y i) : live y 57 i := h.2.2.2.2.2.2.2.2.2.2.2.1 i hi
theorem WFm.arT (h : WFm κ y) (hi : 0 < mT y i) : live y 59 i := h.2.2.2.2.2.2.2.2.2.2.2.2 i hi
end WFM
def bi (p : Prop) [Decidable p] : Int32 := if p then 1 else 0
theorem bi_0 {p : Prop} [Decidable p] : bi p = 0 ↔ ¬ p := by unfold bi; split <;> simp [*]
theorem bi_n0 {p : Prop} [Decidable p] : ¬ bi p = 0 ↔ p := by unfold bi; split <;> simp [*]
theorem bi_1 {p : Prop} [Decidable p] : bi p = 1 ↔ p := by unfold bi; split <;> simp [*]
def jmax (a b : Int32) : Int32 := if a < b then b else a
def jmin (a b : Int32) : Int32 := if b < a then b else a
