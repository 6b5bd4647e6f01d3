/-! NEW OBJECTS GO OVER INTO THE WORLD (printed by wip gen/mkr.py) -/
set_option maxRecDepth 100000
def fr (l : List Int32) (j : Nat) : Int32 := (l[j]?).getD 0
def yMkC (y : Ly) (n : Nat) (q a1 a3 : Nat) : Ly := seA (seA (seA (seF (seF (seF (seF (seF (seF y 9 (n) 1) 1 (11 + n) 1) 48 (n) 1) 49 (n) 0) 148 (n) 0) 248 (n) 0) 9 (n) (q)) 1 (11 + n) (a1)) 48 (n) (a3)
def wMkC (w : Wd) (n : Nat) (p2 : Int32) (p3 : Int32) : Wd := sr (sr w 9 (n) (fr [0, 0, 0, p2, 0, p3, 0, 0, 0, 0, 0, 0])) 1 (11 + n) (fr [0])
theorem yMkC_1 {y : Ly} {n q a1 a3 : Nat} {a b : Nat} (h : ¬ ((a = 9 ∧ b = n) ∨ (a = 1 ∧ b = 11 + n) ∨ (a = 48 ∧ b = n) ∨ (a = 49 ∧ b = n) ∨ (a = 148 ∧ b = n) ∨ (a = 248 ∧ b = n))) : (yMkC y n q a1 a3).1 a b = y.1 a b := by
  show (seF (seF (seF (seF (seF (seF (y) 9 (n) 1) 1 (11 + n) 1) 48 (n) 1) 49 (n) 0) 148 (n) 0) 248 (n) 0).1 a b = _
  rw [seF_ne (fun e => h (by omega)), seF_ne (fun e => h (by omega)), seF_ne (fun e => h (by omega)), seF_ne (fun e => h (by omega)), seF_ne (fun e => h (by omega)), seF_ne (fun e => h (by omega))]
theorem yMkC_2 {y : Ly} {n q a1 a3 : Nat} {a b : Nat} (h : ¬ ((a = 9 ∧ b = n) ∨ (a = 1 ∧ b = 11 + n) ∨ (a = 48 ∧ b = n))) : (yMkC y n q a1 a3).2 a b = y.2 a b := by
  show (seA (seA (seA (y) 9 (n) (q)) 1 (11 + n) (a1)) 48 (n) (a3)).2 a b = _
  rw [seA_ne (fun e => h (by omega)), seA_ne (fun e => h (by omega)), seA_ne (fun e => h (by omega))]
theorem yMkC_f0 {y : Ly} {n q a1 a3 : Nat} : (yMkC y n q a1 a3).1 9 (n) = 1 := by
  show (seF (seF (seF (seF (seF (seF (y) 9 (n) 1) 1 (11 + n) 1) 48 (n) 1) 49 (n) 0) 148 (n) 0) 248 (n) 0).1 9 (n) = _
  rw [seF_ne (fun e => by omega), seF_ne (fun e => by omega), seF_ne (fun e => by omega), seF_ne (fun e => by omega), seF_ne (fun e => by omega), seF_eq]
theorem yMkC_f1 {y : Ly} {n q a1 a3 : Nat} : (yMkC y n q a1 a3).1 1 (11 + n) = 1 := by
  show (seF (seF (seF (seF (seF (seF (y) 9 (n) 1) 1 (11 + n) 1) 48 (n) 1) 49 (n) 0) 148 (n) 0) 248 (n) 0).1 1 (11 + n) = _
  rw [seF_ne (fun e => by omega), seF_ne (fun e => by omega), seF_ne (fun e => by omega), seF_ne (fun e => by omega), seF_eq]
theorem yMkC_f2 {y : Ly} {n q a1 a3 : Nat} : (yMkC y n q a1 a3).1 48 (n) = 1 := by
  show (seF (seF (seF (seF (seF (seF (y) 9 (n) 1) 1 (11 + n) 1) 48 (n) 1) 49 (n) 0) 148 (n) 0) 248 (n) 0).1 48 (n) = _
  rw [seF_ne (fun e => by omega), seF_ne (fun e => by omega), seF_ne (fun e => by omega), seF_eq]
theorem yMkC_f3 {y : Ly} {n q a1 a3 : Nat} : (yMkC y n q a1 a3).1 49 (n) = 0 := by
  show (seF (seF (seF (seF (seF (seF (y) 9 (n) 1) 1 (11 + n) 1) 48 (n) 1) 49 (n) 0) 148 (n) 0) 248 (n) 0).1 49 (n) = _
  rw [seF_ne (fun e => by omega), seF_ne (fun e => by omega), seF_eq]
theorem yMkC_f4 {y : Ly} {n q a1 a3 : Nat} : (yMkC y n q a1 a3).1 148 (n) = 0 := by
  show (seF (seF (seF (seF (seF (seF (y) 9 (n) 1) 1 (11 + n) 1) 48 (n) 1) 49 (n) 0) 148 (n) 0) 248 (n) 0).1 148 (n) = _
  rw [seF_ne (fun e => by omega), seF_eq]
theorem yMkC_f5 {y : Ly} {n q a1 a3 : Nat} : (yMkC y n q a1 a3).1 248 (n) = 0 := by
  show (seF (seF (seF (seF (seF (seF (y) 9 (n) 1) 1 (11 + n) 1) 48 (n) 1) 49 (n) 0) 148 (n) 0) 248 (n) 0).1 248 (n) = _
  rw [seF_eq]
theorem yMkC_a0 {y : Ly} {n q a1 a3 : Nat} : (yMkC y n q a1 a3).2 9 (n) = q := by
  show (seA (seA (seA (y) 9 (n) (q)) 1 (11 + n) (a1)) 48 (n) (a3)).2 9 (n) = _
  rw [seA_ne (fun e => by omega), seA_ne (fun e => by omega), seA_eq]
theorem yMkC_a1 {y : Ly} {n q a1 a3 : Nat} : (yMkC y n q a1 a3).2 1 (11 + n) = a1 := by
  show (seA (seA (seA (y) 9 (n) (q)) 1 (11 + n) (a1)) 48 (n) (a3)).2 1 (11 + n) = _
  rw [seA_ne (fun e => by omega), seA_eq]
theorem yMkC_a2 {y : Ly} {n q a1 a3 : Nat} : (yMkC y n q a1 a3).2 48 (n) = a3 := by
  show (seA (seA (seA (y) 9 (n) (q)) 1 (11 + n) (a1)) 48 (n) (a3)).2 48 (n) = _
  rw [seA_eq]
theorem wMkC_ne {w : Wd} {n : Nat} {p2 : Int32} {p3 : Int32} {a b : Nat} (h : ¬ ((a = 9 ∧ b = n) ∨ (a = 1 ∧ b = 11 + n) ∨ (a = 48 ∧ b = n))) : (wMkC w n p2 p3).1 a b = w.1 a b := by
  unfold wMkC
  rw [sr_ne (fun e => h (by omega)), sr_ne (fun e => h (by omega))]
theorem wMkC_v0 {w : Wd} {n : Nat} {p2 : Int32} {p3 : Int32} : (wMkC w n p2 p3).1 9 (n) = fr [0, 0, 0, p2, 0, p3, 0, 0, 0, 0, 0, 0] := by
  unfold wMkC
  rw [sr_ne (fun e => by omega), sr_same]
theorem wMkC_v1 {w : Wd} {n : Nat} {p2 : Int32} {p3 : Int32} : (wMkC w n p2 p3).1 1 (11 + n) = fr [0] := by
  unfold wMkC
  rw [sr_same]
theorem ce_mkC {κ : Kx} {y : Ly} {n q a1 a3 : Nat} {a b : Nat} {g : Nat → Int32} {d : Int64} (hk : a < 100) (hA : ¬ ((a = 9 ∧ b = n) ∨ (a = 1 ∧ b = 11 + n) ∨ (a = 48 ∧ b = n))) (hZ : ¬ ((a = 49 ∧ b = n))) (hx6 : a = 6 → b < 8) (hx14 : a = 14 → (g 0).toNatClampNeg ≠ n) : ce κ (yMkC y n q a1 a3) a b g d = ce κ y a b g d := by
  have m1 : ∀ a b, ¬ ((a = 9 ∧ b = n) ∨ (a = 1 ∧ b = 11 + n) ∨ (a = 48 ∧ b = n) ∨ (a = 49 ∧ b = n) ∨ (a = 148 ∧ b = n) ∨ (a = 248 ∧ b = n)) → (yMkC y n q a1 a3).1 a b = y.1 a b := fun a b h => yMkC_1 h
  have m2 : ∀ a b, ¬ ((a = 9 ∧ b = n) ∨ (a = 1 ∧ b = 11 + n) ∨ (a = 48 ∧ b = n)) → (yMkC y n q a1 a3).2 a b = y.2 a b := fun a b h => yMkC_2 h
  generalize yMkC y n q a1 a3 = y1 at m1 m2 ⊢
  have g2 : ∀ a, a ≠ 1 → a ≠ 9 → a ≠ 48 → y1.2 a = y.2 a := fun a _ _ _ => funext fun b => m2 a b (by omega)
  have g1 : ∀ a, a ≠ 1 → a ≠ 9 → a ≠ 48 → a ≠ 49 → a ≠ 148 → a ≠ 248 → y1.1 a = y.1 a := fun a _ _ _ _ _ _ => funext fun b => m1 a b (by omega)
  have p1 : ∀ b, b ≠ 11 + n → y1.2 1 b = y.2 1 b := fun b _ => m2 1 b (by omega)
  have p9 : ∀ b, b ≠ n → y1.2 9 b = y.2 9 b := fun b _ => m2 9 b (by omega)
  have p48 : ∀ b, b ≠ n → y1.2 48 b = y.2 48 b := fun b _ => m2 48 b (by omega)
  have hE : a % 2 = 0 → a ≠ 0 → a ≠ 1 → a ≠ 8 → a ≠ 9 → lsC κ y1 a b = lsC κ y a b := fun _ _ _ _ _ => lsC_eq (m1 _ _ (by omega)) (m1 _ _ (by omega)) (m1 _ _ (by omega)) (m2 _ _ (by omega))
  have hO : ¬ a % 2 = 0 → a ≠ 0 → a ≠ 1 → a ≠ 8 → a ≠ 9 → laC κ y1 (a - 1) b = laC κ y (a - 1) b := fun _ _ _ _ _ => laC_eq2 (m1 _ _ (by omega)) (fun t ht => m2 _ _ (by omega))
  unfold ce
  split
  all_goals try replace hx6 := hx6 rfl
  all_goals try replace hx14 := hx14 rfl
  all_goals first
    | rfl
    | (split
       · exact hE (by assumption) (by assumption) (by assumption) (by assumption) (by assumption)
       · exact hO (by assumption) (by assumption) (by assumption) (by assumption) (by assumption))
    | (simp (disch := omega) only [g1 14 (by decide) (by decide) (by decide) (by decide) (by decide) (by decide), g1 25 (by decide) (by decide) (by decide) (by decide) (by decide) (by decide), g2 2 (by decide) (by decide) (by decide), g2 3 (by decide) (by decide) (by decide), g2 4 (by decide) (by decide) (by decide), g2 5 (by decide) (by decide) (by decide), g2 7 (by decide) (by decide) (by decide), g2 8 (by decide) (by decide) (by decide), g2 12 (by decide) (by decide) (by decide), g2 13 (by decide) (by decide) (by decide), g2 14 (by decide) (by decide) (by decide), g2 16 (by decide) (by decide) (by decide), g2 22 (by decide) (by decide) (by decide), g2 23 (by decide) (by decide) (by decide), g2 24 (by decide) (by decide) (by decide), g2 25 (by decide) (by decide) (by decide), g2 28 (by decide) (by decide) (by decide), g2 29 (by decide) (by decide) (by decide), g2 30 (by decide) (by decide) (by decide), g2 31 (by decide) (by decide) (by decide), g2 32 (by decide) (by decide) (by decide), g2 33 (by decide) (by decide) (by decide), g2 34 (by decide) (by decide) (by decide), g2 35 (by decide) (by decide) (by decide), g2 40 (by decide) (by decide) (by decide), g2 42 (by decide) (by decide) (by decide), g2 44 (by decide) (by decide) (by decide), g2 46 (by decide) (by decide) (by decide), g2 50 (by decide) (by decide) (by decide), g2 52 (by decide) (by decide) (by decide), g2 54 (by decide) (by decide) (by decide), g2 56 (by decide) (by decide) (by decide), g2 58 (by decide) (by decide) (by decide), p1, p9, p48]; done)
    | (simp (disch := omega) only [g1 14 (by decide) (by decide) (by decide) (by decide) (by decide) (by decide), g1 25 (by decide) (by decide) (by decide) (by decide) (by decide) (by decide), g2 2 (by decide) (by decide) (by decide), g2 3 (by decide) (by decide) (by decide), g2 4 (by decide) (by decide) (by decide), g2 5 (by decide) (by decide) (by decide), g2 7 (by decide) (by decide) (by decide), g2 8 (by decide) (by decide) (by decide), g2 12 (by decide) (by decide) (by decide), g2 13 (by decide) (by decide) (by decide), g2 14 (by decide) (by decide) (by decide), g2 16 (by decide) (by decide) (by decide), g2 22 (by decide) (by decide) (by decide), g2 23 (by decide) (by decide) (by decide), g2 24 (by decide) (by decide) (by decide), g2 25 (by decide) (by decide) (by decide), g2 28 (by decide) (by decide) (by decide), g2 29 (by decide) (by decide) (by decide), g2 30 (by decide) (by decide) (by decide), g2 31 (by decide) (by decide) (by decide), g2 32 (by decide) (by decide) (by decide), g2 33 (by decide) (by decide) (by decide), g2 34 (by decide) (by decide) (by decide), g2 35 (by decide) (by decide) (by decide), g2 40 (by decide) (by decide) (by decide), g2 42 (by decide) (by decide) (by decide), g2 44 (by decide) (by decide) (by decide), g2 46 (by decide) (by decide) (by decide), g2 50 (by decide) (by decide) (by decide), g2 52 (by decide) (by decide) (by decide), g2 54 (by decide) (by decide) (by decide), g2 56 (by decide) (by decide) (by decide), g2 58 (by decide) (by decide) (by decide), p1, p9, p48]; rfl)
theorem Rp.mkC {κ : Kx} {w : Wd} {y : Ly} {X : XR} {H : Heap} {n q a1 a3 : Nat} {p2 : Int32} {p3 : Int32} (h : Rp κ w y X [(q, .inr (7, [.int (nI n), .ref a1, .ref a3, .int p2, .int 0, .int p3, .int 0, .int 0, .int 0, .int 0, .int 0, .int 0])), (a1, .inr (1, [.int 0])), (a3, eL 0 (kA κ 1) 0)] H) (hx6 : ∀ i, live y 6 i → i < 8) (hx14 : ∀ i, live y 14 i → (w.1 14 i 0).toNatClampNeg ≠ n) : Rp κ (wMkC w n p2 p3) (yMkC y n q a1 a3) X [] H := by
  refine h.back (X := X) (w' := wMkC w n p2 p3) (y' := yMkC y n q a1 a3) (L' := []) (fun _ _ hx => hx) (fun a b => (a = 9 ∧ b = n) ∨ (a = 1 ∧ b = 11 + n) ∨ (a = 48 ∧ b = n)) (fun a b hl hA => ?_) (fun a b hl hA => Or.inr ?_) (fun a b a' b' _ _ hA hA' e9 => ?_) (fun t q h => by simp at h) va_D0
  · have h9 := hl.1
    have hk := hl.2
    by_cases z3 : a = 49 ∧ b = n
    · obtain ⟨rfl, rfl⟩ := z3
      rw [yMkC_f3] at h9
      cases h9
    rw [yMkC_1 (by omega)] at h9
    refine ⟨⟨h9, hk⟩, yMkC_2 (by omega), ?_⟩
    rw [wMkC_ne hA]
    exact ce_mkC hk hA (by omega) (fun e => hx6 b ⟨by rw [← e]; exact h9, by decide⟩) (fun e => by subst e; exact hx14 b ⟨h9, hk⟩)
  · rcases hA with ⟨rfl, hb⟩ | ⟨rfl, hb⟩ | ⟨rfl, hb⟩ <;> (have hb := hb.symm; subst hb)
    · exact ⟨0, by rw [yMkC_a0]; simp only [ce, lsC, yMkC_a0, yMkC_a1, yMkC_a2, wMkC_v0, wMkC_v1, yMkC_f0, yMkC_f1, yMkC_f2, yMkC_f3, yMkC_f4, yMkC_f5]; rfl⟩
    · exact ⟨1, by rw [yMkC_a1]; simp only [ce, wMkC_v0, wMkC_v1]; rw [if_neg (by omega)]; rfl⟩
    · exact ⟨2, by rw [yMkC_a2]; show some (a3, eL 0 (kA κ 1) 0) = some (a3, Sum.inr (16, [Value.int (nI ((yMkC y n q a1 a3).1 248 (n))), Value.ref (if (yMkC y n q a1 a3).1 49 (n) = 1 then (yMkC y n q a1 a3).2 49 (n) else kA κ 1), Value.int (nI ((yMkC y n q a1 a3).1 148 (n)))])); rw [yMkC_f5, yMkC_f3, yMkC_f4, if_neg (by decide)]; rfl⟩
  · rcases hA with ⟨rfl, rfl⟩ | ⟨rfl, rfl⟩ | ⟨rfl, rfl⟩ <;> rcases hA' with ⟨rfl, rfl⟩ | ⟨rfl, rfl⟩ | ⟨rfl, rfl⟩
    · exact ⟨rfl, rfl⟩
    · rw [yMkC_a0, yMkC_a1] at e9; have := h.LD.1 0 1 _ _ rfl rfl e9; omega
    · rw [yMkC_a0, yMkC_a2] at e9; have := h.LD.1 0 2 _ _ rfl rfl e9; omega
    · rw [yMkC_a1, yMkC_a0] at e9; have := h.LD.1 1 0 _ _ rfl rfl e9; omega
    · exact ⟨rfl, rfl⟩
    · rw [yMkC_a1, yMkC_a2] at e9; have := h.LD.1 1 2 _ _ rfl rfl e9; omega
    · rw [yMkC_a2, yMkC_a0] at e9; have := h.LD.1 2 0 _ _ rfl rfl e9; omega
    · rw [yMkC_a2, yMkC_a1] at e9; have := h.LD.1 2 1 _ _ rfl rfl e9; omega
    · exact ⟨rfl, rfl⟩
def yMkP (y : Ly) (n : Nat) (q : Nat) : Ly := seA (seF y 10 (n) 1) 10 (n) (q)
def wMkP (w : Wd) (n : Nat) (p1 : Int32) : Wd := sr w 10 (n) (fr [p1, 0])
theorem yMkP_1 {y : Ly} {n q : Nat} {a b : Nat} (h : ¬ ((a = 10 ∧ b = n))) : (yMkP y n q).1 a b = y.1 a b := by
  show (seF (y) 10 (n) 1).1 a b = _
  rw [seF_ne (fun e => h (by omega))]
theorem yMkP_2 {y : Ly} {n q : Nat} {a b : Nat} (h : ¬ ((a = 10 ∧ b = n))) : (yMkP y n q).2 a b = y.2 a b := by
  show (seA (y) 10 (n) (q)).2 a b = _
  rw [seA_ne (fun e => h (by omega))]
theorem yMkP_f0 {y : Ly} {n q : Nat} : (yMkP y n q).1 10 (n) = 1 := by
  show (seF (y) 10 (n) 1).1 10 (n) = _
  rw [seF_eq]
theorem yMkP_a0 {y : Ly} {n q : Nat} : (yMkP y n q).2 10 (n) = q := by
  show (seA (y) 10 (n) (q)).2 10 (n) = _
  rw [seA_eq]
theorem wMkP_ne {w : Wd} {n : Nat} {p1 : Int32} {a b : Nat} (h : ¬ ((a = 10 ∧ b = n))) : (wMkP w n p1).1 a b = w.1 a b := by
  unfold wMkP
  rw [sr_ne (fun e => h (by omega))]
theorem wMkP_v0 {w : Wd} {n : Nat} {p1 : Int32} : (wMkP w n p1).1 10 (n) = fr [p1, 0] := by
  unfold wMkP
  rw [sr_same]
theorem ce_mkP {κ : Kx} {y : Ly} {n q : Nat} {a b : Nat} {g : Nat → Int32} {d : Int64} (hk : a < 100) (hA : ¬ ((a = 10 ∧ b = n))) : ce κ (yMkP y n q) a b g d = ce κ y a b g d := by
  have m1 : ∀ a b, ¬ ((a = 10 ∧ b = n)) → (yMkP y n q).1 a b = y.1 a b := fun a b h => yMkP_1 h
  have m2 : ∀ a b, ¬ ((a = 10 ∧ b = n)) → (yMkP y n q).2 a b = y.2 a b := fun a b h => yMkP_2 h
  generalize yMkP y n q = y1 at m1 m2 ⊢
  have g2 : ∀ a, a ≠ 10 → y1.2 a = y.2 a := fun a _ => funext fun b => m2 a b (by omega)
  have g1 : ∀ a, a ≠ 10 → y1.1 a = y.1 a := fun a _ => funext fun b => m1 a b (by omega)
  have p10 : ∀ b, b ≠ n → y1.2 10 b = y.2 10 b := fun b _ => m2 10 b (by omega)
  have hE : a % 2 = 0 → a ≠ 10 → a ≠ 11 → lsC κ y1 a b = lsC κ y a b := fun _ _ _ => lsC_eq (m1 _ _ (by omega)) (m1 _ _ (by omega)) (m1 _ _ (by omega)) (m2 _ _ (by omega))
  have hO : ¬ a % 2 = 0 → a ≠ 10 → a ≠ 11 → laC κ y1 (a - 1) b = laC κ y (a - 1) b := fun _ _ _ => laC_eq2 (m1 _ _ (by omega)) (fun t ht => m2 _ _ (by omega))
  unfold ce
  split
  all_goals try replace hx6 := hx6 rfl
  all_goals try replace hx14 := hx14 rfl
  all_goals first
    | rfl
    | (split
       · exact hE (by assumption) (by assumption) (by assumption)
       · exact hO (by assumption) (by assumption) (by assumption))
    | (simp (disch := omega) only [g1 14 (by decide), g1 25 (by decide), g2 1 (by decide), g2 2 (by decide), g2 3 (by decide), g2 4 (by decide), g2 5 (by decide), g2 7 (by decide), g2 8 (by decide), g2 9 (by decide), g2 12 (by decide), g2 13 (by decide), g2 14 (by decide), g2 16 (by decide), g2 22 (by decide), g2 23 (by decide), g2 24 (by decide), g2 25 (by decide), g2 28 (by decide), g2 29 (by decide), g2 30 (by decide), g2 31 (by decide), g2 32 (by decide), g2 33 (by decide), g2 34 (by decide), g2 35 (by decide), g2 40 (by decide), g2 42 (by decide), g2 44 (by decide), g2 46 (by decide), g2 48 (by decide), g2 50 (by decide), g2 52 (by decide), g2 54 (by decide), g2 56 (by decide), g2 58 (by decide)]; done)
    | (simp (disch := omega) only [g1 14 (by decide), g1 25 (by decide), g2 1 (by decide), g2 2 (by decide), g2 3 (by decide), g2 4 (by decide), g2 5 (by decide), g2 7 (by decide), g2 8 (by decide), g2 9 (by decide), g2 12 (by decide), g2 13 (by decide), g2 14 (by decide), g2 16 (by decide), g2 22 (by decide), g2 23 (by decide), g2 24 (by decide), g2 25 (by decide), g2 28 (by decide), g2 29 (by decide), g2 30 (by decide), g2 31 (by decide), g2 32 (by decide), g2 33 (by decide), g2 34 (by decide), g2 35 (by decide), g2 40 (by decide), g2 42 (by decide), g2 44 (by decide), g2 46 (by decide), g2 48 (by decide), g2 50 (by decide), g2 52 (by decide), g2 54 (by decide), g2 56 (by decide), g2 58 (by decide)]; rfl)
theorem Rp.mkP {κ : Kx} {w : Wd} {y : Ly} {X : XR} {H : Heap} {n q : Nat} {p1 : Int32} (h : Rp κ w y X [(q, .inr (8, [.int p1, .int 0]))] H) : Rp κ (wMkP w n p1) (yMkP y n q) X [] H := by
  refine h.back (X := X) (w' := wMkP w n p1) (y' := yMkP y n q) (L' := []) (fun _ _ hx => hx) (fun a b => (a = 10 ∧ b = n)) (fun a b hl hA => ?_) (fun a b hl hA => Or.inr ?_) (fun a b a' b' _ _ hA hA' e9 => ?_) (fun t q h => by simp at h) va_D0
  · have h9 := hl.1
    have hk := hl.2
    rw [yMkP_1 (by omega)] at h9
    refine ⟨⟨h9, hk⟩, yMkP_2 (by omega), ?_⟩
    rw [wMkP_ne hA]
    exact ce_mkP hk hA
  · rcases hA with ⟨rfl, hb⟩ <;> (have hb := hb.symm; subst hb)
    · exact ⟨0, by rw [yMkP_a0]; simp only [ce, lsC, yMkP_a0, wMkP_v0, yMkP_f0]; rfl⟩
  · rcases hA with ⟨rfl, rfl⟩ <;> rcases hA' with ⟨rfl, rfl⟩
    · exact ⟨rfl, rfl⟩
def yMkL (y : Ly) (n : Nat) (q a1 a2 : Nat) : Ly := seA (seA (seA (seF (seF (seF (seF y 11 (n) 1) 12 (n) 1) 13 (n) 1) 14 (n) 0) 11 (n) (q)) 12 (n) (a1)) 13 (n) (a2)
def wMkL (w : Wd) (n : Nat) (d2 : Nat) (p3 : Int32) (p4 : Int32) (p5 : Int32) : Wd := sr (sr (sr w 11 (n) (fr [0, (nI d2), p3, p4, p5, 0, 0, 0, 0, 0, 0, 0, 0, 0, (-1)])) 12 (n) (fun _ => 0)) 13 (n) (fun _ => 0)
theorem yMkL_1 {y : Ly} {n q a1 a2 : Nat} {a b : Nat} (h : ¬ ((a = 11 ∧ b = n) ∨ (a = 12 ∧ b = n) ∨ (a = 13 ∧ b = n) ∨ (a = 14 ∧ b = n))) : (yMkL y n q a1 a2).1 a b = y.1 a b := by
  show (seF (seF (seF (seF (y) 11 (n) 1) 12 (n) 1) 13 (n) 1) 14 (n) 0).1 a b = _
  rw [seF_ne (fun e => h (by omega)), seF_ne (fun e => h (by omega)), seF_ne (fun e => h (by omega)), seF_ne (fun e => h (by omega))]
theorem yMkL_2 {y : Ly} {n q a1 a2 : Nat} {a b : Nat} (h : ¬ ((a = 11 ∧ b = n) ∨ (a = 12 ∧ b = n) ∨ (a = 13 ∧ b = n))) : (yMkL y n q a1 a2).2 a b = y.2 a b := by
  show (seA (seA (seA (y) 11 (n) (q)) 12 (n) (a1)) 13 (n) (a2)).2 a b = _
  rw [seA_ne (fun e => h (by omega)), seA_ne (fun e => h (by omega)), seA_ne (fun e => h (by omega))]
theorem yMkL_f0 {y : Ly} {n q a1 a2 : Nat} : (yMkL y n q a1 a2).1 11 (n) = 1 := by
  show (seF (seF (seF (seF (y) 11 (n) 1) 12 (n) 1) 13 (n) 1) 14 (n) 0).1 11 (n) = _
  rw [seF_ne (fun e => by omega), seF_ne (fun e => by omega), seF_ne (fun e => by omega), seF_eq]
theorem yMkL_f1 {y : Ly} {n q a1 a2 : Nat} : (yMkL y n q a1 a2).1 12 (n) = 1 := by
  show (seF (seF (seF (seF (y) 11 (n) 1) 12 (n) 1) 13 (n) 1) 14 (n) 0).1 12 (n) = _
  rw [seF_ne (fun e => by omega), seF_ne (fun e => by omega), seF_eq]
theorem yMkL_f2 {y : Ly} {n q a1 a2 : Nat} : (yMkL y n q a1 a2).1 13 (n) = 1 := by
  show (seF (seF (seF (seF (y) 11 (n) 1) 12 (n) 1) 13 (n) 1) 14 (n) 0).1 13 (n) = _
  rw [seF_ne (fun e => by omega), seF_eq]
theorem yMkL_f3 {y : Ly} {n q a1 a2 : Nat} : (yMkL y n q a1 a2).1 14 (n) = 0 := by
  show (seF (seF (seF (seF (y) 11 (n) 1) 12 (n) 1) 13 (n) 1) 14 (n) 0).1 14 (n) = _
  rw [seF_eq]
theorem yMkL_a0 {y : Ly} {n q a1 a2 : Nat} : (yMkL y n q a1 a2).2 11 (n) = q := by
  show (seA (seA (seA (y) 11 (n) (q)) 12 (n) (a1)) 13 (n) (a2)).2 11 (n) = _
  rw [seA_ne (fun e => by omega), seA_ne (fun e => by omega), seA_eq]
theorem yMkL_a1 {y : Ly} {n q a1 a2 : Nat} : (yMkL y n q a1 a2).2 12 (n) = a1 := by
  show (seA (seA (seA (y) 11 (n) (q)) 12 (n) (a1)) 13 (n) (a2)).2 12 (n) = _
  rw [seA_ne (fun e => by omega), seA_eq]
theorem yMkL_a2 {y : Ly} {n q a1 a2 : Nat} : (yMkL y n q a1 a2).2 13 (n) = a2 := by
  show (seA (seA (seA (y) 11 (n) (q)) 12 (n) (a1)) 13 (n) (a2)).2 13 (n) = _
  rw [seA_eq]
theorem wMkL_ne {w : Wd} {n : Nat} {d2 : Nat} {p3 : Int32} {p4 : Int32} {p5 : Int32} {a b : Nat} (h : ¬ ((a = 11 ∧ b = n) ∨ (a = 12 ∧ b = n) ∨ (a = 13 ∧ b = n))) : (wMkL w n d2 p3 p4 p5).1 a b = w.1 a b := by
  unfold wMkL
  rw [sr_ne (fun e => h (by omega)), sr_ne (fun e => h (by omega)), sr_ne (fun e => h (by omega))]
theorem wMkL_v0 {w : Wd} {n : Nat} {d2 : Nat} {p3 : Int32} {p4 : Int32} {p5 : Int32} : (wMkL w n d2 p3 p4 p5).1 11 (n) = fr [0, (nI d2), p3, p4, p5, 0, 0, 0, 0, 0, 0, 0, 0, 0, (-1)] := by
  unfold wMkL
  rw [sr_ne (fun e => by omega), sr_ne (fun e => by omega), sr_same]
theorem wMkL_v1 {w : Wd} {n : Nat} {d2 : Nat} {p3 : Int32} {p4 : Int32} {p5 : Int32} : (wMkL w n d2 p3 p4 p5).1 12 (n) = fun _ => 0 := by
  unfold wMkL
  rw [sr_ne (fun e => by omega), sr_same]
theorem wMkL_v2 {w : Wd} {n : Nat} {d2 : Nat} {p3 : Int32} {p4 : Int32} {p5 : Int32} : (wMkL w n d2 p3 p4 p5).1 13 (n) = fun _ => 0 := by
  unfold wMkL
  rw [sr_same]
theorem ce_mkL {κ : Kx} {y : Ly} {n q a1 a2 : Nat} {a b : Nat} {g : Nat → Int32} {d : Int64} (hk : a < 100) (hA : ¬ ((a = 11 ∧ b = n) ∨ (a = 12 ∧ b = n) ∨ (a = 13 ∧ b = n))) (hZ : ¬ ((a = 14 ∧ b = n))) : ce κ (yMkL y n q a1 a2) a b g d = ce κ y a b g d := by
  have m1 : ∀ a b, ¬ ((a = 11 ∧ b = n) ∨ (a = 12 ∧ b = n) ∨ (a = 13 ∧ b = n) ∨ (a = 14 ∧ b = n)) → (yMkL y n q a1 a2).1 a b = y.1 a b := fun a b h => yMkL_1 h
  have m2 : ∀ a b, ¬ ((a = 11 ∧ b = n) ∨ (a = 12 ∧ b = n) ∨ (a = 13 ∧ b = n)) → (yMkL y n q a1 a2).2 a b = y.2 a b := fun a b h => yMkL_2 h
  generalize yMkL y n q a1 a2 = y1 at m1 m2 ⊢
  have g2 : ∀ a, a ≠ 11 → a ≠ 12 → a ≠ 13 → y1.2 a = y.2 a := fun a _ _ _ => funext fun b => m2 a b (by omega)
  have g1 : ∀ a, a ≠ 11 → a ≠ 12 → a ≠ 13 → a ≠ 14 → y1.1 a = y.1 a := fun a _ _ _ _ => funext fun b => m1 a b (by omega)
  have p11 : ∀ b, b ≠ n → y1.2 11 b = y.2 11 b := fun b _ => m2 11 b (by omega)
  have p12 : ∀ b, b ≠ n → y1.2 12 b = y.2 12 b := fun b _ => m2 12 b (by omega)
  have p13 : ∀ b, b ≠ n → y1.2 13 b = y.2 13 b := fun b _ => m2 13 b (by omega)
  have q14 : ∀ b, b ≠ n → y1.1 14 b = y.1 14 b := fun b _ => m1 14 b (by omega)
  have hE : a % 2 = 0 → a ≠ 10 → a ≠ 11 → a ≠ 12 → a ≠ 13 → a ≠ 14 → a ≠ 15 → lsC κ y1 a b = lsC κ y a b := fun _ _ _ _ _ _ _ => lsC_eq (m1 _ _ (by omega)) (m1 _ _ (by omega)) (m1 _ _ (by omega)) (m2 _ _ (by omega))
  have hO : ¬ a % 2 = 0 → a ≠ 10 → a ≠ 11 → a ≠ 12 → a ≠ 13 → a ≠ 14 → a ≠ 15 → laC κ y1 (a - 1) b = laC κ y (a - 1) b := fun _ _ _ _ _ _ _ => laC_eq2 (m1 _ _ (by omega)) (fun t ht => m2 _ _ (by omega))
  unfold ce
  split
  all_goals try replace hx6 := hx6 rfl
  all_goals try replace hx14 := hx14 rfl
  all_goals first
    | rfl
    | (split
       · exact hE (by assumption) (by assumption) (by assumption) (by assumption) (by assumption) (by assumption) (by assumption)
       · exact hO (by assumption) (by assumption) (by assumption) (by assumption) (by assumption) (by assumption) (by assumption))
    | (simp (disch := omega) only [g1 25 (by decide) (by decide) (by decide) (by decide), g2 1 (by decide) (by decide) (by decide), g2 2 (by decide) (by decide) (by decide), g2 3 (by decide) (by decide) (by decide), g2 4 (by decide) (by decide) (by decide), g2 5 (by decide) (by decide) (by decide), g2 7 (by decide) (by decide) (by decide), g2 8 (by decide) (by decide) (by decide), g2 9 (by decide) (by decide) (by decide), g2 14 (by decide) (by decide) (by decide), g2 16 (by decide) (by decide) (by decide), g2 22 (by decide) (by decide) (by decide), g2 23 (by decide) (by decide) (by decide), g2 24 (by decide) (by decide) (by decide), g2 25 (by decide) (by decide) (by decide), g2 28 (by decide) (by decide) (by decide), g2 29 (by decide) (by decide) (by decide), g2 30 (by decide) (by decide) (by decide), g2 31 (by decide) (by decide) (by decide), g2 32 (by decide) (by decide) (by decide), g2 33 (by decide) (by decide) (by decide), g2 34 (by decide) (by decide) (by decide), g2 35 (by decide) (by decide) (by decide), g2 40 (by decide) (by decide) (by decide), g2 42 (by decide) (by decide) (by decide), g2 44 (by decide) (by decide) (by decide), g2 46 (by decide) (by decide) (by decide), g2 48 (by decide) (by decide) (by decide), g2 50 (by decide) (by decide) (by decide), g2 52 (by decide) (by decide) (by decide), g2 54 (by decide) (by decide) (by decide), g2 56 (by decide) (by decide) (by decide), g2 58 (by decide) (by decide) (by decide), p12, p13, q14]; done)
    | (simp (disch := omega) only [g1 25 (by decide) (by decide) (by decide) (by decide), g2 1 (by decide) (by decide) (by decide), g2 2 (by decide) (by decide) (by decide), g2 3 (by decide) (by decide) (by decide), g2 4 (by decide) (by decide) (by decide), g2 5 (by decide) (by decide) (by decide), g2 7 (by decide) (by decide) (by decide), g2 8 (by decide) (by decide) (by decide), g2 9 (by decide) (by decide) (by decide), g2 14 (by decide) (by decide) (by decide), g2 16 (by decide) (by decide) (by decide), g2 22 (by decide) (by decide) (by decide), g2 23 (by decide) (by decide) (by decide), g2 24 (by decide) (by decide) (by decide), g2 25 (by decide) (by decide) (by decide), g2 28 (by decide) (by decide) (by decide), g2 29 (by decide) (by decide) (by decide), g2 30 (by decide) (by decide) (by decide), g2 31 (by decide) (by decide) (by decide), g2 32 (by decide) (by decide) (by decide), g2 33 (by decide) (by decide) (by decide), g2 34 (by decide) (by decide) (by decide), g2 35 (by decide) (by decide) (by decide), g2 40 (by decide) (by decide) (by decide), g2 42 (by decide) (by decide) (by decide), g2 44 (by decide) (by decide) (by decide), g2 46 (by decide) (by decide) (by decide), g2 48 (by decide) (by decide) (by decide), g2 50 (by decide) (by decide) (by decide), g2 52 (by decide) (by decide) (by decide), g2 54 (by decide) (by decide) (by decide), g2 56 (by decide) (by decide) (by decide), g2 58 (by decide) (by decide) (by decide), p12, p13, q14]; rfl)
theorem Rp.mkL {κ : Kx} {w : Wd} {y : Ly} {X : XR} {H : Heap} {n q a1 a2 : Nat} {d2 : Nat} {p3 : Int32} {p4 : Int32} {p5 : Int32} (h : Rp κ w y X [(q, .inr (9, [.int (nI n), .ref (kA κ (20 + d2)), .int p3, .int p4, .int p5, .ref a1, .ref a2, .ref (kA κ 10), .ref (kA κ 0), .int 0, .int 0, .int 0, .int 0, .int 0, .int (-1)])), (a1, .inl (kT κ 0, (4, .inl (fun _ => 0)))), (a2, .inl (kT κ 0, (8, .inl (fun _ => 0))))] H) (hd3 : d2 < 3) : Rp κ (wMkL w n d2 p3 p4 p5) (yMkL y n q a1 a2) X [] H := by
  refine h.back (X := X) (w' := wMkL w n d2 p3 p4 p5) (y' := yMkL y n q a1 a2) (L' := []) (fun _ _ hx => hx) (fun a b => (a = 11 ∧ b = n) ∨ (a = 12 ∧ b = n) ∨ (a = 13 ∧ b = n)) (fun a b hl hA => ?_) (fun a b hl hA => Or.inr ?_) (fun a b a' b' _ _ hA hA' e9 => ?_) (fun t q h => by simp at h) va_D0
  · have h9 := hl.1
    have hk := hl.2
    by_cases z3 : a = 14 ∧ b = n
    · obtain ⟨rfl, rfl⟩ := z3
      rw [yMkL_f3] at h9
      cases h9
    rw [yMkL_1 (by omega)] at h9
    refine ⟨⟨h9, hk⟩, yMkL_2 (by omega), ?_⟩
    rw [wMkL_ne hA]
    exact ce_mkL hk hA (by omega)
  · rcases hA with ⟨rfl, hb⟩ | ⟨rfl, hb⟩ | ⟨rfl, hb⟩ <;> (have hb := hb.symm; subst hb)
    · exact ⟨0, by rw [yMkL_a0]; simp only [ce, yMkL_a0, yMkL_a1, yMkL_a2, wMkL_v0, wMkL_v1, wMkL_v2, yMkL_f3]; rw [show (fr [0, (nI d2), p3, p4, p5, 0, 0, 0, 0, 0, 0, 0, 0, 0, (-1)] 1).toNatClampNeg = d2 from nI_clamp (show d2 < 2 ^ 31 by omega)]; rfl⟩
    · exact ⟨1, by rw [yMkL_a1]; simp only [ce, lsC, yMkL_a0, yMkL_a1, yMkL_a2, wMkL_v0, wMkL_v1, wMkL_v2, yMkL_f0, yMkL_f1, yMkL_f2, yMkL_f3]; rfl⟩
    · exact ⟨2, by rw [yMkL_a2]; simp only [ce, lsC, yMkL_a0, yMkL_a1, yMkL_a2, wMkL_v0, wMkL_v1, wMkL_v2, yMkL_f0, yMkL_f1, yMkL_f2, yMkL_f3]; rfl⟩
  · rcases hA with ⟨rfl, rfl⟩ | ⟨rfl, rfl⟩ | ⟨rfl, rfl⟩ <;> rcases hA' with ⟨rfl, rfl⟩ | ⟨rfl, rfl⟩ | ⟨rfl, rfl⟩
    · exact ⟨rfl, rfl⟩
    · rw [yMkL_a0, yMkL_a1] at e9; have := h.LD.1 0 1 _ _ rfl rfl e9; omega
    · rw [yMkL_a0, yMkL_a2] at e9; have := h.LD.1 0 2 _ _ rfl rfl e9; omega
    · rw [yMkL_a1, yMkL_a0] at e9; have := h.LD.1 1 0 _ _ rfl rfl e9; omega
    · exact ⟨rfl, rfl⟩
    · rw [yMkL_a1, yMkL_a2] at e9; have := h.LD.1 1 2 _ _ rfl rfl e9; omega
    · rw [yMkL_a2, yMkL_a0] at e9; have := h.LD.1 2 0 _ _ rfl rfl e9; omega
    · rw [yMkL_a2, yMkL_a1] at e9; have := h.LD.1 2 1 _ _ rfl rfl e9; omega
    · exact ⟨rfl, rfl⟩
def yMkV (κ : Kx) (y : Ly) (n : Nat) (q a1 a3 a4 a5 u7 : Nat) : Ly := seA (seA (seA (seA (seA (seA (seA (seA (seA (seF (seF (seF (seF (seF (seF (seF (seF (seF (seF (seF y 6 (n) 1) 1 (3 + n) 1) 7 (n) 1) 8 (n) 1) 46 (n) 1) 47 (n) 1) 15 (3 * n) 0) 15 (3 * n + 1) 0) 15 (3 * n + 2) 0) 146 (n) 3) 246 (n) 3) 6 (n) (q)) 1 (3 + n) (a1)) 7 (n) (a3)) 8 (n) (a4)) 46 (n) (a5)) 47 (n) (u7)) 346 (16 * n) (kA κ 0)) 346 (16 * n + 1) (kA κ 0)) 346 (16 * n + 2) (kA κ 0)
def wMkV (w : Wd) (n : Nat) (p2 : Int32) (p3 : Int32) (p4 : Int32) (p5 : Int32) : Wd := sr (sr (sr (sr w 6 (n) (fr [0, p5, 0, 0, 0, 0, p2, p3, p4, 4 * p2, 0, 0, p3, 0, 0, 0, 0, 0])) 1 (3 + n) (fr [0])) 7 (n) (fun _ => 0)) 8 (n) (fun _ => 0)
theorem yMkV_1 {κ : Kx} {y : Ly} {n q a1 a3 a4 a5 u7 : Nat} {a b : Nat} (h : ¬ ((a = 6 ∧ b = n) ∨ (a = 1 ∧ b = 3 + n) ∨ (a = 7 ∧ b = n) ∨ (a = 8 ∧ b = n) ∨ (a = 46 ∧ b = n) ∨ (a = 47 ∧ b = n) ∨ (a = 15 ∧ b = 3 * n) ∨ (a = 15 ∧ b = 3 * n + 1) ∨ (a = 15 ∧ b = 3 * n + 2) ∨ (a = 146 ∧ b = n) ∨ (a = 246 ∧ b = n))) : (yMkV κ y n q a1 a3 a4 a5 u7).1 a b = y.1 a b := by
  show (seF (seF (seF (seF (seF (seF (seF (seF (seF (seF (seF (y) 6 (n) 1) 1 (3 + n) 1) 7 (n) 1) 8 (n) 1) 46 (n) 1) 47 (n) 1) 15 (3 * n) 0) 15 (3 * n + 1) 0) 15 (3 * n + 2) 0) 146 (n) 3) 246 (n) 3).1 a b = _
  rw [seF_ne (fun e => h (by omega)), seF_ne (fun e => h (by omega)), seF_ne (fun e => h (by omega)), seF_ne (fun e => h (by omega)), seF_ne (fun e => h (by omega)), seF_ne (fun e => h (by omega)), seF_ne (fun e => h (by omega)), seF_ne (fun e => h (by omega)), seF_ne (fun e => h (by omega)), seF_ne (fun e => h (by omega)), seF_ne (fun e => h (by omega))]
theorem yMkV_2 {κ : Kx} {y : Ly} {n q a1 a3 a4 a5 u7 : Nat} {a b : Nat} (h : ¬ ((a = 6 ∧ b = n) ∨ (a = 1 ∧ b = 3 + n) ∨ (a = 7 ∧ b = n) ∨ (a = 8 ∧ b = n) ∨ (a = 46 ∧ b = n) ∨ (a = 47 ∧ b = n) ∨ (a = 346 ∧ b = 16 * n) ∨ (a = 346 ∧ b = 16 * n + 1) ∨ (a = 346 ∧ b = 16 * n + 2))) : (yMkV κ y n q a1 a3 a4 a5 u7).2 a b = y.2 a b := by
  show (seA (seA (seA (seA (seA (seA (seA (seA (seA (y) 6 (n) (q)) 1 (3 + n) (a1)) 7 (n) (a3)) 8 (n) (a4)) 46 (n) (a5)) 47 (n) (u7)) 346 (16 * n) (kA κ 0)) 346 (16 * n + 1) (kA κ 0)) 346 (16 * n + 2) (kA κ 0)).2 a b = _
  rw [seA_ne (fun e => h (by omega)), seA_ne (fun e => h (by omega)), seA_ne (fun e => h (by omega)), seA_ne (fun e => h (by omega)), seA_ne (fun e => h (by omega)), seA_ne (fun e => h (by omega)), seA_ne (fun e => h (by omega)), seA_ne (fun e => h (by omega)), seA_ne (fun e => h (by omega))]
theorem yMkV_f0 {κ : Kx} {y : Ly} {n q a1 a3 a4 a5 u7 : Nat} : (yMkV κ y n q a1 a3 a4 a5 u7).1 6 (n) = 1 := by
  show (seF (seF (seF (seF (seF (seF (seF (seF (seF (seF (seF (y) 6 (n) 1) 1 (3 + n) 1) 7 (n) 1) 8 (n) 1) 46 (n) 1) 47 (n) 1) 15 (3 * n) 0) 15 (3 * n + 1) 0) 15 (3 * n + 2) 0) 146 (n) 3) 246 (n) 3).1 6 (n) = _
  rw [seF_ne (fun e => by omega), seF_ne (fun e => by omega), seF_ne (fun e => by omega), seF_ne (fun e => by omega), seF_ne (fun e => by omega), seF_ne (fun e => by omega), seF_ne (fun e => by omega), seF_ne (fun e => by omega), seF_ne (fun e => by omega), seF_ne (fun e => by omega), seF_eq]
theorem yMkV_f1 {κ : Kx} {y : Ly} {n q a1 a3 a4 a5 u7 : Nat} : (yMkV κ y n q a1 a3 a4 a5 u7).1 1 (3 + n) = 1 := by
  show (seF (seF (seF (seF (seF (seF (seF (seF (seF (seF (seF (y) 6 (n) 1) 1 (3 + n) 1) 7 (n) 1) 8 (n) 1) 46 (n) 1) 47 (n) 1) 15 (3 * n) 0) 15 (3 * n + 1) 0) 15 (3 * n + 2) 0) 146 (n) 3) 246 (n) 3).1 1 (3 + n) = _
  rw [seF_ne (fun e => by omega), seF_ne (fun e => by omega), seF_ne (fun e => by omega), seF_ne (fun e => by omega), seF_ne (fun e => by omega), seF_ne (fun e => by omega), seF_ne (fun e => by omega), seF_ne (fun e => by omega), seF_ne (fun e => by omega), seF_eq]
theorem yMkV_f2 {κ : Kx} {y : Ly} {n q a1 a3 a4 a5 u7 : Nat} : (yMkV κ y n q a1 a3 a4 a5 u7).1 7 (n) = 1 := by
  show (seF (seF (seF (seF (seF (seF (seF (seF (seF (seF (seF (y) 6 (n) 1) 1 (3 + n) 1) 7 (n) 1) 8 (n) 1) 46 (n) 1) 47 (n) 1) 15 (3 * n) 0) 15 (3 * n + 1) 0) 15 (3 * n + 2) 0) 146 (n) 3) 246 (n) 3).1 7 (n) = _
  rw [seF_ne (fun e => by omega), seF_ne (fun e => by omega), seF_ne (fun e => by omega), seF_ne (fun e => by omega), seF_ne (fun e => by omega), seF_ne (fun e => by omega), seF_ne (fun e => by omega), seF_ne (fun e => by omega), seF_eq]
theorem yMkV_f3 {κ : Kx} {y : Ly} {n q a1 a3 a4 a5 u7 : Nat} : (yMkV κ y n q a1 a3 a4 a5 u7).1 8 (n) = 1 := by
  show (seF (seF (seF (seF (seF (seF (seF (seF (seF (seF (seF (y) 6 (n) 1) 1 (3 + n) 1) 7 (n) 1) 8 (n) 1) 46 (n) 1) 47 (n) 1) 15 (3 * n) 0) 15 (3 * n + 1) 0) 15 (3 * n + 2) 0) 146 (n) 3) 246 (n) 3).1 8 (n) = _
  rw [seF_ne (fun e => by omega), seF_ne (fun e => by omega), seF_ne (fun e => by omega), seF_ne (fun e => by omega), seF_ne (fun e => by omega), seF_ne (fun e => by omega), seF_ne (fun e => by omega), seF_eq]
theorem yMkV_f4 {κ : Kx} {y : Ly} {n q a1 a3 a4 a5 u7 : Nat} : (yMkV κ y n q a1 a3 a4 a5 u7).1 46 (n) = 1 := by
  show (seF (seF (seF (seF (seF (seF (seF (seF (seF (seF (seF (y) 6 (n) 1) 1 (3 + n) 1) 7 (n) 1) 8 (n) 1) 46 (n) 1) 47 (n) 1) 15 (3 * n) 0) 15 (3 * n + 1) 0) 15 (3 * n + 2) 0) 146 (n) 3) 246 (n) 3).1 46 (n) = _
  rw [seF_ne (fun e => by omega), seF_ne (fun e => by omega), seF_ne (fun e => by omega), seF_ne (fun e => by omega), seF_ne (fun e => by omega), seF_ne (fun e => by omega), seF_eq]
theorem yMkV_f5 {κ : Kx} {y : Ly} {n q a1 a3 a4 a5 u7 : Nat} : (yMkV κ y n q a1 a3 a4 a5 u7).1 47 (n) = 1 := by
  show (seF (seF (seF (seF (seF (seF (seF (seF (seF (seF (seF (y) 6 (n) 1) 1 (3 + n) 1) 7 (n) 1) 8 (n) 1) 46 (n) 1) 47 (n) 1) 15 (3 * n) 0) 15 (3 * n + 1) 0) 15 (3 * n + 2) 0) 146 (n) 3) 246 (n) 3).1 47 (n) = _
  rw [seF_ne (fun e => by omega), seF_ne (fun e => by omega), seF_ne (fun e => by omega), seF_ne (fun e => by omega), seF_ne (fun e => by omega), seF_eq]
theorem yMkV_f6 {κ : Kx} {y : Ly} {n q a1 a3 a4 a5 u7 : Nat} : (yMkV κ y n q a1 a3 a4 a5 u7).1 15 (3 * n) = 0 := by
  show (seF (seF (seF (seF (seF (seF (seF (seF (seF (seF (seF (y) 6 (n) 1) 1 (3 + n) 1) 7 (n) 1) 8 (n) 1) 46 (n) 1) 47 (n) 1) 15 (3 * n) 0) 15 (3 * n + 1) 0) 15 (3 * n + 2) 0) 146 (n) 3) 246 (n) 3).1 15 (3 * n) = _
  rw [seF_ne (fun e => by omega), seF_ne (fun e => by omega), seF_ne (fun e => by omega), seF_ne (fun e => by omega), seF_eq]
theorem yMkV_f7 {κ : Kx} {y : Ly} {n q a1 a3 a4 a5 u7 : Nat} : (yMkV κ y n q a1 a3 a4 a5 u7).1 15 (3 * n + 1) = 0 := by
  show (seF (seF (seF (seF (seF (seF (seF (seF (seF (seF (seF (y) 6 (n) 1) 1 (3 + n) 1) 7 (n) 1) 8 (n) 1) 46 (n) 1) 47 (n) 1) 15 (3 * n) 0) 15 (3 * n + 1) 0) 15 (3 * n + 2) 0) 146 (n) 3) 246 (n) 3).1 15 (3 * n + 1) = _
  rw [seF_ne (fun e => by omega), seF_ne (fun e => by omega), seF_ne (fun e => by omega), seF_eq]
theorem yMkV_f8 {κ : Kx} {y : Ly} {n q a1 a3 a4 a5 u7 : Nat} : (yMkV κ y n q a1 a3 a4 a5 u7).1 15 (3 * n + 2) = 0 := by
  show (seF (seF (seF (seF (seF (seF (seF (seF (seF (seF (seF (y) 6 (n) 1) 1 (3 + n) 1) 7 (n) 1) 8 (n) 1) 46 (n) 1) 47 (n) 1) 15 (3 * n) 0) 15 (3 * n + 1) 0) 15 (3 * n + 2) 0) 146 (n) 3) 246 (n) 3).1 15 (3 * n + 2) = _
  rw [seF_ne (fun e => by omega), seF_ne (fun e => by omega), seF_eq]
theorem yMkV_f9 {κ : Kx} {y : Ly} {n q a1 a3 a4 a5 u7 : Nat} : (yMkV κ y n q a1 a3 a4 a5 u7).1 146 (n) = 3 := by
  show (seF (seF (seF (seF (seF (seF (seF (seF (seF (seF (seF (y) 6 (n) 1) 1 (3 + n) 1) 7 (n) 1) 8 (n) 1) 46 (n) 1) 47 (n) 1) 15 (3 * n) 0) 15 (3 * n + 1) 0) 15 (3 * n + 2) 0) 146 (n) 3) 246 (n) 3).1 146 (n) = _
  rw [seF_ne (fun e => by omega), seF_eq]
theorem yMkV_f10 {κ : Kx} {y : Ly} {n q a1 a3 a4 a5 u7 : Nat} : (yMkV κ y n q a1 a3 a4 a5 u7).1 246 (n) = 3 := by
  show (seF (seF (seF (seF (seF (seF (seF (seF (seF (seF (seF (y) 6 (n) 1) 1 (3 + n) 1) 7 (n) 1) 8 (n) 1) 46 (n) 1) 47 (n) 1) 15 (3 * n) 0) 15 (3 * n + 1) 0) 15 (3 * n + 2) 0) 146 (n) 3) 246 (n) 3).1 246 (n) = _
  rw [seF_eq]
theorem yMkV_a0 {κ : Kx} {y : Ly} {n q a1 a3 a4 a5 u7 : Nat} : (yMkV κ y n q a1 a3 a4 a5 u7).2 6 (n) = q := by
  show (seA (seA (seA (seA (seA (seA (seA (seA (seA (y) 6 (n) (q)) 1 (3 + n) (a1)) 7 (n) (a3)) 8 (n) (a4)) 46 (n) (a5)) 47 (n) (u7)) 346 (16 * n) (kA κ 0)) 346 (16 * n + 1) (kA κ 0)) 346 (16 * n + 2) (kA κ 0)).2 6 (n) = _
  rw [seA_ne (fun e => by omega), seA_ne (fun e => by omega), seA_ne (fun e => by omega), seA_ne (fun e => by omega), seA_ne (fun e => by omega), seA_ne (fun e => by omega), seA_ne (fun e => by omega), seA_ne (fun e => by omega), seA_eq]
theorem yMkV_a1 {κ : Kx} {y : Ly} {n q a1 a3 a4 a5 u7 : Nat} : (yMkV κ y n q a1 a3 a4 a5 u7).2 1 (3 + n) = a1 := by
  show (seA (seA (seA (seA (seA (seA (seA (seA (seA (y) 6 (n) (q)) 1 (3 + n) (a1)) 7 (n) (a3)) 8 (n) (a4)) 46 (n) (a5)) 47 (n) (u7)) 346 (16 * n) (kA κ 0)) 346 (16 * n + 1) (kA κ 0)) 346 (16 * n + 2) (kA κ 0)).2 1 (3 + n) = _
  rw [seA_ne (fun e => by omega), seA_ne (fun e => by omega), seA_ne (fun e => by omega), seA_ne (fun e => by omega), seA_ne (fun e => by omega), seA_ne (fun e => by omega), seA_ne (fun e => by omega), seA_eq]
theorem yMkV_a2 {κ : Kx} {y : Ly} {n q a1 a3 a4 a5 u7 : Nat} : (yMkV κ y n q a1 a3 a4 a5 u7).2 7 (n) = a3 := by
  show (seA (seA (seA (seA (seA (seA (seA (seA (seA (y) 6 (n) (q)) 1 (3 + n) (a1)) 7 (n) (a3)) 8 (n) (a4)) 46 (n) (a5)) 47 (n) (u7)) 346 (16 * n) (kA κ 0)) 346 (16 * n + 1) (kA κ 0)) 346 (16 * n + 2) (kA κ 0)).2 7 (n) = _
  rw [seA_ne (fun e => by omega), seA_ne (fun e => by omega), seA_ne (fun e => by omega), seA_ne (fun e => by omega), seA_ne (fun e => by omega), seA_ne (fun e => by omega), seA_eq]
theorem yMkV_a3 {κ : Kx} {y : Ly} {n q a1 a3 a4 a5 u7 : Nat} : (yMkV κ y n q a1 a3 a4 a5 u7).2 8 (n) = a4 := by
  show (seA (seA (seA (seA (seA (seA (seA (seA (seA (y) 6 (n) (q)) 1 (3 + n) (a1)) 7 (n) (a3)) 8 (n) (a4)) 46 (n) (a5)) 47 (n) (u7)) 346 (16 * n) (kA κ 0)) 346 (16 * n + 1) (kA κ 0)) 346 (16 * n + 2) (kA κ 0)).2 8 (n) = _
  rw [seA_ne (fun e => by omega), seA_ne (fun e => by omega), seA_ne (fun e => by omega), seA_ne (fun e => by omega), seA_ne (fun e => by omega), seA_eq]
theorem yMkV_a4 {κ : Kx} {y : Ly} {n q a1 a3 a4 a5 u7 : Nat} : (yMkV κ y n q a1 a3 a4 a5 u7).2 46 (n) = a5 := by
  show (seA (seA (seA (seA (seA (seA (seA (seA (seA (y) 6 (n) (q)) 1 (3 + n) (a1)) 7 (n) (a3)) 8 (n) (a4)) 46 (n) (a5)) 47 (n) (u7)) 346 (16 * n) (kA κ 0)) 346 (16 * n + 1) (kA κ 0)) 346 (16 * n + 2) (kA κ 0)).2 46 (n) = _
  rw [seA_ne (fun e => by omega), seA_ne (fun e => by omega), seA_ne (fun e => by omega), seA_ne (fun e => by omega), seA_eq]
theorem yMkV_a5 {κ : Kx} {y : Ly} {n q a1 a3 a4 a5 u7 : Nat} : (yMkV κ y n q a1 a3 a4 a5 u7).2 47 (n) = u7 := by
  show (seA (seA (seA (seA (seA (seA (seA (seA (seA (y) 6 (n) (q)) 1 (3 + n) (a1)) 7 (n) (a3)) 8 (n) (a4)) 46 (n) (a5)) 47 (n) (u7)) 346 (16 * n) (kA κ 0)) 346 (16 * n + 1) (kA κ 0)) 346 (16 * n + 2) (kA κ 0)).2 47 (n) = _
  rw [seA_ne (fun e => by omega), seA_ne (fun e => by omega), seA_ne (fun e => by omega), seA_eq]
theorem yMkV_a6 {κ : Kx} {y : Ly} {n q a1 a3 a4 a5 u7 : Nat} : (yMkV κ y n q a1 a3 a4 a5 u7).2 346 (16 * n) = kA κ 0 := by
  show (seA (seA (seA (seA (seA (seA (seA (seA (seA (y) 6 (n) (q)) 1 (3 + n) (a1)) 7 (n) (a3)) 8 (n) (a4)) 46 (n) (a5)) 47 (n) (u7)) 346 (16 * n) (kA κ 0)) 346 (16 * n + 1) (kA κ 0)) 346 (16 * n + 2) (kA κ 0)).2 346 (16 * n) = _
  rw [seA_ne (fun e => by omega), seA_ne (fun e => by omega), seA_eq]
theorem yMkV_a7 {κ : Kx} {y : Ly} {n q a1 a3 a4 a5 u7 : Nat} : (yMkV κ y n q a1 a3 a4 a5 u7).2 346 (16 * n + 1) = kA κ 0 := by
  show (seA (seA (seA (seA (seA (seA (seA (seA (seA (y) 6 (n) (q)) 1 (3 + n) (a1)) 7 (n) (a3)) 8 (n) (a4)) 46 (n) (a5)) 47 (n) (u7)) 346 (16 * n) (kA κ 0)) 346 (16 * n + 1) (kA κ 0)) 346 (16 * n + 2) (kA κ 0)).2 346 (16 * n + 1) = _
  rw [seA_ne (fun e => by omega), seA_eq]
theorem yMkV_a8 {κ : Kx} {y : Ly} {n q a1 a3 a4 a5 u7 : Nat} : (yMkV κ y n q a1 a3 a4 a5 u7).2 346 (16 * n + 2) = kA κ 0 := by
  show (seA (seA (seA (seA (seA (seA (seA (seA (seA (y) 6 (n) (q)) 1 (3 + n) (a1)) 7 (n) (a3)) 8 (n) (a4)) 46 (n) (a5)) 47 (n) (u7)) 346 (16 * n) (kA κ 0)) 346 (16 * n + 1) (kA κ 0)) 346 (16 * n + 2) (kA κ 0)).2 346 (16 * n + 2) = _
  rw [seA_eq]
theorem wMkV_ne {w : Wd} {n : Nat} {p2 : Int32} {p3 : Int32} {p4 : Int32} {p5 : Int32} {a b : Nat} (h : ¬ ((a = 6 ∧ b = n) ∨ (a = 1 ∧ b = 3 + n) ∨ (a = 7 ∧ b = n) ∨ (a = 8 ∧ b = n) ∨ (a = 46 ∧ b = n) ∨ (a = 47 ∧ b = n))) : (wMkV w n p2 p3 p4 p5).1 a b = w.1 a b := by
  unfold wMkV
  rw [sr_ne (fun e => h (by omega)), sr_ne (fun e => h (by omega)), sr_ne (fun e => h (by omega)), sr_ne (fun e => h (by omega))]
theorem wMkV_v0 {w : Wd} {n : Nat} {p2 : Int32} {p3 : Int32} {p4 : Int32} {p5 : Int32} : (wMkV w n p2 p3 p4 p5).1 6 (n) = fr [0, p5, 0, 0, 0, 0, p2, p3, p4, 4 * p2, 0, 0, p3, 0, 0, 0, 0, 0] := by
  unfold wMkV
  rw [sr_ne (fun e => by omega), sr_ne (fun e => by omega), sr_ne (fun e => by omega), sr_same]
theorem wMkV_v1 {w : Wd} {n : Nat} {p2 : Int32} {p3 : Int32} {p4 : Int32} {p5 : Int32} : (wMkV w n p2 p3 p4 p5).1 1 (3 + n) = fr [0] := by
  unfold wMkV
  rw [sr_ne (fun e => by omega), sr_ne (fun e => by omega), sr_same]
theorem wMkV_v2 {w : Wd} {n : Nat} {p2 : Int32} {p3 : Int32} {p4 : Int32} {p5 : Int32} : (wMkV w n p2 p3 p4 p5).1 7 (n) = fun _ => 0 := by
  unfold wMkV
  rw [sr_ne (fun e => by omega), sr_same]
theorem wMkV_v3 {w : Wd} {n : Nat} {p2 : Int32} {p3 : Int32} {p4 : Int32} {p5 : Int32} : (wMkV w n p2 p3 p4 p5).1 8 (n) = fun _ => 0 := by
  unfold wMkV
  rw [sr_same]
theorem ce_mkV {κ : Kx} {y : Ly} {n q a1 a3 a4 a5 u7 : Nat} {a b : Nat} {g : Nat → Int32} {d : Int64} (hk : a < 100) (hA : ¬ ((a = 6 ∧ b = n) ∨ (a = 1 ∧ b = 3 + n) ∨ (a = 7 ∧ b = n) ∨ (a = 8 ∧ b = n) ∨ (a = 46 ∧ b = n) ∨ (a = 47 ∧ b = n))) (hZ : ¬ ((a = 15 ∧ b = 3 * n) ∨ (a = 15 ∧ b = 3 * n + 1) ∨ (a = 15 ∧ b = 3 * n + 2))) (hn8 : n < 8) : ce κ (yMkV κ y n q a1 a3 a4 a5 u7) a b g d = ce κ y a b g d := by
  have m1 : ∀ a b, ¬ ((a = 6 ∧ b = n) ∨ (a = 1 ∧ b = 3 + n) ∨ (a = 7 ∧ b = n) ∨ (a = 8 ∧ b = n) ∨ (a = 46 ∧ b = n) ∨ (a = 47 ∧ b = n) ∨ (a = 15 ∧ b = 3 * n) ∨ (a = 15 ∧ b = 3 * n + 1) ∨ (a = 15 ∧ b = 3 * n + 2) ∨ (a = 146 ∧ b = n) ∨ (a = 246 ∧ b = n)) → (yMkV κ y n q a1 a3 a4 a5 u7).1 a b = y.1 a b := fun a b h => yMkV_1 h
  have m2 : ∀ a b, ¬ ((a = 6 ∧ b = n) ∨ (a = 1 ∧ b = 3 + n) ∨ (a = 7 ∧ b = n) ∨ (a = 8 ∧ b = n) ∨ (a = 46 ∧ b = n) ∨ (a = 47 ∧ b = n) ∨ (a = 346 ∧ b = 16 * n) ∨ (a = 346 ∧ b = 16 * n + 1) ∨ (a = 346 ∧ b = 16 * n + 2)) → (yMkV κ y n q a1 a3 a4 a5 u7).2 a b = y.2 a b := fun a b h => yMkV_2 h
  generalize yMkV κ y n q a1 a3 a4 a5 u7 = y1 at m1 m2 ⊢
  have g2 : ∀ a, a ≠ 1 → a ≠ 6 → a ≠ 7 → a ≠ 8 → a ≠ 46 → a ≠ 47 → a ≠ 346 → y1.2 a = y.2 a := fun a _ _ _ _ _ _ _ => funext fun b => m2 a b (by omega)
  have g1 : ∀ a, a ≠ 1 → a ≠ 6 → a ≠ 7 → a ≠ 8 → a ≠ 15 → a ≠ 46 → a ≠ 47 → a ≠ 146 → a ≠ 246 → y1.1 a = y.1 a := fun a _ _ _ _ _ _ _ _ _ => funext fun b => m1 a b (by omega)
  have p1 : ∀ b, b ≠ 3 + n → y1.2 1 b = y.2 1 b := fun b _ => m2 1 b (by omega)
  have p6 : ∀ b, b ≠ n → y1.2 6 b = y.2 6 b := fun b _ => m2 6 b (by omega)
  have p7 : ∀ b, b ≠ n → y1.2 7 b = y.2 7 b := fun b _ => m2 7 b (by omega)
  have p8 : ∀ b, b ≠ n → y1.2 8 b = y.2 8 b := fun b _ => m2 8 b (by omega)
  have p46 : ∀ b, b ≠ n → y1.2 46 b = y.2 46 b := fun b _ => m2 46 b (by omega)
  have hE : a % 2 = 0 → a ≠ 0 → a ≠ 1 → a ≠ 6 → a ≠ 7 → a ≠ 8 → a ≠ 9 → a ≠ 14 → a ≠ 15 → lsC κ y1 a b = lsC κ y a b := fun _ _ _ _ _ _ _ _ _ => lsC_eq (m1 _ _ (by omega)) (m1 _ _ (by omega)) (m1 _ _ (by omega)) (m2 _ _ (by omega))
  have hO : ¬ a % 2 = 0 → a ≠ 0 → a ≠ 1 → a ≠ 6 → a ≠ 7 → a ≠ 8 → a ≠ 9 → a ≠ 14 → a ≠ 15 → laC κ y1 (a - 1) b = laC κ y (a - 1) b := fun _ _ _ _ _ _ _ _ _ => laC_eq2 (m1 _ _ (by omega)) (fun t ht => m2 _ _ (by omega))
  unfold ce
  split
  all_goals try replace hx6 := hx6 rfl
  all_goals try replace hx14 := hx14 rfl
  all_goals first
    | rfl
    | (split
       · exact hE (by assumption) (by assumption) (by assumption) (by assumption) (by assumption) (by assumption) (by assumption) (by assumption) (by assumption)
       · exact hO (by assumption) (by assumption) (by assumption) (by assumption) (by assumption) (by assumption) (by assumption) (by assumption) (by assumption))
    | (simp (disch := omega) only [g1 14 (by decide) (by decide) (by decide) (by decide) (by decide) (by decide) (by decide) (by decide) (by decide), g1 25 (by decide) (by decide) (by decide) (by decide) (by decide) (by decide) (by decide) (by decide) (by decide), g2 2 (by decide) (by decide) (by decide) (by decide) (by decide) (by decide) (by decide), g2 3 (by decide) (by decide) (by decide) (by decide) (by decide) (by decide) (by decide), g2 4 (by decide) (by decide) (by decide) (by decide) (by decide) (by decide) (by decide), g2 5 (by decide) (by decide) (by decide) (by decide) (by decide) (by decide) (by decide), g2 9 (by decide) (by decide) (by decide) (by decide) (by decide) (by decide) (by decide), g2 12 (by decide) (by decide) (by decide) (by decide) (by decide) (by decide) (by decide), g2 13 (by decide) (by decide) (by decide) (by decide) (by decide) (by decide) (by decide), g2 14 (by decide) (by decide) (by decide) (by decide) (by decide) (by decide) (by decide), g2 16 (by decide) (by decide) (by decide) (by decide) (by decide) (by decide) (by decide), g2 22 (by decide) (by decide) (by decide) (by decide) (by decide) (by decide) (by decide), g2 23 (by decide) (by decide) (by decide) (by decide) (by decide) (by decide) (by decide), g2 24 (by decide) (by decide) (by decide) (by decide) (by decide) (by decide) (by decide), g2 25 (by decide) (by decide) (by decide) (by decide) (by decide) (by decide) (by decide), g2 28 (by decide) (by decide) (by decide) (by decide) (by decide) (by decide) (by decide), g2 29 (by decide) (by decide) (by decide) (by decide) (by decide) (by decide) (by decide), g2 30 (by decide) (by decide) (by decide) (by decide) (by decide) (by decide) (by decide), g2 31 (by decide) (by decide) (by decide) (by decide) (by decide) (by decide) (by decide), g2 32 (by decide) (by decide) (by decide) (by decide) (by decide) (by decide) (by decide), g2 33 (by decide) (by decide) (by decide) (by decide) (by decide) (by decide) (by decide), g2 34 (by decide) (by decide) (by decide) (by decide) (by decide) (by decide) (by decide), g2 35 (by decide) (by decide) (by decide) (by decide) (by decide) (by decide) (by decide), g2 40 (by decide) (by decide) (by decide) (by decide) (by decide) (by decide) (by decide), g2 42 (by decide) (by decide) (by decide) (by decide) (by decide) (by decide) (by decide), g2 44 (by decide) (by decide) (by decide) (by decide) (by decide) (by decide) (by decide), g2 48 (by decide) (by decide) (by decide) (by decide) (by decide) (by decide) (by decide), g2 50 (by decide) (by decide) (by decide) (by decide) (by decide) (by decide) (by decide), g2 52 (by decide) (by decide) (by decide) (by decide) (by decide) (by decide) (by decide), g2 54 (by decide) (by decide) (by decide) (by decide) (by decide) (by decide) (by decide), g2 56 (by decide) (by decide) (by decide) (by decide) (by decide) (by decide) (by decide), g2 58 (by decide) (by decide) (by decide) (by decide) (by decide) (by decide) (by decide), p1, p7, p8, p46]; done)
    | (simp (disch := omega) only [g1 14 (by decide) (by decide) (by decide) (by decide) (by decide) (by decide) (by decide) (by decide) (by decide), g1 25 (by decide) (by decide) (by decide) (by decide) (by decide) (by decide) (by decide) (by decide) (by decide), g2 2 (by decide) (by decide) (by decide) (by decide) (by decide) (by decide) (by decide), g2 3 (by decide) (by decide) (by decide) (by decide) (by decide) (by decide) (by decide), g2 4 (by decide) (by decide) (by decide) (by decide) (by decide) (by decide) (by decide), g2 5 (by decide) (by decide) (by decide) (by decide) (by decide) (by decide) (by decide), g2 9 (by decide) (by decide) (by decide) (by decide) (by decide) (by decide) (by decide), g2 12 (by decide) (by decide) (by decide) (by decide) (by decide) (by decide) (by decide), g2 13 (by decide) (by decide) (by decide) (by decide) (by decide) (by decide) (by decide), g2 14 (by decide) (by decide) (by decide) (by decide) (by decide) (by decide) (by decide), g2 16 (by decide) (by decide) (by decide) (by decide) (by decide) (by decide) (by decide), g2 22 (by decide) (by decide) (by decide) (by decide) (by decide) (by decide) (by decide), g2 23 (by decide) (by decide) (by decide) (by decide) (by decide) (by decide) (by decide), g2 24 (by decide) (by decide) (by decide) (by decide) (by decide) (by decide) (by decide), g2 25 (by decide) (by decide) (by decide) (by decide) (by decide) (by decide) (by decide), g2 28 (by decide) (by decide) (by decide) (by decide) (by decide) (by decide) (by decide), g2 29 (by decide) (by decide) (by decide) (by decide) (by decide) (by decide) (by decide), g2 30 (by decide) (by decide) (by decide) (by decide) (by decide) (by decide) (by decide), g2 31 (by decide) (by decide) (by decide) (by decide) (by decide) (by decide) (by decide), g2 32 (by decide) (by decide) (by decide) (by decide) (by decide) (by decide) (by decide), g2 33 (by decide) (by decide) (by decide) (by decide) (by decide) (by decide) (by decide), g2 34 (by decide) (by decide) (by decide) (by decide) (by decide) (by decide) (by decide), g2 35 (by decide) (by decide) (by decide) (by decide) (by decide) (by decide) (by decide), g2 40 (by decide) (by decide) (by decide) (by decide) (by decide) (by decide) (by decide), g2 42 (by decide) (by decide) (by decide) (by decide) (by decide) (by decide) (by decide), g2 44 (by decide) (by decide) (by decide) (by decide) (by decide) (by decide) (by decide), g2 48 (by decide) (by decide) (by decide) (by decide) (by decide) (by decide) (by decide), g2 50 (by decide) (by decide) (by decide) (by decide) (by decide) (by decide) (by decide), g2 52 (by decide) (by decide) (by decide) (by decide) (by decide) (by decide) (by decide), g2 54 (by decide) (by decide) (by decide) (by decide) (by decide) (by decide) (by decide), g2 56 (by decide) (by decide) (by decide) (by decide) (by decide) (by decide) (by decide), g2 58 (by decide) (by decide) (by decide) (by decide) (by decide) (by decide) (by decide), p1, p7, p8, p46]; rfl)
theorem Rp.mkV {κ : Kx} {w : Wd} {y : Ly} {X : XR} {H : Heap} {n q a1 a3 a4 a5 u7 : Nat} {p2 : Int32} {p3 : Int32} {p4 : Int32} {p5 : Int32} (h : Rp κ w y X [(q, .inr (6, [.int (nI n), .int p5, .ref a1, .ref a3, .ref a4, .ref a5, .int p2, .int p3, .int p4, .int (4 * p2), .int 0, .int 0, .int p3, .int 0, .int 0, .int 0, .int 0, .int 0])), (a1, .inr (1, [.int 0])), (a3, .inl (kT κ 0, (3, .inl (fun _ => 0)))), (a4, .inl (kT κ 2, (3, .inl (fun _ => 0)))), (a5, eL (((0 + 1) + 1) + 1) u7 (nI 3)), (u7, eA κ (va_up (va_up (va_up (fun _ => none) 0 (some (kA κ 0))) 1 (some (kA κ 0))) 2 (some (kA κ 0))))] H) (hn8 : n < 8) : Rp κ (wMkV w n p2 p3 p4 p5) (yMkV κ y n q a1 a3 a4 a5 u7) X [] H := by
  refine h.back (X := X) (w' := wMkV w n p2 p3 p4 p5) (y' := yMkV κ y n q a1 a3 a4 a5 u7) (L' := []) (fun _ _ hx => hx) (fun a b => (a = 6 ∧ b = n) ∨ (a = 1 ∧ b = 3 + n) ∨ (a = 7 ∧ b = n) ∨ (a = 8 ∧ b = n) ∨ (a = 46 ∧ b = n) ∨ (a = 47 ∧ b = n)) (fun a b hl hA => ?_) (fun a b hl hA => Or.inr ?_) (fun a b a' b' _ _ hA hA' e9 => ?_) (fun t q h => by simp at h) va_D0
  · have h9 := hl.1
    have hk := hl.2
    by_cases z6 : a = 15 ∧ b = 3 * n
    · obtain ⟨rfl, rfl⟩ := z6
      rw [yMkV_f6] at h9
      cases h9
    by_cases z7 : a = 15 ∧ b = 3 * n + 1
    · obtain ⟨rfl, rfl⟩ := z7
      rw [yMkV_f7] at h9
      cases h9
    by_cases z8 : a = 15 ∧ b = 3 * n + 2
    · obtain ⟨rfl, rfl⟩ := z8
      rw [yMkV_f8] at h9
      cases h9
    rw [yMkV_1 (by omega)] at h9
    refine ⟨⟨h9, hk⟩, yMkV_2 (by omega), ?_⟩
    rw [wMkV_ne hA]
    exact ce_mkV hk hA (by omega) hn8
  · rcases hA with ⟨rfl, hb⟩ | ⟨rfl, hb⟩ | ⟨rfl, hb⟩ | ⟨rfl, hb⟩ | ⟨rfl, hb⟩ | ⟨rfl, hb⟩ <;> (have hb := hb.symm; subst hb)
    · exact ⟨0, by rw [yMkV_a0]; simp only [ce, lsC, yMkV_a0, yMkV_a1, yMkV_a2, yMkV_a3, yMkV_a4, yMkV_a5, yMkV_a6, yMkV_a7, yMkV_a8, wMkV_v0, wMkV_v1, wMkV_v2, wMkV_v3, yMkV_f0, yMkV_f1, yMkV_f2, yMkV_f3, yMkV_f4, yMkV_f5, yMkV_f6, yMkV_f7, yMkV_f8, yMkV_f9, yMkV_f10]; rfl⟩
    · exact ⟨1, by rw [yMkV_a1]; simp only [ce, wMkV_v0, wMkV_v1, wMkV_v2, wMkV_v3]; rw [if_neg (by omega)]; rfl⟩
    · exact ⟨2, by rw [yMkV_a2]; simp only [ce, lsC, yMkV_a0, yMkV_a1, yMkV_a2, yMkV_a3, yMkV_a4, yMkV_a5, yMkV_a6, yMkV_a7, yMkV_a8, wMkV_v0, wMkV_v1, wMkV_v2, wMkV_v3, yMkV_f0, yMkV_f1, yMkV_f2, yMkV_f3, yMkV_f4, yMkV_f5, yMkV_f6, yMkV_f7, yMkV_f8, yMkV_f9, yMkV_f10]; rfl⟩
    · exact ⟨3, by rw [yMkV_a3]; simp only [ce, lsC, yMkV_a0, yMkV_a1, yMkV_a2, yMkV_a3, yMkV_a4, yMkV_a5, yMkV_a6, yMkV_a7, yMkV_a8, wMkV_v0, wMkV_v1, wMkV_v2, wMkV_v3, yMkV_f0, yMkV_f1, yMkV_f2, yMkV_f3, yMkV_f4, yMkV_f5, yMkV_f6, yMkV_f7, yMkV_f8, yMkV_f9, yMkV_f10]; rfl⟩
    · exact ⟨4, by rw [yMkV_a4]; show some (a5, eL (((0 + 1) + 1) + 1) u7 (nI 3)) = some (a5, Sum.inr (16, [Value.int (nI ((yMkV κ y n q a1 a3 a4 a5 u7).1 246 (n))), Value.ref (if (yMkV κ y n q a1 a3 a4 a5 u7).1 47 (n) = 1 then (yMkV κ y n q a1 a3 a4 a5 u7).2 47 (n) else kA κ 1), Value.int (nI ((yMkV κ y n q a1 a3 a4 a5 u7).1 146 (n)))])); rw [yMkV_f10, yMkV_f5, yMkV_f9, if_pos rfl, yMkV_a5]; rfl⟩
    · exact ⟨5, by rw [yMkV_a5]; simp only [ce, laC]; rw [show laF (yMkV κ y n q a1 a3 a4 a5 u7) (47 - 1) n = va_up (va_up (va_up (fun _ => none) 0 (some (kA κ 0))) 1 (some (kA κ 0))) 2 (some (kA κ 0)) from by
        funext t
        unfold laF va_up
        rw [show (yMkV κ y n q a1 a3 a4 a5 u7).1 (47 - 1 + 100) n = 3 from yMkV_f9]
        by_cases t2 : t = 2
        · subst t2; rw [if_pos ⟨by decide, by decide⟩, if_pos rfl, show (yMkV κ y n q a1 a3 a4 a5 u7).2 (47 - 1 + 300) (16 * n + 2) = kA κ 0 from yMkV_a8]
        · by_cases t1 : t = 1
          · subst t1; rw [if_pos ⟨by decide, by decide⟩, if_neg t2, if_pos rfl, show (yMkV κ y n q a1 a3 a4 a5 u7).2 (47 - 1 + 300) (16 * n + 1) = kA κ 0 from yMkV_a7]
          · by_cases t0 : t = 0
            · subst t0; rw [if_pos ⟨by decide, by decide⟩, if_neg t2, if_neg t1, if_pos rfl, show (yMkV κ y n q a1 a3 a4 a5 u7).2 (47 - 1 + 300) (16 * n + 0) = kA κ 0 from yMkV_a6]
            · rw [if_neg (fun e => by omega), if_neg t2, if_neg t1, if_neg t0]]; rfl⟩
  · rcases hA with ⟨rfl, rfl⟩ | ⟨rfl, rfl⟩ | ⟨rfl, rfl⟩ | ⟨rfl, rfl⟩ | ⟨rfl, rfl⟩ | ⟨rfl, rfl⟩ <;> rcases hA' with ⟨rfl, rfl⟩ | ⟨rfl, rfl⟩ | ⟨rfl, rfl⟩ | ⟨rfl, rfl⟩ | ⟨rfl, rfl⟩ | ⟨rfl, rfl⟩
    · exact ⟨rfl, rfl⟩
    · rw [yMkV_a0, yMkV_a1] at e9; have := h.LD.1 0 1 _ _ rfl rfl e9; omega
    · rw [yMkV_a0, yMkV_a2] at e9; have := h.LD.1 0 2 _ _ rfl rfl e9; omega
    · rw [yMkV_a0, yMkV_a3] at e9; have := h.LD.1 0 3 _ _ rfl rfl e9; omega
    · rw [yMkV_a0, yMkV_a4] at e9; have := h.LD.1 0 4 _ _ rfl rfl e9; omega
    · rw [yMkV_a0, yMkV_a5] at e9; have := h.LD.1 0 5 _ _ rfl rfl e9; omega
    · rw [yMkV_a1, yMkV_a0] at e9; have := h.LD.1 1 0 _ _ rfl rfl e9; omega
    · exact ⟨rfl, rfl⟩
    · rw [yMkV_a1, yMkV_a2] at e9; have := h.LD.1 1 2 _ _ rfl rfl e9; omega
    · rw [yMkV_a1, yMkV_a3] at e9; have := h.LD.1 1 3 _ _ rfl rfl e9; omega
    · rw [yMkV_a1, yMkV_a4] at e9; have := h.LD.1 1 4 _ _ rfl rfl e9; omega
    · rw [yMkV_a1, yMkV_a5] at e9; have := h.LD.1 1 5 _ _ rfl rfl e9; omega
    · rw [yMkV_a2, yMkV_a0] at e9; have := h.LD.1 2 0 _ _ rfl rfl e9; omega
    · rw [yMkV_a2, yMkV_a1] at e9; have := h.LD.1 2 1 _ _ rfl rfl e9; omega
    · exact ⟨rfl, rfl⟩
    · rw [yMkV_a2, yMkV_a3] at e9; have := h.LD.1 2 3 _ _ rfl rfl e9; omega
    · rw [yMkV_a2, yMkV_a4] at e9; have := h.LD.1 2 4 _ _ rfl rfl e9; omega
    · rw [yMkV_a2, yMkV_a5] at e9; have := h.LD.1 2 5 _ _ rfl rfl e9; omega
    · rw [yMkV_a3, yMkV_a0] at e9; have := h.LD.1 3 0 _ _ rfl rfl e9; omega
    · rw [yMkV_a3, yMkV_a1] at e9; have := h.LD.1 3 1 _ _ rfl rfl e9; omega
    · rw [yMkV_a3, yMkV_a2] at e9; have := h.LD.1 3 2 _ _ rfl rfl e9; omega
    · exact ⟨rfl, rfl⟩
    · rw [yMkV_a3, yMkV_a4] at e9; have := h.LD.1 3 4 _ _ rfl rfl e9; omega
    · rw [yMkV_a3, yMkV_a5] at e9; have := h.LD.1 3 5 _ _ rfl rfl e9; omega
    · rw [yMkV_a4, yMkV_a0] at e9; have := h.LD.1 4 0 _ _ rfl rfl e9; omega
    · rw [yMkV_a4, yMkV_a1] at e9; have := h.LD.1 4 1 _ _ rfl rfl e9; omega
    · rw [yMkV_a4, yMkV_a2] at e9; have := h.LD.1 4 2 _ _ rfl rfl e9; omega
    · rw [yMkV_a4, yMkV_a3] at e9; have := h.LD.1 4 3 _ _ rfl rfl e9; omega
    · exact ⟨rfl, rfl⟩
    · rw [yMkV_a4, yMkV_a5] at e9; have := h.LD.1 4 5 _ _ rfl rfl e9; omega
    · rw [yMkV_a5, yMkV_a0] at e9; have := h.LD.1 5 0 _ _ rfl rfl e9; omega
    · rw [yMkV_a5, yMkV_a1] at e9; have := h.LD.1 5 1 _ _ rfl rfl e9; omega
    · rw [yMkV_a5, yMkV_a2] at e9; have := h.LD.1 5 2 _ _ rfl rfl e9; omega
    · rw [yMkV_a5, yMkV_a3] at e9; have := h.LD.1 5 3 _ _ rfl rfl e9; omega
    · rw [yMkV_a5, yMkV_a4] at e9; have := h.LD.1 5 4 _ _ rfl rfl e9; omega
    · exact ⟨rfl, rfl⟩
def yMkMV (y : Ly) (n : Nat) (q a1 a2 a3 : Nat) : Ly := seA (seA (seA (seA (seF (seF (seF (seF (seF (seF (seF y 21 (n) 1) 22 (n) 1) 23 (n) 1) 24 (n) 1) 25 (3 * n) 0) 25 (3 * n + 1) 0) 25 (3 * n + 2) 0) 21 (n) (q)) 22 (n) (a1)) 23 (n) (a2)) 24 (n) (a3)
def wMkMV (w : Wd) (n : Nat)  : Wd := sr (sr (sr w 21 (n) (fr [0, 0, 0, 0, 0, 0, 0, 0, 0, 0, 0, 0, 0, 0])) 22 (n) (fun _ => 0)) 23 (n) (fun _ => 0)
theorem yMkMV_1 {y : Ly} {n q a1 a2 a3 : Nat} {a b : Nat} (h : ¬ ((a = 21 ∧ b = n) ∨ (a = 22 ∧ b = n) ∨ (a = 23 ∧ b = n) ∨ (a = 24 ∧ b = n) ∨ (a = 25 ∧ b = 3 * n) ∨ (a = 25 ∧ b = 3 * n + 1) ∨ (a = 25 ∧ b = 3 * n + 2))) : (yMkMV y n q a1 a2 a3).1 a b = y.1 a b := by
  show (seF (seF (seF (seF (seF (seF (seF (y) 21 (n) 1) 22 (n) 1) 23 (n) 1) 24 (n) 1) 25 (3 * n) 0) 25 (3 * n + 1) 0) 25 (3 * n + 2) 0).1 a b = _
  rw [seF_ne (fun e => h (by omega)), seF_ne (fun e => h (by omega)), seF_ne (fun e => h (by omega)), seF_ne (fun e => h (by omega)), seF_ne (fun e => h (by omega)), seF_ne (fun e => h (by omega)), seF_ne (fun e => h (by omega))]
theorem yMkMV_2 {y : Ly} {n q a1 a2 a3 : Nat} {a b : Nat} (h : ¬ ((a = 21 ∧ b = n) ∨ (a = 22 ∧ b = n) ∨ (a = 23 ∧ b = n) ∨ (a = 24 ∧ b = n))) : (yMkMV y n q a1 a2 a3).2 a b = y.2 a b := by
  show (seA (seA (seA (seA (y) 21 (n) (q)) 22 (n) (a1)) 23 (n) (a2)) 24 (n) (a3)).2 a b = _
  rw [seA_ne (fun e => h (by omega)), seA_ne (fun e => h (by omega)), seA_ne (fun e => h (by omega)), seA_ne (fun e => h (by omega))]
theorem yMkMV_f0 {y : Ly} {n q a1 a2 a3 : Nat} : (yMkMV y n q a1 a2 a3).1 21 (n) = 1 := by
  show (seF (seF (seF (seF (seF (seF (seF (y) 21 (n) 1) 22 (n) 1) 23 (n) 1) 24 (n) 1) 25 (3 * n) 0) 25 (3 * n + 1) 0) 25 (3 * n + 2) 0).1 21 (n) = _
  rw [seF_ne (fun e => by omega), seF_ne (fun e => by omega), seF_ne (fun e => by omega), seF_ne (fun e => by omega), seF_ne (fun e => by omega), seF_ne (fun e => by omega), seF_eq]
theorem yMkMV_f1 {y : Ly} {n q a1 a2 a3 : Nat} : (yMkMV y n q a1 a2 a3).1 22 (n) = 1 := by
  show (seF (seF (seF (seF (seF (seF (seF (y) 21 (n) 1) 22 (n) 1) 23 (n) 1) 24 (n) 1) 25 (3 * n) 0) 25 (3 * n + 1) 0) 25 (3 * n + 2) 0).1 22 (n) = _
  rw [seF_ne (fun e => by omega), seF_ne (fun e => by omega), seF_ne (fun e => by omega), seF_ne (fun e => by omega), seF_ne (fun e => by omega), seF_eq]
theorem yMkMV_f2 {y : Ly} {n q a1 a2 a3 : Nat} : (yMkMV y n q a1 a2 a3).1 23 (n) = 1 := by
  show (seF (seF (seF (seF (seF (seF (seF (y) 21 (n) 1) 22 (n) 1) 23 (n) 1) 24 (n) 1) 25 (3 * n) 0) 25 (3 * n + 1) 0) 25 (3 * n + 2) 0).1 23 (n) = _
  rw [seF_ne (fun e => by omega), seF_ne (fun e => by omega), seF_ne (fun e => by omega), seF_ne (fun e => by omega), seF_eq]
theorem yMkMV_f3 {y : Ly} {n q a1 a2 a3 : Nat} : (yMkMV y n q a1 a2 a3).1 24 (n) = 1 := by
  show (seF (seF (seF (seF (seF (seF (seF (y) 21 (n) 1) 22 (n) 1) 23 (n) 1) 24 (n) 1) 25 (3 * n) 0) 25 (3 * n + 1) 0) 25 (3 * n + 2) 0).1 24 (n) = _
  rw [seF_ne (fun e => by omega), seF_ne (fun e => by omega), seF_ne (fun e => by omega), seF_eq]
theorem yMkMV_f4 {y : Ly} {n q a1 a2 a3 : Nat} : (yMkMV y n q a1 a2 a3).1 25 (3 * n) = 0 := by
  show (seF (seF (seF (seF (seF (seF (seF (y) 21 (n) 1) 22 (n) 1) 23 (n) 1) 24 (n) 1) 25 (3 * n) 0) 25 (3 * n + 1) 0) 25 (3 * n + 2) 0).1 25 (3 * n) = _
  rw [seF_ne (fun e => by omega), seF_ne (fun e => by omega), seF_eq]
theorem yMkMV_f5 {y : Ly} {n q a1 a2 a3 : Nat} : (yMkMV y n q a1 a2 a3).1 25 (3 * n + 1) = 0 := by
  show (seF (seF (seF (seF (seF (seF (seF (y) 21 (n) 1) 22 (n) 1) 23 (n) 1) 24 (n) 1) 25 (3 * n) 0) 25 (3 * n + 1) 0) 25 (3 * n + 2) 0).1 25 (3 * n + 1) = _
  rw [seF_ne (fun e => by omega), seF_eq]
theorem yMkMV_f6 {y : Ly} {n q a1 a2 a3 : Nat} : (yMkMV y n q a1 a2 a3).1 25 (3 * n + 2) = 0 := by
  show (seF (seF (seF (seF (seF (seF (seF (y) 21 (n) 1) 22 (n) 1) 23 (n) 1) 24 (n) 1) 25 (3 * n) 0) 25 (3 * n + 1) 0) 25 (3 * n + 2) 0).1 25 (3 * n + 2) = _
  rw [seF_eq]
theorem yMkMV_a0 {y : Ly} {n q a1 a2 a3 : Nat} : (yMkMV y n q a1 a2 a3).2 21 (n) = q := by
  show (seA (seA (seA (seA (y) 21 (n) (q)) 22 (n) (a1)) 23 (n) (a2)) 24 (n) (a3)).2 21 (n) = _
  rw [seA_ne (fun e => by omega), seA_ne (fun e => by omega), seA_ne (fun e => by omega), seA_eq]
theorem yMkMV_a1 {y : Ly} {n q a1 a2 a3 : Nat} : (yMkMV y n q a1 a2 a3).2 22 (n) = a1 := by
  show (seA (seA (seA (seA (y) 21 (n) (q)) 22 (n) (a1)) 23 (n) (a2)) 24 (n) (a3)).2 22 (n) = _
  rw [seA_ne (fun e => by omega), seA_ne (fun e => by omega), seA_eq]
theorem yMkMV_a2 {y : Ly} {n q a1 a2 a3 : Nat} : (yMkMV y n q a1 a2 a3).2 23 (n) = a2 := by
  show (seA (seA (seA (seA (y) 21 (n) (q)) 22 (n) (a1)) 23 (n) (a2)) 24 (n) (a3)).2 23 (n) = _
  rw [seA_ne (fun e => by omega), seA_eq]
theorem yMkMV_a3 {y : Ly} {n q a1 a2 a3 : Nat} : (yMkMV y n q a1 a2 a3).2 24 (n) = a3 := by
  show (seA (seA (seA (seA (y) 21 (n) (q)) 22 (n) (a1)) 23 (n) (a2)) 24 (n) (a3)).2 24 (n) = _
  rw [seA_eq]
theorem wMkMV_ne {w : Wd} {n : Nat}  {a b : Nat} (h : ¬ ((a = 21 ∧ b = n) ∨ (a = 22 ∧ b = n) ∨ (a = 23 ∧ b = n) ∨ (a = 24 ∧ b = n))) : (wMkMV w n ).1 a b = w.1 a b := by
  unfold wMkMV
  rw [sr_ne (fun e => h (by omega)), sr_ne (fun e => h (by omega)), sr_ne (fun e => h (by omega))]
theorem wMkMV_v0 {w : Wd} {n : Nat}  : (wMkMV w n ).1 21 (n) = fr [0, 0, 0, 0, 0, 0, 0, 0, 0, 0, 0, 0, 0, 0] := by
  unfold wMkMV
  rw [sr_ne (fun e => by omega), sr_ne (fun e => by omega), sr_same]
theorem wMkMV_v1 {w : Wd} {n : Nat}  : (wMkMV w n ).1 22 (n) = fun _ => 0 := by
  unfold wMkMV
  rw [sr_ne (fun e => by omega), sr_same]
theorem wMkMV_v2 {w : Wd} {n : Nat}  : (wMkMV w n ).1 23 (n) = fun _ => 0 := by
  unfold wMkMV
  rw [sr_same]
theorem ce_mkMV {κ : Kx} {y : Ly} {n q a1 a2 a3 : Nat} {a b : Nat} {g : Nat → Int32} {d : Int64} (hk : a < 100) (hA : ¬ ((a = 21 ∧ b = n) ∨ (a = 22 ∧ b = n) ∨ (a = 23 ∧ b = n) ∨ (a = 24 ∧ b = n))) (hZ : ¬ ((a = 25 ∧ b = 3 * n) ∨ (a = 25 ∧ b = 3 * n + 1) ∨ (a = 25 ∧ b = 3 * n + 2))) : ce κ (yMkMV y n q a1 a2 a3) a b g d = ce κ y a b g d := by
  have m1 : ∀ a b, ¬ ((a = 21 ∧ b = n) ∨ (a = 22 ∧ b = n) ∨ (a = 23 ∧ b = n) ∨ (a = 24 ∧ b = n) ∨ (a = 25 ∧ b = 3 * n) ∨ (a = 25 ∧ b = 3 * n + 1) ∨ (a = 25 ∧ b = 3 * n + 2)) → (yMkMV y n q a1 a2 a3).1 a b = y.1 a b := fun a b h => yMkMV_1 h
  have m2 : ∀ a b, ¬ ((a = 21 ∧ b = n) ∨ (a = 22 ∧ b = n) ∨ (a = 23 ∧ b = n) ∨ (a = 24 ∧ b = n)) → (yMkMV y n q a1 a2 a3).2 a b = y.2 a b := fun a b h => yMkMV_2 h
  generalize yMkMV y n q a1 a2 a3 = y1 at m1 m2 ⊢
  have g2 : ∀ a, a ≠ 21 → a ≠ 22 → a ≠ 23 → a ≠ 24 → y1.2 a = y.2 a := fun a _ _ _ _ => funext fun b => m2 a b (by omega)
  have g1 : ∀ a, a ≠ 21 → a ≠ 22 → a ≠ 23 → a ≠ 24 → a ≠ 25 → y1.1 a = y.1 a := fun a _ _ _ _ _ => funext fun b => m1 a b (by omega)
  have p21 : ∀ b, b ≠ n → y1.2 21 b = y.2 21 b := fun b _ => m2 21 b (by omega)
  have p22 : ∀ b, b ≠ n → y1.2 22 b = y.2 22 b := fun b _ => m2 22 b (by omega)
  have p23 : ∀ b, b ≠ n → y1.2 23 b = y.2 23 b := fun b _ => m2 23 b (by omega)
  have p24 : ∀ b, b ≠ n → y1.2 24 b = y.2 24 b := fun b _ => m2 24 b (by omega)
  have h25 : ∀ i, (a = 24 → b = i → (fun t => if t < 3 ∧ y1.1 25 (3 * i + t) = 1 then some (y1.2 25 (3 * i + t)) else none) = (fun t => if t < 3 ∧ y.1 25 (3 * i + t) = 1 then some (y.2 25 (3 * i + t)) else none)) := fun i ha hb => by
    funext t
    by_cases ht : t < 3
    · rw [m1 25 (3 * i + t) (by omega), m2 25 (3 * i + t) (by omega)]
    · rw [if_neg (fun e => ht e.1), if_neg (fun e => ht e.1)]
  have hE : a % 2 = 0 → a ≠ 20 → a ≠ 21 → a ≠ 22 → a ≠ 23 → a ≠ 24 → a ≠ 25 → lsC κ y1 a b = lsC κ y a b := fun _ _ _ _ _ _ _ => lsC_eq (m1 _ _ (by omega)) (m1 _ _ (by omega)) (m1 _ _ (by omega)) (m2 _ _ (by omega))
  have hO : ¬ a % 2 = 0 → a ≠ 20 → a ≠ 21 → a ≠ 22 → a ≠ 23 → a ≠ 24 → a ≠ 25 → laC κ y1 (a - 1) b = laC κ y (a - 1) b := fun _ _ _ _ _ _ _ => laC_eq2 (m1 _ _ (by omega)) (fun t ht => m2 _ _ (by omega))
  unfold ce
  split
  all_goals try replace hx6 := hx6 rfl
  all_goals try replace hx14 := hx14 rfl
  all_goals first
    | rfl
    | (split
       · exact hE (by assumption) (by assumption) (by assumption) (by assumption) (by assumption) (by assumption) (by assumption)
       · exact hO (by assumption) (by assumption) (by assumption) (by assumption) (by assumption) (by assumption) (by assumption))
    | (simp (disch := omega) only [g1 14 (by decide) (by decide) (by decide) (by decide) (by decide), g2 1 (by decide) (by decide) (by decide) (by decide), g2 2 (by decide) (by decide) (by decide) (by decide), g2 3 (by decide) (by decide) (by decide) (by decide), g2 4 (by decide) (by decide) (by decide) (by decide), g2 5 (by decide) (by decide) (by decide) (by decide), g2 7 (by decide) (by decide) (by decide) (by decide), g2 8 (by decide) (by decide) (by decide) (by decide), g2 9 (by decide) (by decide) (by decide) (by decide), g2 12 (by decide) (by decide) (by decide) (by decide), g2 13 (by decide) (by decide) (by decide) (by decide), g2 14 (by decide) (by decide) (by decide) (by decide), g2 16 (by decide) (by decide) (by decide) (by decide), g2 25 (by decide) (by decide) (by decide) (by decide), g2 28 (by decide) (by decide) (by decide) (by decide), g2 29 (by decide) (by decide) (by decide) (by decide), g2 30 (by decide) (by decide) (by decide) (by decide), g2 31 (by decide) (by decide) (by decide) (by decide), g2 32 (by decide) (by decide) (by decide) (by decide), g2 33 (by decide) (by decide) (by decide) (by decide), g2 34 (by decide) (by decide) (by decide) (by decide), g2 35 (by decide) (by decide) (by decide) (by decide), g2 40 (by decide) (by decide) (by decide) (by decide), g2 42 (by decide) (by decide) (by decide) (by decide), g2 44 (by decide) (by decide) (by decide) (by decide), g2 46 (by decide) (by decide) (by decide) (by decide), g2 48 (by decide) (by decide) (by decide) (by decide), g2 50 (by decide) (by decide) (by decide) (by decide), g2 52 (by decide) (by decide) (by decide) (by decide), g2 54 (by decide) (by decide) (by decide) (by decide), g2 56 (by decide) (by decide) (by decide) (by decide), g2 58 (by decide) (by decide) (by decide) (by decide), p22, p23, p24]; done)
    | (simp (disch := omega) only [g1 14 (by decide) (by decide) (by decide) (by decide) (by decide), g2 1 (by decide) (by decide) (by decide) (by decide), g2 2 (by decide) (by decide) (by decide) (by decide), g2 3 (by decide) (by decide) (by decide) (by decide), g2 4 (by decide) (by decide) (by decide) (by decide), g2 5 (by decide) (by decide) (by decide) (by decide), g2 7 (by decide) (by decide) (by decide) (by decide), g2 8 (by decide) (by decide) (by decide) (by decide), g2 9 (by decide) (by decide) (by decide) (by decide), g2 12 (by decide) (by decide) (by decide) (by decide), g2 13 (by decide) (by decide) (by decide) (by decide), g2 14 (by decide) (by decide) (by decide) (by decide), g2 16 (by decide) (by decide) (by decide) (by decide), g2 25 (by decide) (by decide) (by decide) (by decide), g2 28 (by decide) (by decide) (by decide) (by decide), g2 29 (by decide) (by decide) (by decide) (by decide), g2 30 (by decide) (by decide) (by decide) (by decide), g2 31 (by decide) (by decide) (by decide) (by decide), g2 32 (by decide) (by decide) (by decide) (by decide), g2 33 (by decide) (by decide) (by decide) (by decide), g2 34 (by decide) (by decide) (by decide) (by decide), g2 35 (by decide) (by decide) (by decide) (by decide), g2 40 (by decide) (by decide) (by decide) (by decide), g2 42 (by decide) (by decide) (by decide) (by decide), g2 44 (by decide) (by decide) (by decide) (by decide), g2 46 (by decide) (by decide) (by decide) (by decide), g2 48 (by decide) (by decide) (by decide) (by decide), g2 50 (by decide) (by decide) (by decide) (by decide), g2 52 (by decide) (by decide) (by decide) (by decide), g2 54 (by decide) (by decide) (by decide) (by decide), g2 56 (by decide) (by decide) (by decide) (by decide), g2 58 (by decide) (by decide) (by decide) (by decide), p22, p23, p24]; rfl)
    | (rw [h25 _ rfl rfl])
theorem Rp.mkMV {κ : Kx} {w : Wd} {y : Ly} {X : XR} {H : Heap} {n q a1 a2 a3 : Nat}  (h : Rp κ w y X [(q, .inr (12, [.int 0, .int 0, .int 0, .int 0, .int 0, .int 0, .int 0, .int 0, .int 0, .int 0, .int 0, .int 0, .int 0, .int 0, .ref a1, .ref a2, .ref a3])), (a1, .inl (kT κ 0, (3, .inl (fun _ => 0)))), (a2, .inl (kT κ 2, (3, .inl (fun _ => 0)))), (a3, .inl (kT κ 6, (3, .inr (.inr (.inr (.inr (fun _ => none)))))))] H) : Rp κ (wMkMV w n ) (yMkMV y n q a1 a2 a3) X [] H := by
  refine h.back (X := X) (w' := wMkMV w n ) (y' := yMkMV y n q a1 a2 a3) (L' := []) (fun _ _ hx => hx) (fun a b => (a = 21 ∧ b = n) ∨ (a = 22 ∧ b = n) ∨ (a = 23 ∧ b = n) ∨ (a = 24 ∧ b = n)) (fun a b hl hA => ?_) (fun a b hl hA => Or.inr ?_) (fun a b a' b' _ _ hA hA' e9 => ?_) (fun t q h => by simp at h) va_D0
  · have h9 := hl.1
    have hk := hl.2
    by_cases z4 : a = 25 ∧ b = 3 * n
    · obtain ⟨rfl, rfl⟩ := z4
      rw [yMkMV_f4] at h9
      cases h9
    by_cases z5 : a = 25 ∧ b = 3 * n + 1
    · obtain ⟨rfl, rfl⟩ := z5
      rw [yMkMV_f5] at h9
      cases h9
    by_cases z6 : a = 25 ∧ b = 3 * n + 2
    · obtain ⟨rfl, rfl⟩ := z6
      rw [yMkMV_f6] at h9
      cases h9
    rw [yMkMV_1 (by omega)] at h9
    refine ⟨⟨h9, hk⟩, yMkMV_2 (by omega), ?_⟩
    rw [wMkMV_ne hA]
    exact ce_mkMV hk hA (by omega)
  · rcases hA with ⟨rfl, hb⟩ | ⟨rfl, hb⟩ | ⟨rfl, hb⟩ | ⟨rfl, hb⟩ <;> (have hb := hb.symm; subst hb)
    · exact ⟨0, by rw [yMkMV_a0]; simp only [ce, lsC, yMkMV_a0, yMkMV_a1, yMkMV_a2, yMkMV_a3, wMkMV_v0, wMkMV_v1, wMkMV_v2, yMkMV_f0, yMkMV_f1, yMkMV_f2, yMkMV_f3, yMkMV_f4, yMkMV_f5, yMkMV_f6]; rfl⟩
    · exact ⟨1, by rw [yMkMV_a1]; simp only [ce, lsC, yMkMV_a0, yMkMV_a1, yMkMV_a2, yMkMV_a3, wMkMV_v0, wMkMV_v1, wMkMV_v2, yMkMV_f0, yMkMV_f1, yMkMV_f2, yMkMV_f3, yMkMV_f4, yMkMV_f5, yMkMV_f6]; rfl⟩
    · exact ⟨2, by rw [yMkMV_a2]; simp only [ce, lsC, yMkMV_a0, yMkMV_a1, yMkMV_a2, yMkMV_a3, wMkMV_v0, wMkMV_v1, wMkMV_v2, yMkMV_f0, yMkMV_f1, yMkMV_f2, yMkMV_f3, yMkMV_f4, yMkMV_f5, yMkMV_f6]; rfl⟩
    · exact ⟨3, by rw [yMkMV_a3]; simp only [ce]; rw [show (fun t => if t < 3 ∧ (yMkMV y n q a1 a2 a3).1 25 (3 * n + t) = 1 then some ((yMkMV y n q a1 a2 a3).2 25 (3 * n + t)) else none) = fun _ => none from by
        funext t
        rcases (show t = 0 ∨ t = 1 ∨ t = 2 ∨ 3 ≤ t by omega) with rfl | rfl | rfl | h3
        · rw [if_neg (fun e => by have := e.2; rw [show (yMkMV y n q a1 a2 a3).1 25 (3 * n + 0) = 0 from yMkMV_f4] at this; cases this)]
        · rw [if_neg (fun e => by have := e.2; rw [yMkMV_f5] at this; cases this)]
        · rw [if_neg (fun e => by have := e.2; rw [yMkMV_f6] at this; cases this)]
        · rw [if_neg (fun e => by omega)]]; rfl⟩
  · rcases hA with ⟨rfl, rfl⟩ | ⟨rfl, rfl⟩ | ⟨rfl, rfl⟩ | ⟨rfl, rfl⟩ <;> rcases hA' with ⟨rfl, rfl⟩ | ⟨rfl, rfl⟩ | ⟨rfl, rfl⟩ | ⟨rfl, rfl⟩
    · exact ⟨rfl, rfl⟩
    · rw [yMkMV_a0, yMkMV_a1] at e9; have := h.LD.1 0 1 _ _ rfl rfl e9; omega
    · rw [yMkMV_a0, yMkMV_a2] at e9; have := h.LD.1 0 2 _ _ rfl rfl e9; omega
    · rw [yMkMV_a0, yMkMV_a3] at e9; have := h.LD.1 0 3 _ _ rfl rfl e9; omega
    · rw [yMkMV_a1, yMkMV_a0] at e9; have := h.LD.1 1 0 _ _ rfl rfl e9; omega
    · exact ⟨rfl, rfl⟩
    · rw [yMkMV_a1, yMkMV_a2] at e9; have := h.LD.1 1 2 _ _ rfl rfl e9; omega
    · rw [yMkMV_a1, yMkMV_a3] at e9; have := h.LD.1 1 3 _ _ rfl rfl e9; omega
    · rw [yMkMV_a2, yMkMV_a0] at e9; have := h.LD.1 2 0 _ _ rfl rfl e9; omega
    · rw [yMkMV_a2, yMkMV_a1] at e9; have := h.LD.1 2 1 _ _ rfl rfl e9; omega
    · exact ⟨rfl, rfl⟩
    · rw [yMkMV_a2, yMkMV_a3] at e9; have := h.LD.1 2 3 _ _ rfl rfl e9; omega
    · rw [yMkMV_a3, yMkMV_a0] at e9; have := h.LD.1 3 0 _ _ rfl rfl e9; omega
    · rw [yMkMV_a3, yMkMV_a1] at e9; have := h.LD.1 3 1 _ _ rfl rfl e9; omega
    · rw [yMkMV_a3, yMkMV_a2] at e9; have := h.LD.1 3 2 _ _ rfl rfl e9; omega
    · exact ⟨rfl, rfl⟩
def yMkMC (y : Ly) (n : Nat) (q a1 a3 : Nat) : Ly := seA (seA (seA (seF (seF (seF (seF (seF (seF (seF (seF (seF y 26 (n) 1) 56 (n) 1) 58 (n) 1) 57 (n) 0) 59 (n) 0) 156 (n) 0) 256 (n) 0) 158 (n) 0) 258 (n) 0) 26 (n) (q)) 56 (n) (a1)) 58 (n) (a3)
def wMkMC (w : Wd) (n : Nat)  : Wd := sr w 26 (n) (fr [0, 0, 0, 0, 0, 0, 0, 0, 0])
theorem yMkMC_1 {y : Ly} {n q a1 a3 : Nat} {a b : Nat} (h : ¬ ((a = 26 ∧ b = n) ∨ (a = 56 ∧ b = n) ∨ (a = 58 ∧ b = n) ∨ (a = 57 ∧ b = n) ∨ (a = 59 ∧ b = n) ∨ (a = 156 ∧ b = n) ∨ (a = 256 ∧ b = n) ∨ (a = 158 ∧ b = n) ∨ (a = 258 ∧ b = n))) : (yMkMC y n q a1 a3).1 a b = y.1 a b := by
  show (seF (seF (seF (seF (seF (seF (seF (seF (seF (y) 26 (n) 1) 56 (n) 1) 58 (n) 1) 57 (n) 0) 59 (n) 0) 156 (n) 0) 256 (n) 0) 158 (n) 0) 258 (n) 0).1 a b = _
  rw [seF_ne (fun e => h (by omega)), seF_ne (fun e => h (by omega)), seF_ne (fun e => h (by omega)), seF_ne (fun e => h (by omega)), seF_ne (fun e => h (by omega)), seF_ne (fun e => h (by omega)), seF_ne (fun e => h (by omega)), seF_ne (fun e => h (by omega)), seF_ne (fun e => h (by omega))]
theorem yMkMC_2 {y : Ly} {n q a1 a3 : Nat} {a b : Nat} (h : ¬ ((a = 26 ∧ b = n) ∨ (a = 56 ∧ b = n) ∨ (a = 58 ∧ b = n))) : (yMkMC y n q a1 a3).2 a b = y.2 a b := by
  show (seA (seA (seA (y) 26 (n) (q)) 56 (n) (a1)) 58 (n) (a3)).2 a b = _
  rw [seA_ne (fun e => h (by omega)), seA_ne (fun e => h (by omega)), seA_ne (fun e => h (by omega))]
theorem yMkMC_f0 {y : Ly} {n q a1 a3 : Nat} : (yMkMC y n q a1 a3).1 26 (n) = 1 := by
  show (seF (seF (seF (seF (seF (seF (seF (seF (seF (y) 26 (n) 1) 56 (n) 1) 58 (n) 1) 57 (n) 0) 59 (n) 0) 156 (n) 0) 256 (n) 0) 158 (n) 0) 258 (n) 0).1 26 (n) = _
  rw [seF_ne (fun e => by omega), seF_ne (fun e => by omega), seF_ne (fun e => by omega), seF_ne (fun e => by omega), seF_ne (fun e => by omega), seF_ne (fun e => by omega), seF_ne (fun e => by omega), seF_ne (fun e => by omega), seF_eq]
theorem yMkMC_f1 {y : Ly} {n q a1 a3 : Nat} : (yMkMC y n q a1 a3).1 56 (n) = 1 := by
  show (seF (seF (seF (seF (seF (seF (seF (seF (seF (y) 26 (n) 1) 56 (n) 1) 58 (n) 1) 57 (n) 0) 59 (n) 0) 156 (n) 0) 256 (n) 0) 158 (n) 0) 258 (n) 0).1 56 (n) = _
  rw [seF_ne (fun e => by omega), seF_ne (fun e => by omega), seF_ne (fun e => by omega), seF_ne (fun e => by omega), seF_ne (fun e => by omega), seF_ne (fun e => by omega), seF_ne (fun e => by omega), seF_eq]
theorem yMkMC_f2 {y : Ly} {n q a1 a3 : Nat} : (yMkMC y n q a1 a3).1 58 (n) = 1 := by
  show (seF (seF (seF (seF (seF (seF (seF (seF (seF (y) 26 (n) 1) 56 (n) 1) 58 (n) 1) 57 (n) 0) 59 (n) 0) 156 (n) 0) 256 (n) 0) 158 (n) 0) 258 (n) 0).1 58 (n) = _
  rw [seF_ne (fun e => by omega), seF_ne (fun e => by omega), seF_ne (fun e => by omega), seF_ne (fun e => by omega), seF_ne (fun e => by omega), seF_ne (fun e => by omega), seF_eq]
theorem yMkMC_f3 {y : Ly} {n q a1 a3 : Nat} : (yMkMC y n q a1 a3).1 57 (n) = 0 := by
  show (seF (seF (seF (seF (seF (seF (seF (seF (seF (y) 26 (n) 1) 56 (n) 1) 58 (n) 1) 57 (n) 0) 59 (n) 0) 156 (n) 0) 256 (n) 0) 158 (n) 0) 258 (n) 0).1 57 (n) = _
  rw [seF_ne (fun e => by omega), seF_ne (fun e => by omega), seF_ne (fun e => by omega), seF_ne (fun e => by omega), seF_ne (fun e => by omega), seF_eq]
theorem yMkMC_f4 {y : Ly} {n q a1 a3 : Nat} : (yMkMC y n q a1 a3).1 59 (n) = 0 := by
  show (seF (seF (seF (seF (seF (seF (seF (seF (seF (y) 26 (n) 1) 56 (n) 1) 58 (n) 1) 57 (n) 0) 59 (n) 0) 156 (n) 0) 256 (n) 0) 158 (n) 0) 258 (n) 0).1 59 (n) = _
  rw [seF_ne (fun e => by omega), seF_ne (fun e => by omega), seF_ne (fun e => by omega), seF_ne (fun e => by omega), seF_eq]
theorem yMkMC_f5 {y : Ly} {n q a1 a3 : Nat} : (yMkMC y n q a1 a3).1 156 (n) = 0 := by
  show (seF (seF (seF (seF (seF (seF (seF (seF (seF (y) 26 (n) 1) 56 (n) 1) 58 (n) 1) 57 (n) 0) 59 (n) 0) 156 (n) 0) 256 (n) 0) 158 (n) 0) 258 (n) 0).1 156 (n) = _
  rw [seF_ne (fun e => by omega), seF_ne (fun e => by omega), seF_ne (fun e => by omega), seF_eq]
theorem yMkMC_f6 {y : Ly} {n q a1 a3 : Nat} : (yMkMC y n q a1 a3).1 256 (n) = 0 := by
  show (seF (seF (seF (seF (seF (seF (seF (seF (seF (y) 26 (n) 1) 56 (n) 1) 58 (n) 1) 57 (n) 0) 59 (n) 0) 156 (n) 0) 256 (n) 0) 158 (n) 0) 258 (n) 0).1 256 (n) = _
  rw [seF_ne (fun e => by omega), seF_ne (fun e => by omega), seF_eq]
theorem yMkMC_f7 {y : Ly} {n q a1 a3 : Nat} : (yMkMC y n q a1 a3).1 158 (n) = 0 := by
  show (seF (seF (seF (seF (seF (seF (seF (seF (seF (y) 26 (n) 1) 56 (n) 1) 58 (n) 1) 57 (n) 0) 59 (n) 0) 156 (n) 0) 256 (n) 0) 158 (n) 0) 258 (n) 0).1 158 (n) = _
  rw [seF_ne (fun e => by omega), seF_eq]
theorem yMkMC_f8 {y : Ly} {n q a1 a3 : Nat} : (yMkMC y n q a1 a3).1 258 (n) = 0 := by
  show (seF (seF (seF (seF (seF (seF (seF (seF (seF (y) 26 (n) 1) 56 (n) 1) 58 (n) 1) 57 (n) 0) 59 (n) 0) 156 (n) 0) 256 (n) 0) 158 (n) 0) 258 (n) 0).1 258 (n) = _
  rw [seF_eq]
theorem yMkMC_a0 {y : Ly} {n q a1 a3 : Nat} : (yMkMC y n q a1 a3).2 26 (n) = q := by
  show (seA (seA (seA (y) 26 (n) (q)) 56 (n) (a1)) 58 (n) (a3)).2 26 (n) = _
  rw [seA_ne (fun e => by omega), seA_ne (fun e => by omega), seA_eq]
theorem yMkMC_a1 {y : Ly} {n q a1 a3 : Nat} : (yMkMC y n q a1 a3).2 56 (n) = a1 := by
  show (seA (seA (seA (y) 26 (n) (q)) 56 (n) (a1)) 58 (n) (a3)).2 56 (n) = _
  rw [seA_ne (fun e => by omega), seA_eq]
theorem yMkMC_a2 {y : Ly} {n q a1 a3 : Nat} : (yMkMC y n q a1 a3).2 58 (n) = a3 := by
  show (seA (seA (seA (y) 26 (n) (q)) 56 (n) (a1)) 58 (n) (a3)).2 58 (n) = _
  rw [seA_eq]
theorem wMkMC_ne {w : Wd} {n : Nat}  {a b : Nat} (h : ¬ ((a = 26 ∧ b = n) ∨ (a = 56 ∧ b = n) ∨ (a = 58 ∧ b = n))) : (wMkMC w n ).1 a b = w.1 a b := by
  unfold wMkMC
  rw [sr_ne (fun e => h (by omega))]
theorem wMkMC_v0 {w : Wd} {n : Nat}  : (wMkMC w n ).1 26 (n) = fr [0, 0, 0, 0, 0, 0, 0, 0, 0] := by
  unfold wMkMC
  rw [sr_same]
theorem ce_mkMC {κ : Kx} {y : Ly} {n q a1 a3 : Nat} {a b : Nat} {g : Nat → Int32} {d : Int64} (hk : a < 100) (hA : ¬ ((a = 26 ∧ b = n) ∨ (a = 56 ∧ b = n) ∨ (a = 58 ∧ b = n))) (hZ : ¬ ((a = 57 ∧ b = n) ∨ (a = 59 ∧ b = n))) : ce κ (yMkMC y n q a1 a3) a b g d = ce κ y a b g d := by
  have m1 : ∀ a b, ¬ ((a = 26 ∧ b = n) ∨ (a = 56 ∧ b = n) ∨ (a = 58 ∧ b = n) ∨ (a = 57 ∧ b = n) ∨ (a = 59 ∧ b = n) ∨ (a = 156 ∧ b = n) ∨ (a = 256 ∧ b = n) ∨ (a = 158 ∧ b = n) ∨ (a = 258 ∧ b = n)) → (yMkMC y n q a1 a3).1 a b = y.1 a b := fun a b h => yMkMC_1 h
  have m2 : ∀ a b, ¬ ((a = 26 ∧ b = n) ∨ (a = 56 ∧ b = n) ∨ (a = 58 ∧ b = n)) → (yMkMC y n q a1 a3).2 a b = y.2 a b := fun a b h => yMkMC_2 h
  generalize yMkMC y n q a1 a3 = y1 at m1 m2 ⊢
  have g2 : ∀ a, a ≠ 26 → a ≠ 56 → a ≠ 58 → y1.2 a = y.2 a := fun a _ _ _ => funext fun b => m2 a b (by omega)
  have g1 : ∀ a, a ≠ 26 → a ≠ 56 → a ≠ 57 → a ≠ 58 → a ≠ 59 → a ≠ 156 → a ≠ 158 → a ≠ 256 → a ≠ 258 → y1.1 a = y.1 a := fun a _ _ _ _ _ _ _ _ _ => funext fun b => m1 a b (by omega)
  have p26 : ∀ b, b ≠ n → y1.2 26 b = y.2 26 b := fun b _ => m2 26 b (by omega)
  have p56 : ∀ b, b ≠ n → y1.2 56 b = y.2 56 b := fun b _ => m2 56 b (by omega)
  have p58 : ∀ b, b ≠ n → y1.2 58 b = y.2 58 b := fun b _ => m2 58 b (by omega)
  have hE : a % 2 = 0 → a ≠ 26 → a ≠ 27 → lsC κ y1 a b = lsC κ y a b := fun _ _ _ => lsC_eq (m1 _ _ (by omega)) (m1 _ _ (by omega)) (m1 _ _ (by omega)) (m2 _ _ (by omega))
  have hO : ¬ a % 2 = 0 → a ≠ 26 → a ≠ 27 → laC κ y1 (a - 1) b = laC κ y (a - 1) b := fun _ _ _ => laC_eq2 (m1 _ _ (by omega)) (fun t ht => m2 _ _ (by omega))
  unfold ce
  split
  all_goals try replace hx6 := hx6 rfl
  all_goals try replace hx14 := hx14 rfl
  all_goals first
    | rfl
    | (split
       · exact hE (by assumption) (by assumption) (by assumption)
       · exact hO (by assumption) (by assumption) (by assumption))
    | (simp (disch := omega) only [g1 14 (by decide) (by decide) (by decide) (by decide) (by decide) (by decide) (by decide) (by decide) (by decide), g1 25 (by decide) (by decide) (by decide) (by decide) (by decide) (by decide) (by decide) (by decide) (by decide), g2 1 (by decide) (by decide) (by decide), g2 2 (by decide) (by decide) (by decide), g2 3 (by decide) (by decide) (by decide), g2 4 (by decide) (by decide) (by decide), g2 5 (by decide) (by decide) (by decide), g2 7 (by decide) (by decide) (by decide), g2 8 (by decide) (by decide) (by decide), g2 9 (by decide) (by decide) (by decide), g2 12 (by decide) (by decide) (by decide), g2 13 (by decide) (by decide) (by decide), g2 14 (by decide) (by decide) (by decide), g2 16 (by decide) (by decide) (by decide), g2 22 (by decide) (by decide) (by decide), g2 23 (by decide) (by decide) (by decide), g2 24 (by decide) (by decide) (by decide), g2 25 (by decide) (by decide) (by decide), g2 28 (by decide) (by decide) (by decide), g2 29 (by decide) (by decide) (by decide), g2 30 (by decide) (by decide) (by decide), g2 31 (by decide) (by decide) (by decide), g2 32 (by decide) (by decide) (by decide), g2 33 (by decide) (by decide) (by decide), g2 34 (by decide) (by decide) (by decide), g2 35 (by decide) (by decide) (by decide), g2 40 (by decide) (by decide) (by decide), g2 42 (by decide) (by decide) (by decide), g2 44 (by decide) (by decide) (by decide), g2 46 (by decide) (by decide) (by decide), g2 48 (by decide) (by decide) (by decide), g2 50 (by decide) (by decide) (by decide), g2 52 (by decide) (by decide) (by decide), g2 54 (by decide) (by decide) (by decide), p56, p58]; done)
    | (simp (disch := omega) only [g1 14 (by decide) (by decide) (by decide) (by decide) (by decide) (by decide) (by decide) (by decide) (by decide), g1 25 (by decide) (by decide) (by decide) (by decide) (by decide) (by decide) (by decide) (by decide) (by decide), g2 1 (by decide) (by decide) (by decide), g2 2 (by decide) (by decide) (by decide), g2 3 (by decide) (by decide) (by decide), g2 4 (by decide) (by decide) (by decide), g2 5 (by decide) (by decide) (by decide), g2 7 (by decide) (by decide) (by decide), g2 8 (by decide) (by decide) (by decide), g2 9 (by decide) (by decide) (by decide), g2 12 (by decide) (by decide) (by decide), g2 13 (by decide) (by decide) (by decide), g2 14 (by decide) (by decide) (by decide), g2 16 (by decide) (by decide) (by decide), g2 22 (by decide) (by decide) (by decide), g2 23 (by decide) (by decide) (by decide), g2 24 (by decide) (by decide) (by decide), g2 25 (by decide) (by decide) (by decide), g2 28 (by decide) (by decide) (by decide), g2 29 (by decide) (by decide) (by decide), g2 30 (by decide) (by decide) (by decide), g2 31 (by decide) (by decide) (by decide), g2 32 (by decide) (by decide) (by decide), g2 33 (by decide) (by decide) (by decide), g2 34 (by decide) (by decide) (by decide), g2 35 (by decide) (by decide) (by decide), g2 40 (by decide) (by decide) (by decide), g2 42 (by decide) (by decide) (by decide), g2 44 (by decide) (by decide) (by decide), g2 46 (by decide) (by decide) (by decide), g2 48 (by decide) (by decide) (by decide), g2 50 (by decide) (by decide) (by decide), g2 52 (by decide) (by decide) (by decide), g2 54 (by decide) (by decide) (by decide), p56, p58]; rfl)
theorem Rp.mkMC {κ : Kx} {w : Wd} {y : Ly} {X : XR} {H : Heap} {n q a1 a3 : Nat}  (h : Rp κ w y X [(q, .inr (13, [.int 0, .int 0, .int 0, .int 0, .int 0, .int 0, .int 0, .int 0, .int 0, .ref a1, .ref a3])), (a1, eL 0 (kA κ 1) 0), (a3, eL 0 (kA κ 1) 0)] H) : Rp κ (wMkMC w n ) (yMkMC y n q a1 a3) X [] H := by
  refine h.back (X := X) (w' := wMkMC w n ) (y' := yMkMC y n q a1 a3) (L' := []) (fun _ _ hx => hx) (fun a b => (a = 26 ∧ b = n) ∨ (a = 56 ∧ b = n) ∨ (a = 58 ∧ b = n)) (fun a b hl hA => ?_) (fun a b hl hA => Or.inr ?_) (fun a b a' b' _ _ hA hA' e9 => ?_) (fun t q h => by simp at h) va_D0
  · have h9 := hl.1
    have hk := hl.2
    by_cases z3 : a = 57 ∧ b = n
    · obtain ⟨rfl, rfl⟩ := z3
      rw [yMkMC_f3] at h9
      cases h9
    by_cases z4 : a = 59 ∧ b = n
    · obtain ⟨rfl, rfl⟩ := z4
      rw [yMkMC_f4] at h9
      cases h9
    rw [yMkMC_1 (by omega)] at h9
    refine ⟨⟨h9, hk⟩, yMkMC_2 (by omega), ?_⟩
    rw [wMkMC_ne hA]
    exact ce_mkMC hk hA (by omega)
  · rcases hA with ⟨rfl, hb⟩ | ⟨rfl, hb⟩ | ⟨rfl, hb⟩ <;> (have hb := hb.symm; subst hb)
    · exact ⟨0, by rw [yMkMC_a0]; simp only [ce, lsC, yMkMC_a0, yMkMC_a1, yMkMC_a2, wMkMC_v0, yMkMC_f0, yMkMC_f1, yMkMC_f2, yMkMC_f3, yMkMC_f4, yMkMC_f5, yMkMC_f6, yMkMC_f7, yMkMC_f8]; rfl⟩
    · exact ⟨1, by rw [yMkMC_a1]; show some (a1, eL 0 (kA κ 1) 0) = some (a1, Sum.inr (16, [Value.int (nI ((yMkMC y n q a1 a3).1 256 (n))), Value.ref (if (yMkMC y n q a1 a3).1 57 (n) = 1 then (yMkMC y n q a1 a3).2 57 (n) else kA κ 1), Value.int (nI ((yMkMC y n q a1 a3).1 156 (n)))])); rw [yMkMC_f6, yMkMC_f3, yMkMC_f5, if_neg (by decide)]; rfl⟩
    · exact ⟨2, by rw [yMkMC_a2]; show some (a3, eL 0 (kA κ 1) 0) = some (a3, Sum.inr (16, [Value.int (nI ((yMkMC y n q a1 a3).1 258 (n))), Value.ref (if (yMkMC y n q a1 a3).1 59 (n) = 1 then (yMkMC y n q a1 a3).2 59 (n) else kA κ 1), Value.int (nI ((yMkMC y n q a1 a3).1 158 (n)))])); rw [yMkMC_f8, yMkMC_f4, yMkMC_f7, if_neg (by decide)]; rfl⟩
  · rcases hA with ⟨rfl, rfl⟩ | ⟨rfl, rfl⟩ | ⟨rfl, rfl⟩ <;> rcases hA' with ⟨rfl, rfl⟩ | ⟨rfl, rfl⟩ | ⟨rfl, rfl⟩
    · exact ⟨rfl, rfl⟩
    · rw [yMkMC_a0, yMkMC_a1] at e9; have := h.LD.1 0 1 _ _ rfl rfl e9; omega
    · rw [yMkMC_a0, yMkMC_a2] at e9; have := h.LD.1 0 2 _ _ rfl rfl e9; omega
    · rw [yMkMC_a1, yMkMC_a0] at e9; have := h.LD.1 1 0 _ _ rfl rfl e9; omega
    · exact ⟨rfl, rfl⟩
    · rw [yMkMC_a1, yMkMC_a2] at e9; have := h.LD.1 1 2 _ _ rfl rfl e9; omega
    · rw [yMkMC_a2, yMkMC_a0] at e9; have := h.LD.1 2 0 _ _ rfl rfl e9; omega
    · rw [yMkMC_a2, yMkMC_a1] at e9; have := h.LD.1 2 1 _ _ rfl rfl e9; omega
    · exact ⟨rfl, rfl⟩
def yMkML (y : Ly) (n : Nat) (q a1 a2 : Nat) : Ly := seA (seA (seA (seF (seF (seF y 27 (n) 1) 28 (n) 1) 29 (n) 1) 27 (n) (q)) 28 (n) (a1)) 29 (n) (a2)
def wMkML (w : Wd) (n : Nat)  : Wd := sr (sr (sr w 27 (n) (fr [0, 0, 0, 0, 0, (-1), 0, 0, 0, 0, (-1)])) 28 (n) (fun _ => 0)) 29 (n) (fun _ => 0)
theorem yMkML_1 {y : Ly} {n q a1 a2 : Nat} {a b : Nat} (h : ¬ ((a = 27 ∧ b = n) ∨ (a = 28 ∧ b = n) ∨ (a = 29 ∧ b = n))) : (yMkML y n q a1 a2).1 a b = y.1 a b := by
  show (seF (seF (seF (y) 27 (n) 1) 28 (n) 1) 29 (n) 1).1 a b = _
  rw [seF_ne (fun e => h (by omega)), seF_ne (fun e => h (by omega)), seF_ne (fun e => h (by omega))]
theorem yMkML_2 {y : Ly} {n q a1 a2 : Nat} {a b : Nat} (h : ¬ ((a = 27 ∧ b = n) ∨ (a = 28 ∧ b = n) ∨ (a = 29 ∧ b = n))) : (yMkML y n q a1 a2).2 a b = y.2 a b := by
  show (seA (seA (seA (y) 27 (n) (q)) 28 (n) (a1)) 29 (n) (a2)).2 a b = _
  rw [seA_ne (fun e => h (by omega)), seA_ne (fun e => h (by omega)), seA_ne (fun e => h (by omega))]
theorem yMkML_f0 {y : Ly} {n q a1 a2 : Nat} : (yMkML y n q a1 a2).1 27 (n) = 1 := by
  show (seF (seF (seF (y) 27 (n) 1) 28 (n) 1) 29 (n) 1).1 27 (n) = _
  rw [seF_ne (fun e => by omega), seF_ne (fun e => by omega), seF_eq]
theorem yMkML_f1 {y : Ly} {n q a1 a2 : Nat} : (yMkML y n q a1 a2).1 28 (n) = 1 := by
  show (seF (seF (seF (y) 27 (n) 1) 28 (n) 1) 29 (n) 1).1 28 (n) = _
  rw [seF_ne (fun e => by omega), seF_eq]
theorem yMkML_f2 {y : Ly} {n q a1 a2 : Nat} : (yMkML y n q a1 a2).1 29 (n) = 1 := by
  show (seF (seF (seF (y) 27 (n) 1) 28 (n) 1) 29 (n) 1).1 29 (n) = _
  rw [seF_eq]
theorem yMkML_a0 {y : Ly} {n q a1 a2 : Nat} : (yMkML y n q a1 a2).2 27 (n) = q := by
  show (seA (seA (seA (y) 27 (n) (q)) 28 (n) (a1)) 29 (n) (a2)).2 27 (n) = _
  rw [seA_ne (fun e => by omega), seA_ne (fun e => by omega), seA_eq]
theorem yMkML_a1 {y : Ly} {n q a1 a2 : Nat} : (yMkML y n q a1 a2).2 28 (n) = a1 := by
  show (seA (seA (seA (y) 27 (n) (q)) 28 (n) (a1)) 29 (n) (a2)).2 28 (n) = _
  rw [seA_ne (fun e => by omega), seA_eq]
theorem yMkML_a2 {y : Ly} {n q a1 a2 : Nat} : (yMkML y n q a1 a2).2 29 (n) = a2 := by
  show (seA (seA (seA (y) 27 (n) (q)) 28 (n) (a1)) 29 (n) (a2)).2 29 (n) = _
  rw [seA_eq]
theorem wMkML_ne {w : Wd} {n : Nat}  {a b : Nat} (h : ¬ ((a = 27 ∧ b = n) ∨ (a = 28 ∧ b = n) ∨ (a = 29 ∧ b = n))) : (wMkML w n ).1 a b = w.1 a b := by
  unfold wMkML
  rw [sr_ne (fun e => h (by omega)), sr_ne (fun e => h (by omega)), sr_ne (fun e => h (by omega))]
theorem wMkML_v0 {w : Wd} {n : Nat}  : (wMkML w n ).1 27 (n) = fr [0, 0, 0, 0, 0, (-1), 0, 0, 0, 0, (-1)] := by
  unfold wMkML
  rw [sr_ne (fun e => by omega), sr_ne (fun e => by omega), sr_same]
theorem wMkML_v1 {w : Wd} {n : Nat}  : (wMkML w n ).1 28 (n) = fun _ => 0 := by
  unfold wMkML
  rw [sr_ne (fun e => by omega), sr_same]
theorem wMkML_v2 {w : Wd} {n : Nat}  : (wMkML w n ).1 29 (n) = fun _ => 0 := by
  unfold wMkML
  rw [sr_same]
theorem ce_mkML {κ : Kx} {y : Ly} {n q a1 a2 : Nat} {a b : Nat} {g : Nat → Int32} {d : Int64} (hk : a < 100) (hA : ¬ ((a = 27 ∧ b = n) ∨ (a = 28 ∧ b = n) ∨ (a = 29 ∧ b = n))) : ce κ (yMkML y n q a1 a2) a b g d = ce κ y a b g d := by
  have m1 : ∀ a b, ¬ ((a = 27 ∧ b = n) ∨ (a = 28 ∧ b = n) ∨ (a = 29 ∧ b = n)) → (yMkML y n q a1 a2).1 a b = y.1 a b := fun a b h => yMkML_1 h
  have m2 : ∀ a b, ¬ ((a = 27 ∧ b = n) ∨ (a = 28 ∧ b = n) ∨ (a = 29 ∧ b = n)) → (yMkML y n q a1 a2).2 a b = y.2 a b := fun a b h => yMkML_2 h
  generalize yMkML y n q a1 a2 = y1 at m1 m2 ⊢
  have g2 : ∀ a, a ≠ 27 → a ≠ 28 → a ≠ 29 → y1.2 a = y.2 a := fun a _ _ _ => funext fun b => m2 a b (by omega)
  have g1 : ∀ a, a ≠ 27 → a ≠ 28 → a ≠ 29 → y1.1 a = y.1 a := fun a _ _ _ => funext fun b => m1 a b (by omega)
  have p27 : ∀ b, b ≠ n → y1.2 27 b = y.2 27 b := fun b _ => m2 27 b (by omega)
  have p28 : ∀ b, b ≠ n → y1.2 28 b = y.2 28 b := fun b _ => m2 28 b (by omega)
  have p29 : ∀ b, b ≠ n → y1.2 29 b = y.2 29 b := fun b _ => m2 29 b (by omega)
  have hE : a % 2 = 0 → a ≠ 26 → a ≠ 27 → a ≠ 28 → a ≠ 29 → lsC κ y1 a b = lsC κ y a b := fun _ _ _ _ _ => lsC_eq (m1 _ _ (by omega)) (m1 _ _ (by omega)) (m1 _ _ (by omega)) (m2 _ _ (by omega))
  have hO : ¬ a % 2 = 0 → a ≠ 26 → a ≠ 27 → a ≠ 28 → a ≠ 29 → laC κ y1 (a - 1) b = laC κ y (a - 1) b := fun _ _ _ _ _ => laC_eq2 (m1 _ _ (by omega)) (fun t ht => m2 _ _ (by omega))
  unfold ce
  split
  all_goals try replace hx6 := hx6 rfl
  all_goals try replace hx14 := hx14 rfl
  all_goals first
    | rfl
    | (split
       · exact hE (by assumption) (by assumption) (by assumption) (by assumption) (by assumption)
       · exact hO (by assumption) (by assumption) (by assumption) (by assumption) (by assumption))
    | (simp (disch := omega) only [g1 14 (by decide) (by decide) (by decide), g1 25 (by decide) (by decide) (by decide), g2 1 (by decide) (by decide) (by decide), g2 2 (by decide) (by decide) (by decide), g2 3 (by decide) (by decide) (by decide), g2 4 (by decide) (by decide) (by decide), g2 5 (by decide) (by decide) (by decide), g2 7 (by decide) (by decide) (by decide), g2 8 (by decide) (by decide) (by decide), g2 9 (by decide) (by decide) (by decide), g2 12 (by decide) (by decide) (by decide), g2 13 (by decide) (by decide) (by decide), g2 14 (by decide) (by decide) (by decide), g2 16 (by decide) (by decide) (by decide), g2 22 (by decide) (by decide) (by decide), g2 23 (by decide) (by decide) (by decide), g2 24 (by decide) (by decide) (by decide), g2 25 (by decide) (by decide) (by decide), g2 30 (by decide) (by decide) (by decide), g2 31 (by decide) (by decide) (by decide), g2 32 (by decide) (by decide) (by decide), g2 33 (by decide) (by decide) (by decide), g2 34 (by decide) (by decide) (by decide), g2 35 (by decide) (by decide) (by decide), g2 40 (by decide) (by decide) (by decide), g2 42 (by decide) (by decide) (by decide), g2 44 (by decide) (by decide) (by decide), g2 46 (by decide) (by decide) (by decide), g2 48 (by decide) (by decide) (by decide), g2 50 (by decide) (by decide) (by decide), g2 52 (by decide) (by decide) (by decide), g2 54 (by decide) (by decide) (by decide), g2 56 (by decide) (by decide) (by decide), g2 58 (by decide) (by decide) (by decide), p28, p29]; done)
    | (simp (disch := omega) only [g1 14 (by decide) (by decide) (by decide), g1 25 (by decide) (by decide) (by decide), g2 1 (by decide) (by decide) (by decide), g2 2 (by decide) (by decide) (by decide), g2 3 (by decide) (by decide) (by decide), g2 4 (by decide) (by decide) (by decide), g2 5 (by decide) (by decide) (by decide), g2 7 (by decide) (by decide) (by decide), g2 8 (by decide) (by decide) (by decide), g2 9 (by decide) (by decide) (by decide), g2 12 (by decide) (by decide) (by decide), g2 13 (by decide) (by decide) (by decide), g2 14 (by decide) (by decide) (by decide), g2 16 (by decide) (by decide) (by decide), g2 22 (by decide) (by decide) (by decide), g2 23 (by decide) (by decide) (by decide), g2 24 (by decide) (by decide) (by decide), g2 25 (by decide) (by decide) (by decide), g2 30 (by decide) (by decide) (by decide), g2 31 (by decide) (by decide) (by decide), g2 32 (by decide) (by decide) (by decide), g2 33 (by decide) (by decide) (by decide), g2 34 (by decide) (by decide) (by decide), g2 35 (by decide) (by decide) (by decide), g2 40 (by decide) (by decide) (by decide), g2 42 (by decide) (by decide) (by decide), g2 44 (by decide) (by decide) (by decide), g2 46 (by decide) (by decide) (by decide), g2 48 (by decide) (by decide) (by decide), g2 50 (by decide) (by decide) (by decide), g2 52 (by decide) (by decide) (by decide), g2 54 (by decide) (by decide) (by decide), g2 56 (by decide) (by decide) (by decide), g2 58 (by decide) (by decide) (by decide), p28, p29]; rfl)
theorem Rp.mkML {κ : Kx} {w : Wd} {y : Ly} {X : XR} {H : Heap} {n q a1 a2 : Nat}  (h : Rp κ w y X [(q, .inr (14, [.int 0, .int 0, .int 0, .int 0, .int 0, .int (-1), .int 0, .int 0, .int 0, .int 0, .int (-1), .ref a1, .ref a2])), (a1, .inl (kT κ 0, (4, .inl (fun _ => 0)))), (a2, .inl (kT κ 0, (8, .inl (fun _ => 0))))] H) : Rp κ (wMkML w n ) (yMkML y n q a1 a2) X [] H := by
  refine h.back (X := X) (w' := wMkML w n ) (y' := yMkML y n q a1 a2) (L' := []) (fun _ _ hx => hx) (fun a b => (a = 27 ∧ b = n) ∨ (a = 28 ∧ b = n) ∨ (a = 29 ∧ b = n)) (fun a b hl hA => ?_) (fun a b hl hA => Or.inr ?_) (fun a b a' b' _ _ hA hA' e9 => ?_) (fun t q h => by simp at h) va_D0
  · have h9 := hl.1
    have hk := hl.2
    rw [yMkML_1 (by omega)] at h9
    refine ⟨⟨h9, hk⟩, yMkML_2 (by omega), ?_⟩
    rw [wMkML_ne hA]
    exact ce_mkML hk hA
  · rcases hA with ⟨rfl, hb⟩ | ⟨rfl, hb⟩ | ⟨rfl, hb⟩ <;> (have hb := hb.symm; subst hb)
    · exact ⟨0, by rw [yMkML_a0]; simp only [ce, lsC, yMkML_a0, yMkML_a1, yMkML_a2, wMkML_v0, wMkML_v1, wMkML_v2, yMkML_f0, yMkML_f1, yMkML_f2]; rfl⟩
    · exact ⟨1, by rw [yMkML_a1]; simp only [ce, lsC, yMkML_a0, yMkML_a1, yMkML_a2, wMkML_v0, wMkML_v1, wMkML_v2, yMkML_f0, yMkML_f1, yMkML_f2]; rfl⟩
    · exact ⟨2, by rw [yMkML_a2]; simp only [ce, lsC, yMkML_a0, yMkML_a1, yMkML_a2, wMkML_v0, wMkML_v1, wMkML_v2, yMkML_f0, yMkML_f1, yMkML_f2]; rfl⟩
  · rcases hA with ⟨rfl, rfl⟩ | ⟨rfl, rfl⟩ | ⟨rfl, rfl⟩ <;> rcases hA' with ⟨rfl, rfl⟩ | ⟨rfl, rfl⟩ | ⟨rfl, rfl⟩
    · exact ⟨rfl, rfl⟩
    · rw [yMkML_a0, yMkML_a1] at e9; have := h.LD.1 0 1 _ _ rfl rfl e9; omega
    · rw [yMkML_a0, yMkML_a2] at e9; have := h.LD.1 0 2 _ _ rfl rfl e9; omega
    · rw [yMkML_a1, yMkML_a0] at e9; have := h.LD.1 1 0 _ _ rfl rfl e9; omega
    · exact ⟨rfl, rfl⟩
    · rw [yMkML_a1, yMkML_a2] at e9; have := h.LD.1 1 2 _ _ rfl rfl e9; omega
    · rw [yMkML_a2, yMkML_a0] at e9; have := h.LD.1 2 0 _ _ rfl rfl e9; omega
    · rw [yMkML_a2, yMkML_a1] at e9; have := h.LD.1 2 1 _ _ rfl rfl e9; omega
    · exact ⟨rfl, rfl⟩
