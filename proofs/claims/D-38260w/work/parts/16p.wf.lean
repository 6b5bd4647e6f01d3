/-! WFc, WFm where objects are made and lists grow (printed by wip gen/wfp.py) -/
set_option maxRecDepth 100000
theorem WFc.mkC {κ : Kx} {y : Ly} {n q a1 a3 : Nat} (h : WFc κ y) (hn : n = nC y) (h4 : n < 4) : WFc κ (yMkC y n q a1 a3) := by
  have m1 : ∀ a b, ¬ ((a = 9 ∧ b = n) ∨ (a = 1 ∧ b = 11 + n) ∨ (a = 48 ∧ b = n) ∨ (a = 49 ∧ b = n) ∨ (a = 148 ∧ b = n) ∨ (a = 248 ∧ b = n)) → (yMkC y n q a1 a3).1 a b = y.1 a b := fun a b h => yMkC_1 h
  have m2 : ∀ a b, ¬ ((a = 9 ∧ b = n) ∨ (a = 1 ∧ b = 11 + n) ∨ (a = 48 ∧ b = n)) → (yMkC y n q a1 a3).2 a b = y.2 a b := fun a b h => yMkC_2 h
  have fv0 : (yMkC y n q a1 a3).1 9 (n) = _ := yMkC_f0
  have fv1 : (yMkC y n q a1 a3).1 1 (11 + n) = _ := yMkC_f1
  have fv2 : (yMkC y n q a1 a3).1 48 (n) = _ := yMkC_f2
  have fv3 : (yMkC y n q a1 a3).1 49 (n) = _ := yMkC_f3
  have fv4 : (yMkC y n q a1 a3).1 148 (n) = _ := yMkC_f4
  have fv5 : (yMkC y n q a1 a3).1 248 (n) = _ := yMkC_f5
  have ua0 : (yMkC y n q a1 a3).2 9 (n) = _ := yMkC_a0
  have ua1 : (yMkC y n q a1 a3).2 1 (11 + n) = _ := yMkC_a1
  have ua2 : (yMkC y n q a1 a3).2 48 (n) = _ := yMkC_a2
  generalize yMkC y n q a1 a3 = y1 at *
  have lv : ∀ a b, ¬ ((a = 9 ∧ b = n) ∨ (a = 1 ∧ b = 11 + n) ∨ (a = 48 ∧ b = n) ∨ (a = 49 ∧ b = n) ∨ (a = 148 ∧ b = n) ∨ (a = 248 ∧ b = n)) → live y a b → live y1 a b := fun a b hd hl => ⟨by rw [m1 a b hd]; exact hl.1, hl.2⟩
  have vl : ∀ a b, ¬ ((a = 9 ∧ b = n) ∨ (a = 1 ∧ b = 11 + n) ∨ (a = 48 ∧ b = n) ∨ (a = 49 ∧ b = n) ∨ (a = 148 ∧ b = n) ∨ (a = 248 ∧ b = n)) → live y1 a b → live y a b := fun a b hd hl => ⟨by rw [← m1 a b hd]; exact hl.1, hl.2⟩
  obtain ⟨⟨c1, c2, c3, c4, c5, c6, c7, c8, c9, c10, c11, c12⟩, ⟨d1, d2, d3⟩, e3, e4, e5, e6, e7, e8, e9, f1, f2, f3, f4⟩ := h
  refine ⟨⟨lv 0 0 (by omega) c1, lv 1 0 (by omega) c2, lv 1 1 (by omega) c3, lv 1 2 (by omega) c4, lv 2 0 (by omega) c5, lv 3 0 (by omega) c6, fun d hd => lv 4 d (by omega) (c7 d hd), lv 5 0 (by omega) c8, lv 40 0 (by omega) c9, lv 42 0 (by omega) c10, lv 44 0 (by omega) c11, fun i hi => c12 i (vl 0 i (by omega) hi)⟩, ⟨?_, ?_, ?_⟩, fun i hi => ?_, fun i hi => ?_, fun i hi => ?_, fun i hi => ?_, fun i hi => ?_, fun i hi => ?_, fun i hi => ?_, fun hi => ?_, fun hi => ?_, fun hi => ?_, fun i hi => ?_⟩
  · show y1.1 140 0 ≤ 8
    rw [m1 140 0 (by omega)]
    exact d1
  · show y1.1 142 0 ≤ 4
    rw [m1 142 0 (by omega)]
    exact d2
  · show y1.1 144 0 ≤ 8
    rw [m1 144 0 (by omega)]
    exact d3
  · replace hi : i < y1.1 140 0 := hi
    rw [m1 140 0 (by omega)] at hi
    obtain ⟨g1, g2⟩ := e3 i hi
    refine ⟨lv 6 i (by omega) g1, ?_⟩
    rw [m2 340 _ (by omega), m2 6 i (by omega)]
    exact g2
  · have h0 := vl 6 i (by omega) hi
    have h8 := (e4 i h0).2.2.1
    obtain ⟨⟨g1, g2, g3, g4, g5⟩, g6, g7, g8⟩ := e4 i h0
    refine ⟨⟨lv 1 (3 + i) (by omega) g1, lv 7 i (by omega) g2, lv 8 i (by omega) g3, lv 46 i (by omega) g4, lv 47 i (by omega) g5⟩, ?_, g7, fun d hd => ?_⟩
    · rw [m1 146 i (by omega)]
      exact g6
    · rw [m2 346 _ (by omega), m1 15 _ (by omega), m2 15 _ (by omega)]
      exact g8 d hd
  · exact lv 16 i (by omega) (e5 i (vl 15 i (by omega) hi))
  · replace hi : i < y1.1 142 0 := hi
    rw [m1 142 0 (by omega)] at hi
    replace hn : n = y.1 142 0 := hn
    obtain ⟨g1, g2⟩ := e6 i hi
    refine ⟨lv 9 i (by omega) g1, ?_⟩
    rw [m2 342 _ (by omega), m2 9 i (by omega)]
    exact g2
  · by_cases hin : i = n
    · subst hin
      have hp : nP y1 i = 0 := fv4
      refine ⟨⟨⟨fv1, by decide⟩, ⟨fv2, by decide⟩⟩, by rw [hp]; decide, h4, fun p hp9 => ?_⟩
      rw [hp] at hp9
      exact absurd hp9 (Nat.not_lt_zero _)
    · have h0 := vl 9 i (by omega) hi
      obtain ⟨⟨g1, g2⟩, g3, g4, g5⟩ := e7 i h0
      have hp : nP y1 i = nP y i := m1 148 i (by omega)
      refine ⟨⟨lv 1 (11 + i) (by omega) g1, lv 48 i (by omega) g2⟩, by rw [hp]; exact g3, g4, fun p hp9 => ?_⟩
      rw [hp] at hp9
      obtain ⟨k1, k2⟩ := g5 p hp9
      refine ⟨lv 10 (5 * i + p) (by omega) k1, ?_⟩
      rw [m2 348 _ (by omega), m2 10 _ (by omega)]
      exact k2
  · replace hi : i < y1.1 144 0 := hi
    rw [m1 144 0 (by omega)] at hi
    obtain ⟨g1, g2⟩ := e8 i hi
    refine ⟨lv 11 i (by omega) g1, ?_⟩
    rw [m2 344 _ (by omega), m2 11 i (by omega)]
    exact g2
  · have h0 := vl 11 i (by omega) hi
    obtain ⟨⟨g1, g2⟩, g3⟩ := e9 i h0
    exact ⟨⟨lv 12 i (by omega) g1, lv 13 i (by omega) g2⟩, g3⟩
  · replace hi : 0 < y1.1 140 0 := hi
    rw [m1 140 0 (by omega)] at hi
    exact lv 41 0 (by omega) (f1 hi)
  · replace hi : 0 < y1.1 142 0 := hi
    rw [m1 142 0 (by omega)] at hi
    exact lv 43 0 (by omega) (f2 hi)
  · replace hi : 0 < y1.1 144 0 := hi
    rw [m1 144 0 (by omega)] at hi
    exact lv 45 0 (by omega) (f3 hi)
  · replace hi : 0 < y1.1 148 i := hi
    by_cases hin : i = n
    · subst hin
      rw [fv4] at hi
      exact absurd hi (Nat.lt_irrefl _)
    · rw [m1 148 i (by omega)] at hi
      exact lv 49 i (by omega) (f4 i hi)
theorem WFc.addC {κ : Kx} {y y1 : Ly} {n : Nat} (h : WFc κ y) (hY : YAdd y 42 0 (y.2 9 n) y1) (hn : n = nC y) (h4 : n < 4) (hl : live y 9 n) : WFc κ y1 := by
  unfold YAdd at hY
  simp only [Nat.reduceAdd] at hY
  obtain ⟨⟨v0, v1, v2, u1⟩, m1, m2⟩ := hY
  replace m1 : ∀ a b, ¬ ((a = 43 ∧ b = 0) ∨ (a = 142 ∧ b = 0) ∨ (a = 242 ∧ b = 0)) → y1.1 a b = y.1 a b := fun a b h => m1 a b (by omega) (by omega) (by omega)
  replace m2 : ∀ a b, ¬ ((a = 43 ∧ b = 0) ∨ (a = 342 ∧ b = 16 * 0 + y.1 142 0)) → y1.2 a b = y.2 a b := fun a b h => m2 a b (by omega) (by omega)
  have lv : ∀ a b, ¬ ((a = 43 ∧ b = 0) ∨ (a = 142 ∧ b = 0) ∨ (a = 242 ∧ b = 0)) → live y a b → live y1 a b := fun a b hd hl => ⟨by rw [m1 a b hd]; exact hl.1, hl.2⟩
  have vl : ∀ a b, ¬ ((a = 43 ∧ b = 0) ∨ (a = 142 ∧ b = 0) ∨ (a = 242 ∧ b = 0)) → live y1 a b → live y a b := fun a b hd hl => ⟨by rw [← m1 a b hd]; exact hl.1, hl.2⟩
  obtain ⟨⟨c1, c2, c3, c4, c5, c6, c7, c8, c9, c10, c11, c12⟩, ⟨d1, d2, d3⟩, e3, e4, e5, e6, e7, e8, e9, f1, f2, f3, f4⟩ := h
  refine ⟨⟨lv 0 0 (by omega) c1, lv 1 0 (by omega) c2, lv 1 1 (by omega) c3, lv 1 2 (by omega) c4, lv 2 0 (by omega) c5, lv 3 0 (by omega) c6, fun d hd => lv 4 d (by omega) (c7 d hd), lv 5 0 (by omega) c8, lv 40 0 (by omega) c9, lv 42 0 (by omega) c10, lv 44 0 (by omega) c11, fun i hi => c12 i (vl 0 i (by omega) hi)⟩, ⟨?_, ?_, ?_⟩, fun i hi => ?_, fun i hi => ?_, fun i hi => ?_, fun i hi => ?_, fun i hi => ?_, fun i hi => ?_, fun i hi => ?_, fun hi => ?_, fun hi => ?_, fun hi => ?_, fun i hi => ?_⟩
  · show y1.1 140 0 ≤ 8
    rw [m1 140 0 (by omega)]
    exact d1
  · show y1.1 142 0 ≤ 4
    rw [show y1.1 142 0 = y.1 142 0 + 1 from v1]
    have : n = y.1 142 0 := hn
    omega
  · show y1.1 144 0 ≤ 8
    rw [m1 144 0 (by omega)]
    exact d3
  · replace hi : i < y1.1 140 0 := hi
    rw [m1 140 0 (by omega)] at hi
    obtain ⟨g1, g2⟩ := e3 i hi
    refine ⟨lv 6 i (by omega) g1, ?_⟩
    rw [m2 340 _ (by omega), m2 6 i (by omega)]
    exact g2
  · have h0 := vl 6 i (by omega) hi
    obtain ⟨⟨g1, g2, g3, g4, g5⟩, g6, g7, g8⟩ := e4 i h0
    refine ⟨⟨lv 1 (3 + i) (by omega) g1, lv 7 i (by omega) g2, lv 8 i (by omega) g3, lv 46 i (by omega) g4, lv 47 i (by omega) g5⟩, ?_, g7, fun d hd => ?_⟩
    · rw [m1 146 i (by omega)]
      exact g6
    · rw [m2 346 _ (by omega), m1 15 _ (by omega), m2 15 _ (by omega)]
      exact g8 d hd
  · exact lv 16 i (by omega) (e5 i (vl 15 i (by omega) hi))
  · replace hi : i < y1.1 142 0 := hi
    have hn9 : n = y.1 142 0 := hn
    rw [show y1.1 142 0 = y.1 142 0 + 1 from v1] at hi
    by_cases hin : i = n
    · subst hin
      refine ⟨lv 9 i (by omega) hl, ?_⟩
      rw [hn9] at u1 ⊢
      rw [m2 9 _ (by omega)]
      exact u1
    · obtain ⟨g1, g2⟩ := e6 i (show i < y.1 142 0 by omega)
      refine ⟨lv 9 i (by omega) g1, ?_⟩
      rw [m2 342 _ (by omega), m2 9 i (by omega)]
      exact g2
  · have h0 := vl 9 i (by omega) hi
    obtain ⟨⟨g1, g2⟩, g3, g4, g5⟩ := e7 i h0
    have hp : nP y1 i = nP y i := m1 148 i (by omega)
    refine ⟨⟨lv 1 (11 + i) (by omega) g1, lv 48 i (by omega) g2⟩, by rw [hp]; exact g3, g4, fun p hp9 => ?_⟩
    rw [hp] at hp9
    obtain ⟨k1, k2⟩ := g5 p hp9
    refine ⟨lv 10 (5 * i + p) (by omega) k1, ?_⟩
    rw [m2 348 _ (by omega), m2 10 _ (by omega)]
    exact k2
  · replace hi : i < y1.1 144 0 := hi
    rw [m1 144 0 (by omega)] at hi
    obtain ⟨g1, g2⟩ := e8 i hi
    refine ⟨lv 11 i (by omega) g1, ?_⟩
    rw [m2 344 _ (by omega), m2 11 i (by omega)]
    exact g2
  · have h0 := vl 11 i (by omega) hi
    obtain ⟨⟨g1, g2⟩, g3⟩ := e9 i h0
    exact ⟨⟨lv 12 i (by omega) g1, lv 13 i (by omega) g2⟩, g3⟩
  · replace hi : 0 < y1.1 140 0 := hi
    rw [m1 140 0 (by omega)] at hi
    exact lv 41 0 (by omega) (f1 hi)
  · exact ⟨v0, by decide⟩
  · replace hi : 0 < y1.1 144 0 := hi
    rw [m1 144 0 (by omega)] at hi
    exact lv 45 0 (by omega) (f3 hi)
  · replace hi : 0 < y1.1 148 i := hi
    rw [m1 148 i (by omega)] at hi
    exact lv 49 i (by omega) (f4 i hi)
theorem WFc.mkL {κ : Kx} {y : Ly} {n q a1 a2 : Nat} (h : WFc κ y) (hn : n = nL y) (h8 : n < 9) : WFc κ (yMkL y n q a1 a2) := by
  have m1 : ∀ a b, ¬ ((a = 11 ∧ b = n) ∨ (a = 12 ∧ b = n) ∨ (a = 13 ∧ b = n) ∨ (a = 14 ∧ b = n)) → (yMkL y n q a1 a2).1 a b = y.1 a b := fun a b h => yMkL_1 h
  have m2 : ∀ a b, ¬ ((a = 11 ∧ b = n) ∨ (a = 12 ∧ b = n) ∨ (a = 13 ∧ b = n)) → (yMkL y n q a1 a2).2 a b = y.2 a b := fun a b h => yMkL_2 h
  have fv0 : (yMkL y n q a1 a2).1 11 (n) = _ := yMkL_f0
  have fv1 : (yMkL y n q a1 a2).1 12 (n) = _ := yMkL_f1
  have fv2 : (yMkL y n q a1 a2).1 13 (n) = _ := yMkL_f2
  have fv3 : (yMkL y n q a1 a2).1 14 (n) = _ := yMkL_f3
  have ua0 : (yMkL y n q a1 a2).2 11 (n) = _ := yMkL_a0
  have ua1 : (yMkL y n q a1 a2).2 12 (n) = _ := yMkL_a1
  have ua2 : (yMkL y n q a1 a2).2 13 (n) = _ := yMkL_a2
  generalize yMkL y n q a1 a2 = y1 at *
  have lv : ∀ a b, ¬ ((a = 11 ∧ b = n) ∨ (a = 12 ∧ b = n) ∨ (a = 13 ∧ b = n) ∨ (a = 14 ∧ b = n)) → live y a b → live y1 a b := fun a b hd hl => ⟨by rw [m1 a b hd]; exact hl.1, hl.2⟩
  have vl : ∀ a b, ¬ ((a = 11 ∧ b = n) ∨ (a = 12 ∧ b = n) ∨ (a = 13 ∧ b = n) ∨ (a = 14 ∧ b = n)) → live y1 a b → live y a b := fun a b hd hl => ⟨by rw [← m1 a b hd]; exact hl.1, hl.2⟩
  obtain ⟨⟨c1, c2, c3, c4, c5, c6, c7, c8, c9, c10, c11, c12⟩, ⟨d1, d2, d3⟩, e3, e4, e5, e6, e7, e8, e9, f1, f2, f3, f4⟩ := h
  refine ⟨⟨lv 0 0 (by omega) c1, lv 1 0 (by omega) c2, lv 1 1 (by omega) c3, lv 1 2 (by omega) c4, lv 2 0 (by omega) c5, lv 3 0 (by omega) c6, fun d hd => lv 4 d (by omega) (c7 d hd), lv 5 0 (by omega) c8, lv 40 0 (by omega) c9, lv 42 0 (by omega) c10, lv 44 0 (by omega) c11, fun i hi => c12 i (vl 0 i (by omega) hi)⟩, ⟨?_, ?_, ?_⟩, fun i hi => ?_, fun i hi => ?_, fun i hi => ?_, fun i hi => ?_, fun i hi => ?_, fun i hi => ?_, fun i hi => ?_, fun hi => ?_, fun hi => ?_, fun hi => ?_, fun i hi => ?_⟩
  · show y1.1 140 0 ≤ 8
    rw [m1 140 0 (by omega)]
    exact d1
  · show y1.1 142 0 ≤ 4
    rw [m1 142 0 (by omega)]
    exact d2
  · show y1.1 144 0 ≤ 8
    rw [m1 144 0 (by omega)]
    exact d3
  · replace hi : i < y1.1 140 0 := hi
    rw [m1 140 0 (by omega)] at hi
    obtain ⟨g1, g2⟩ := e3 i hi
    refine ⟨lv 6 i (by omega) g1, ?_⟩
    rw [m2 340 _ (by omega), m2 6 i (by omega)]
    exact g2
  · have h0 := vl 6 i (by omega) hi
    obtain ⟨⟨g1, g2, g3, g4, g5⟩, g6, g7, g8⟩ := e4 i h0
    refine ⟨⟨lv 1 (3 + i) (by omega) g1, lv 7 i (by omega) g2, lv 8 i (by omega) g3, lv 46 i (by omega) g4, lv 47 i (by omega) g5⟩, ?_, g7, fun d hd => ?_⟩
    · rw [m1 146 i (by omega)]
      exact g6
    · rw [m2 346 _ (by omega), m1 15 _ (by omega), m2 15 _ (by omega)]
      exact g8 d hd
  · exact lv 16 i (by omega) (e5 i (vl 15 i (by omega) hi))
  · replace hi : i < y1.1 142 0 := hi
    rw [m1 142 0 (by omega)] at hi
    obtain ⟨g1, g2⟩ := e6 i hi
    refine ⟨lv 9 i (by omega) g1, ?_⟩
    rw [m2 342 _ (by omega), m2 9 i (by omega)]
    exact g2
  · have h0 := vl 9 i (by omega) hi
    obtain ⟨⟨g1, g2⟩, g3, g4, g5⟩ := e7 i h0
    have hp : nP y1 i = nP y i := m1 148 i (by omega)
    refine ⟨⟨lv 1 (11 + i) (by omega) g1, lv 48 i (by omega) g2⟩, by rw [hp]; exact g3, g4, fun p hp9 => ?_⟩
    rw [hp] at hp9
    obtain ⟨k1, k2⟩ := g5 p hp9
    refine ⟨lv 10 (5 * i + p) (by omega) k1, ?_⟩
    rw [m2 348 _ (by omega), m2 10 _ (by omega)]
    exact k2
  · replace hi : i < y1.1 144 0 := hi
    rw [m1 144 0 (by omega)] at hi
    replace hn : n = y.1 144 0 := hn
    obtain ⟨g1, g2⟩ := e8 i hi
    refine ⟨lv 11 i (by omega) g1, ?_⟩
    rw [m2 344 _ (by omega), m2 11 i (by omega)]
    exact g2
  · by_cases hin : i = n
    · subst hin
      exact ⟨⟨⟨fv1, by decide⟩, ⟨fv2, by decide⟩⟩, h8⟩
    · have h0 := vl 11 i (by omega) hi
      obtain ⟨⟨g1, g2⟩, g3⟩ := e9 i h0
      exact ⟨⟨lv 12 i (by omega) g1, lv 13 i (by omega) g2⟩, g3⟩
  · replace hi : 0 < y1.1 140 0 := hi
    rw [m1 140 0 (by omega)] at hi
    exact lv 41 0 (by omega) (f1 hi)
  · replace hi : 0 < y1.1 142 0 := hi
    rw [m1 142 0 (by omega)] at hi
    exact lv 43 0 (by omega) (f2 hi)
  · replace hi : 0 < y1.1 144 0 := hi
    rw [m1 144 0 (by omega)] at hi
    exact lv 45 0 (by omega) (f3 hi)
  · replace hi : 0 < y1.1 148 i := hi
    rw [m1 148 i (by omega)] at hi
    exact lv 49 i (by omega) (f4 i hi)
theorem WFc.addL {κ : Kx} {y y1 : Ly} {n : Nat} (h : WFc κ y) (hY : YAdd y 44 0 (y.2 11 n) y1) (hn : n = nL y) (h8 : n < 8) (hl : live y 11 n) : WFc κ y1 := by
  unfold YAdd at hY
  simp only [Nat.reduceAdd] at hY
  obtain ⟨⟨v0, v1, v2, u1⟩, m1, m2⟩ := hY
  replace m1 : ∀ a b, ¬ ((a = 45 ∧ b = 0) ∨ (a = 144 ∧ b = 0) ∨ (a = 244 ∧ b = 0)) → y1.1 a b = y.1 a b := fun a b h => m1 a b (by omega) (by omega) (by omega)
  replace m2 : ∀ a b, ¬ ((a = 45 ∧ b = 0) ∨ (a = 344 ∧ b = 16 * 0 + y.1 144 0)) → y1.2 a b = y.2 a b := fun a b h => m2 a b (by omega) (by omega)
  have lv : ∀ a b, ¬ ((a = 45 ∧ b = 0) ∨ (a = 144 ∧ b = 0) ∨ (a = 244 ∧ b = 0)) → live y a b → live y1 a b := fun a b hd hl => ⟨by rw [m1 a b hd]; exact hl.1, hl.2⟩
  have vl : ∀ a b, ¬ ((a = 45 ∧ b = 0) ∨ (a = 144 ∧ b = 0) ∨ (a = 244 ∧ b = 0)) → live y1 a b → live y a b := fun a b hd hl => ⟨by rw [← m1 a b hd]; exact hl.1, hl.2⟩
  obtain ⟨⟨c1, c2, c3, c4, c5, c6, c7, c8, c9, c10, c11, c12⟩, ⟨d1, d2, d3⟩, e3, e4, e5, e6, e7, e8, e9, f1, f2, f3, f4⟩ := h
  refine ⟨⟨lv 0 0 (by omega) c1, lv 1 0 (by omega) c2, lv 1 1 (by omega) c3, lv 1 2 (by omega) c4, lv 2 0 (by omega) c5, lv 3 0 (by omega) c6, fun d hd => lv 4 d (by omega) (c7 d hd), lv 5 0 (by omega) c8, lv 40 0 (by omega) c9, lv 42 0 (by omega) c10, lv 44 0 (by omega) c11, fun i hi => c12 i (vl 0 i (by omega) hi)⟩, ⟨?_, ?_, ?_⟩, fun i hi => ?_, fun i hi => ?_, fun i hi => ?_, fun i hi => ?_, fun i hi => ?_, fun i hi => ?_, fun i hi => ?_, fun hi => ?_, fun hi => ?_, fun hi => ?_, fun i hi => ?_⟩
  · show y1.1 140 0 ≤ 8
    rw [m1 140 0 (by omega)]
    exact d1
  · show y1.1 142 0 ≤ 4
    rw [m1 142 0 (by omega)]
    exact d2
  · show y1.1 144 0 ≤ 8
    rw [show y1.1 144 0 = y.1 144 0 + 1 from v1]
    have : n = y.1 144 0 := hn
    omega
  · replace hi : i < y1.1 140 0 := hi
    rw [m1 140 0 (by omega)] at hi
    obtain ⟨g1, g2⟩ := e3 i hi
    refine ⟨lv 6 i (by omega) g1, ?_⟩
    rw [m2 340 _ (by omega), m2 6 i (by omega)]
    exact g2
  · have h0 := vl 6 i (by omega) hi
    obtain ⟨⟨g1, g2, g3, g4, g5⟩, g6, g7, g8⟩ := e4 i h0
    refine ⟨⟨lv 1 (3 + i) (by omega) g1, lv 7 i (by omega) g2, lv 8 i (by omega) g3, lv 46 i (by omega) g4, lv 47 i (by omega) g5⟩, ?_, g7, fun d hd => ?_⟩
    · rw [m1 146 i (by omega)]
      exact g6
    · rw [m2 346 _ (by omega), m1 15 _ (by omega), m2 15 _ (by omega)]
      exact g8 d hd
  · exact lv 16 i (by omega) (e5 i (vl 15 i (by omega) hi))
  · replace hi : i < y1.1 142 0 := hi
    rw [m1 142 0 (by omega)] at hi
    obtain ⟨g1, g2⟩ := e6 i hi
    refine ⟨lv 9 i (by omega) g1, ?_⟩
    rw [m2 342 _ (by omega), m2 9 i (by omega)]
    exact g2
  · have h0 := vl 9 i (by omega) hi
    obtain ⟨⟨g1, g2⟩, g3, g4, g5⟩ := e7 i h0
    have hp : nP y1 i = nP y i := m1 148 i (by omega)
    refine ⟨⟨lv 1 (11 + i) (by omega) g1, lv 48 i (by omega) g2⟩, by rw [hp]; exact g3, g4, fun p hp9 => ?_⟩
    rw [hp] at hp9
    obtain ⟨k1, k2⟩ := g5 p hp9
    refine ⟨lv 10 (5 * i + p) (by omega) k1, ?_⟩
    rw [m2 348 _ (by omega), m2 10 _ (by omega)]
    exact k2
  · replace hi : i < y1.1 144 0 := hi
    have hn9 : n = y.1 144 0 := hn
    rw [show y1.1 144 0 = y.1 144 0 + 1 from v1] at hi
    by_cases hin : i = n
    · subst hin
      refine ⟨lv 11 i (by omega) hl, ?_⟩
      rw [hn9] at u1 ⊢
      rw [m2 11 _ (by omega)]
      exact u1
    · obtain ⟨g1, g2⟩ := e8 i (show i < y.1 144 0 by omega)
      refine ⟨lv 11 i (by omega) g1, ?_⟩
      rw [m2 344 _ (by omega), m2 11 i (by omega)]
      exact g2
  · have h0 := vl 11 i (by omega) hi
    obtain ⟨⟨g1, g2⟩, g3⟩ := e9 i h0
    exact ⟨⟨lv 12 i (by omega) g1, lv 13 i (by omega) g2⟩, g3⟩
  · replace hi : 0 < y1.1 140 0 := hi
    rw [m1 140 0 (by omega)] at hi
    exact lv 41 0 (by omega) (f1 hi)
  · replace hi : 0 < y1.1 142 0 := hi
    rw [m1 142 0 (by omega)] at hi
    exact lv 43 0 (by omega) (f2 hi)
  · exact ⟨v0, by decide⟩
  · replace hi : 0 < y1.1 148 i := hi
    rw [m1 148 i (by omega)] at hi
    exact lv 49 i (by omega) (f4 i hi)
theorem WFc.mkP {κ : Kx} {y : Ly} {n q  : Nat} (h : WFc κ y) {j : Nat} (hn : n = 5 * j + nP y j) (h5 : nP y j < 5) : WFc κ (yMkP y n q ) := by
  have m1 : ∀ a b, ¬ ((a = 10 ∧ b = n)) → (yMkP y n q ).1 a b = y.1 a b := fun a b h => yMkP_1 h
  have m2 : ∀ a b, ¬ ((a = 10 ∧ b = n)) → (yMkP y n q ).2 a b = y.2 a b := fun a b h => yMkP_2 h
  have fv0 : (yMkP y n q ).1 10 (n) = _ := yMkP_f0
  have ua0 : (yMkP y n q ).2 10 (n) = _ := yMkP_a0
  generalize yMkP y n q  = y1 at *
  have lv : ∀ a b, ¬ ((a = 10 ∧ b = n)) → live y a b → live y1 a b := fun a b hd hl => ⟨by rw [m1 a b hd]; exact hl.1, hl.2⟩
  have vl : ∀ a b, ¬ ((a = 10 ∧ b = n)) → live y1 a b → live y a b := fun a b hd hl => ⟨by rw [← m1 a b hd]; exact hl.1, hl.2⟩
  obtain ⟨⟨c1, c2, c3, c4, c5, c6, c7, c8, c9, c10, c11, c12⟩, ⟨d1, d2, d3⟩, e3, e4, e5, e6, e7, e8, e9, f1, f2, f3, f4⟩ := h
  refine ⟨⟨lv 0 0 (by omega) c1, lv 1 0 (by omega) c2, lv 1 1 (by omega) c3, lv 1 2 (by omega) c4, lv 2 0 (by omega) c5, lv 3 0 (by omega) c6, fun d hd => lv 4 d (by omega) (c7 d hd), lv 5 0 (by omega) c8, lv 40 0 (by omega) c9, lv 42 0 (by omega) c10, lv 44 0 (by omega) c11, fun i hi => c12 i (vl 0 i (by omega) hi)⟩, ⟨?_, ?_, ?_⟩, fun i hi => ?_, fun i hi => ?_, fun i hi => ?_, fun i hi => ?_, fun i hi => ?_, fun i hi => ?_, fun i hi => ?_, fun hi => ?_, fun hi => ?_, fun hi => ?_, fun i hi => ?_⟩
  · show y1.1 140 0 ≤ 8
    rw [m1 140 0 (by omega)]
    exact d1
  · show y1.1 142 0 ≤ 4
    rw [m1 142 0 (by omega)]
    exact d2
  · show y1.1 144 0 ≤ 8
    rw [m1 144 0 (by omega)]
    exact d3
  · replace hi : i < y1.1 140 0 := hi
    rw [m1 140 0 (by omega)] at hi
    obtain ⟨g1, g2⟩ := e3 i hi
    refine ⟨lv 6 i (by omega) g1, ?_⟩
    rw [m2 340 _ (by omega), m2 6 i (by omega)]
    exact g2
  · have h0 := vl 6 i (by omega) hi
    obtain ⟨⟨g1, g2, g3, g4, g5⟩, g6, g7, g8⟩ := e4 i h0
    refine ⟨⟨lv 1 (3 + i) (by omega) g1, lv 7 i (by omega) g2, lv 8 i (by omega) g3, lv 46 i (by omega) g4, lv 47 i (by omega) g5⟩, ?_, g7, fun d hd => ?_⟩
    · rw [m1 146 i (by omega)]
      exact g6
    · rw [m2 346 _ (by omega), m1 15 _ (by omega), m2 15 _ (by omega)]
      exact g8 d hd
  · exact lv 16 i (by omega) (e5 i (vl 15 i (by omega) hi))
  · replace hi : i < y1.1 142 0 := hi
    rw [m1 142 0 (by omega)] at hi
    obtain ⟨g1, g2⟩ := e6 i hi
    refine ⟨lv 9 i (by omega) g1, ?_⟩
    rw [m2 342 _ (by omega), m2 9 i (by omega)]
    exact g2
  · have h0 := vl 9 i (by omega) hi
    obtain ⟨⟨g1, g2⟩, g3, g4, g5⟩ := e7 i h0
    have hp : nP y1 i = nP y i := m1 148 i (by omega)
    refine ⟨⟨lv 1 (11 + i) (by omega) g1, lv 48 i (by omega) g2⟩, by rw [hp]; exact g3, g4, fun p hp9 => ?_⟩
    rw [hp] at hp9
    obtain ⟨k1, k2⟩ := g5 p hp9
    have hne : 5 * i + p ≠ n := fun e => by
      by_cases hij : i = j
      · subst hij; omega
      · have : p < 5 := Nat.lt_of_lt_of_le hp9 g3
        omega
    refine ⟨lv 10 (5 * i + p) (by omega) k1, ?_⟩
    rw [m2 348 _ (by omega), m2 10 _ (by omega)]
    exact k2
  · replace hi : i < y1.1 144 0 := hi
    rw [m1 144 0 (by omega)] at hi
    obtain ⟨g1, g2⟩ := e8 i hi
    refine ⟨lv 11 i (by omega) g1, ?_⟩
    rw [m2 344 _ (by omega), m2 11 i (by omega)]
    exact g2
  · have h0 := vl 11 i (by omega) hi
    obtain ⟨⟨g1, g2⟩, g3⟩ := e9 i h0
    exact ⟨⟨lv 12 i (by omega) g1, lv 13 i (by omega) g2⟩, g3⟩
  · replace hi : 0 < y1.1 140 0 := hi
    rw [m1 140 0 (by omega)] at hi
    exact lv 41 0 (by omega) (f1 hi)
  · replace hi : 0 < y1.1 142 0 := hi
    rw [m1 142 0 (by omega)] at hi
    exact lv 43 0 (by omega) (f2 hi)
  · replace hi : 0 < y1.1 144 0 := hi
    rw [m1 144 0 (by omega)] at hi
    exact lv 45 0 (by omega) (f3 hi)
  · replace hi : 0 < y1.1 148 i := hi
    rw [m1 148 i (by omega)] at hi
    exact lv 49 i (by omega) (f4 i hi)
theorem WFc.addP {κ : Kx} {y y1 : Ly} {n j : Nat} (h : WFc κ y) (hY : YAdd y 48 j (y.2 10 n) y1) (hn : n = 5 * j + nP y j) (h5 : nP y j < 5) (hl : live y 10 n) : WFc κ y1 := by
  unfold YAdd at hY
  simp only [Nat.reduceAdd] at hY
  obtain ⟨⟨v0, v1, v2, u1⟩, m1, m2⟩ := hY
  replace m1 : ∀ a b, ¬ ((a = 49 ∧ b = j) ∨ (a = 148 ∧ b = j) ∨ (a = 248 ∧ b = j)) → y1.1 a b = y.1 a b := fun a b h => m1 a b (by omega) (by omega) (by omega)
  replace m2 : ∀ a b, ¬ ((a = 49 ∧ b = j) ∨ (a = 348 ∧ b = 16 * j + y.1 148 j)) → y1.2 a b = y.2 a b := fun a b h => m2 a b (by omega) (by omega)
  have lv : ∀ a b, ¬ ((a = 49 ∧ b = j) ∨ (a = 148 ∧ b = j) ∨ (a = 248 ∧ b = j)) → live y a b → live y1 a b := fun a b hd hl => ⟨by rw [m1 a b hd]; exact hl.1, hl.2⟩
  have vl : ∀ a b, ¬ ((a = 49 ∧ b = j) ∨ (a = 148 ∧ b = j) ∨ (a = 248 ∧ b = j)) → live y1 a b → live y a b := fun a b hd hl => ⟨by rw [← m1 a b hd]; exact hl.1, hl.2⟩
  obtain ⟨⟨c1, c2, c3, c4, c5, c6, c7, c8, c9, c10, c11, c12⟩, ⟨d1, d2, d3⟩, e3, e4, e5, e6, e7, e8, e9, f1, f2, f3, f4⟩ := h
  refine ⟨⟨lv 0 0 (by omega) c1, lv 1 0 (by omega) c2, lv 1 1 (by omega) c3, lv 1 2 (by omega) c4, lv 2 0 (by omega) c5, lv 3 0 (by omega) c6, fun d hd => lv 4 d (by omega) (c7 d hd), lv 5 0 (by omega) c8, lv 40 0 (by omega) c9, lv 42 0 (by omega) c10, lv 44 0 (by omega) c11, fun i hi => c12 i (vl 0 i (by omega) hi)⟩, ⟨?_, ?_, ?_⟩, fun i hi => ?_, fun i hi => ?_, fun i hi => ?_, fun i hi => ?_, fun i hi => ?_, fun i hi => ?_, fun i hi => ?_, fun hi => ?_, fun hi => ?_, fun hi => ?_, fun i hi => ?_⟩
  · show y1.1 140 0 ≤ 8
    rw [m1 140 0 (by omega)]
    exact d1
  · show y1.1 142 0 ≤ 4
    rw [m1 142 0 (by omega)]
    exact d2
  · show y1.1 144 0 ≤ 8
    rw [m1 144 0 (by omega)]
    exact d3
  · replace hi : i < y1.1 140 0 := hi
    rw [m1 140 0 (by omega)] at hi
    obtain ⟨g1, g2⟩ := e3 i hi
    refine ⟨lv 6 i (by omega) g1, ?_⟩
    rw [m2 340 _ (by omega), m2 6 i (by omega)]
    exact g2
  · have h0 := vl 6 i (by omega) hi
    obtain ⟨⟨g1, g2, g3, g4, g5⟩, g6, g7, g8⟩ := e4 i h0
    refine ⟨⟨lv 1 (3 + i) (by omega) g1, lv 7 i (by omega) g2, lv 8 i (by omega) g3, lv 46 i (by omega) g4, lv 47 i (by omega) g5⟩, ?_, g7, fun d hd => ?_⟩
    · rw [m1 146 i (by omega)]
      exact g6
    · rw [m2 346 _ (by omega), m1 15 _ (by omega), m2 15 _ (by omega)]
      exact g8 d hd
  · exact lv 16 i (by omega) (e5 i (vl 15 i (by omega) hi))
  · replace hi : i < y1.1 142 0 := hi
    rw [m1 142 0 (by omega)] at hi
    obtain ⟨g1, g2⟩ := e6 i hi
    refine ⟨lv 9 i (by omega) g1, ?_⟩
    rw [m2 342 _ (by omega), m2 9 i (by omega)]
    exact g2
  · have h0 := vl 9 i (by omega) hi
    obtain ⟨⟨g1, g2⟩, g3, g4, g5⟩ := e7 i h0
    by_cases hij : i = j
    · subst hij
      have hp : nP y1 i = nP y i + 1 := v1
      refine ⟨⟨lv 1 (11 + i) (by omega) g1, lv 48 i (by omega) g2⟩, by omega, g4, fun p hp9 => ?_⟩
      rw [hp] at hp9
      by_cases hpp : p = nP y i
      · subst hpp
        rw [← hn]
        refine ⟨lv 10 n (by omega) hl, ?_⟩
        rw [m2 10 _ (by omega)]
        exact u1
      · obtain ⟨k1, k2⟩ := g5 p (by omega)
        refine ⟨lv 10 (5 * i + p) (by omega) k1, ?_⟩
        have hne : p ≠ y.1 148 i := hpp
        rw [m2 348 _ (by omega), m2 10 _ (by omega)]
        exact k2
    · have hp : nP y1 i = nP y i := m1 148 i (by omega)
      refine ⟨⟨lv 1 (11 + i) (by omega) g1, lv 48 i (by omega) g2⟩, by rw [hp]; exact g3, g4, fun p hp9 => ?_⟩
      rw [hp] at hp9
      obtain ⟨k1, k2⟩ := g5 p hp9
      have hp5 : p < 5 := Nat.lt_of_lt_of_le hp9 g3
      have h59 : y.1 148 j < 5 := h5
      refine ⟨lv 10 (5 * i + p) (by omega) k1, ?_⟩
      rw [m2 348 _ (by omega), m2 10 _ (by omega)]
      exact k2
  · replace hi : i < y1.1 144 0 := hi
    rw [m1 144 0 (by omega)] at hi
    obtain ⟨g1, g2⟩ := e8 i hi
    refine ⟨lv 11 i (by omega) g1, ?_⟩
    rw [m2 344 _ (by omega), m2 11 i (by omega)]
    exact g2
  · have h0 := vl 11 i (by omega) hi
    obtain ⟨⟨g1, g2⟩, g3⟩ := e9 i h0
    exact ⟨⟨lv 12 i (by omega) g1, lv 13 i (by omega) g2⟩, g3⟩
  · replace hi : 0 < y1.1 140 0 := hi
    rw [m1 140 0 (by omega)] at hi
    exact lv 41 0 (by omega) (f1 hi)
  · replace hi : 0 < y1.1 142 0 := hi
    rw [m1 142 0 (by omega)] at hi
    exact lv 43 0 (by omega) (f2 hi)
  · replace hi : 0 < y1.1 144 0 := hi
    rw [m1 144 0 (by omega)] at hi
    exact lv 45 0 (by omega) (f3 hi)
  · by_cases hij : i = j
    · subst hij
      exact ⟨v0, by decide⟩
    · replace hi : 0 < y1.1 148 i := hi
      rw [m1 148 i (by omega)] at hi
      exact lv 49 i (by omega) (f4 i hi)
theorem WFc.mkV {κ : Kx} {y : Ly} {n q a1 a3 a4 a5 u7 : Nat} (h : WFc κ y) (hn : n = nV y) (h8 : n < 8) : WFc κ (yMkV κ y n q a1 a3 a4 a5 u7) := by
  have m1 : ∀ a b, ¬ ((a = 6 ∧ b = n) ∨ (a = 1 ∧ b = 3 + n) ∨ (a = 7 ∧ b = n) ∨ (a = 8 ∧ b = n) ∨ (a = 46 ∧ b = n) ∨ (a = 47 ∧ b = n) ∨ (a = 15 ∧ b = 3 * n) ∨ (a = 15 ∧ b = 3 * n + 1) ∨ (a = 15 ∧ b = 3 * n + 2) ∨ (a = 146 ∧ b = n) ∨ (a = 246 ∧ b = n)) → (yMkV κ y n q a1 a3 a4 a5 u7).1 a b = y.1 a b := fun a b h => yMkV_1 h
  have m2 : ∀ a b, ¬ ((a = 6 ∧ b = n) ∨ (a = 1 ∧ b = 3 + n) ∨ (a = 7 ∧ b = n) ∨ (a = 8 ∧ b = n) ∨ (a = 46 ∧ b = n) ∨ (a = 47 ∧ b = n) ∨ (a = 346 ∧ b = 16 * n) ∨ (a = 346 ∧ b = 16 * n + 1) ∨ (a = 346 ∧ b = 16 * n + 2)) → (yMkV κ y n q a1 a3 a4 a5 u7).2 a b = y.2 a b := fun a b h => yMkV_2 h
  have fv0 : (yMkV κ y n q a1 a3 a4 a5 u7).1 6 (n) = _ := yMkV_f0
  have fv1 : (yMkV κ y n q a1 a3 a4 a5 u7).1 1 (3 + n) = _ := yMkV_f1
  have fv2 : (yMkV κ y n q a1 a3 a4 a5 u7).1 7 (n) = _ := yMkV_f2
  have fv3 : (yMkV κ y n q a1 a3 a4 a5 u7).1 8 (n) = _ := yMkV_f3
  have fv4 : (yMkV κ y n q a1 a3 a4 a5 u7).1 46 (n) = _ := yMkV_f4
  have fv5 : (yMkV κ y n q a1 a3 a4 a5 u7).1 47 (n) = _ := yMkV_f5
  have fv6 : (yMkV κ y n q a1 a3 a4 a5 u7).1 15 (3 * n) = _ := yMkV_f6
  have fv7 : (yMkV κ y n q a1 a3 a4 a5 u7).1 15 (3 * n + 1) = _ := yMkV_f7
  have fv8 : (yMkV κ y n q a1 a3 a4 a5 u7).1 15 (3 * n + 2) = _ := yMkV_f8
  have fv9 : (yMkV κ y n q a1 a3 a4 a5 u7).1 146 (n) = _ := yMkV_f9
  have fv10 : (yMkV κ y n q a1 a3 a4 a5 u7).1 246 (n) = _ := yMkV_f10
  have ua0 : (yMkV κ y n q a1 a3 a4 a5 u7).2 6 (n) = _ := yMkV_a0
  have ua1 : (yMkV κ y n q a1 a3 a4 a5 u7).2 1 (3 + n) = _ := yMkV_a1
  have ua2 : (yMkV κ y n q a1 a3 a4 a5 u7).2 7 (n) = _ := yMkV_a2
  have ua3 : (yMkV κ y n q a1 a3 a4 a5 u7).2 8 (n) = _ := yMkV_a3
  have ua4 : (yMkV κ y n q a1 a3 a4 a5 u7).2 46 (n) = _ := yMkV_a4
  have ua5 : (yMkV κ y n q a1 a3 a4 a5 u7).2 47 (n) = _ := yMkV_a5
  have ua6 : (yMkV κ y n q a1 a3 a4 a5 u7).2 346 (16 * n) = _ := yMkV_a6
  have ua7 : (yMkV κ y n q a1 a3 a4 a5 u7).2 346 (16 * n + 1) = _ := yMkV_a7
  have ua8 : (yMkV κ y n q a1 a3 a4 a5 u7).2 346 (16 * n + 2) = _ := yMkV_a8
  generalize yMkV κ y n q a1 a3 a4 a5 u7 = y1 at *
  have lv : ∀ a b, ¬ ((a = 6 ∧ b = n) ∨ (a = 1 ∧ b = 3 + n) ∨ (a = 7 ∧ b = n) ∨ (a = 8 ∧ b = n) ∨ (a = 46 ∧ b = n) ∨ (a = 47 ∧ b = n) ∨ (a = 15 ∧ b = 3 * n) ∨ (a = 15 ∧ b = 3 * n + 1) ∨ (a = 15 ∧ b = 3 * n + 2) ∨ (a = 146 ∧ b = n) ∨ (a = 246 ∧ b = n)) → live y a b → live y1 a b := fun a b hd hl => ⟨by rw [m1 a b hd]; exact hl.1, hl.2⟩
  have vl : ∀ a b, ¬ ((a = 6 ∧ b = n) ∨ (a = 1 ∧ b = 3 + n) ∨ (a = 7 ∧ b = n) ∨ (a = 8 ∧ b = n) ∨ (a = 46 ∧ b = n) ∨ (a = 47 ∧ b = n) ∨ (a = 15 ∧ b = 3 * n) ∨ (a = 15 ∧ b = 3 * n + 1) ∨ (a = 15 ∧ b = 3 * n + 2) ∨ (a = 146 ∧ b = n) ∨ (a = 246 ∧ b = n)) → live y1 a b → live y a b := fun a b hd hl => ⟨by rw [← m1 a b hd]; exact hl.1, hl.2⟩
  obtain ⟨⟨c1, c2, c3, c4, c5, c6, c7, c8, c9, c10, c11, c12⟩, ⟨d1, d2, d3⟩, e3, e4, e5, e6, e7, e8, e9, f1, f2, f3, f4⟩ := h
  refine ⟨⟨lv 0 0 (by omega) c1, lv 1 0 (by omega) c2, lv 1 1 (by omega) c3, lv 1 2 (by omega) c4, lv 2 0 (by omega) c5, lv 3 0 (by omega) c6, fun d hd => lv 4 d (by omega) (c7 d hd), lv 5 0 (by omega) c8, lv 40 0 (by omega) c9, lv 42 0 (by omega) c10, lv 44 0 (by omega) c11, fun i hi => c12 i (vl 0 i (by omega) hi)⟩, ⟨?_, ?_, ?_⟩, fun i hi => ?_, fun i hi => ?_, fun i hi => ?_, fun i hi => ?_, fun i hi => ?_, fun i hi => ?_, fun i hi => ?_, fun hi => ?_, fun hi => ?_, fun hi => ?_, fun i hi => ?_⟩
  · show y1.1 140 0 ≤ 8
    rw [m1 140 0 (by omega)]
    exact d1
  · show y1.1 142 0 ≤ 4
    rw [m1 142 0 (by omega)]
    exact d2
  · show y1.1 144 0 ≤ 8
    rw [m1 144 0 (by omega)]
    exact d3
  · replace hi : i < y1.1 140 0 := hi
    rw [m1 140 0 (by omega)] at hi
    replace hn : n = y.1 140 0 := hn
    obtain ⟨g1, g2⟩ := e3 i hi
    refine ⟨lv 6 i (by omega) g1, ?_⟩
    rw [m2 340 _ (by omega), m2 6 i (by omega)]
    exact g2
  · by_cases hin : i = n
    · subst hin
      refine ⟨⟨⟨fv1, by decide⟩, ⟨fv2, by decide⟩, ⟨fv3, by decide⟩, ⟨fv4, by decide⟩, ⟨fv5, by decide⟩⟩, fv9, h8, fun d hd => ?_⟩
      rcases (show d = 0 ∨ d = 1 ∨ d = 2 by omega) with rfl | rfl | rfl
      · rw [show y1.1 15 (3 * i + 0) = 0 from fv6, if_neg (by decide)]; exact ua6
      · rw [fv7, if_neg (by decide)]; exact ua7
      · rw [fv8, if_neg (by decide)]; exact ua8
    · have h0 := vl 6 i (by omega) hi
      have h89 := (e4 i h0).2.2.1
      obtain ⟨⟨g1, g2, g3, g4, g5⟩, g6, g7, g8⟩ := e4 i h0
      refine ⟨⟨lv 1 (3 + i) (by omega) g1, lv 7 i (by omega) g2, lv 8 i (by omega) g3, lv 46 i (by omega) g4, lv 47 i (by omega) g5⟩, ?_, g7, fun d hd => ?_⟩
      · rw [m1 146 i (by omega)]
        exact g6
      · rw [m2 346 _ (by omega), m1 15 _ (by omega), m2 15 _ (by omega)]
        exact g8 d hd
  · by_cases z0 : i = 3 * n
    · subst z0; have := hi.1; rw [fv6] at this; cases this
    · by_cases z1 : i = 3 * n + 1
      · subst z1; have := hi.1; rw [fv7] at this; cases this
      · by_cases z2 : i = 3 * n + 2
        · subst z2; have := hi.1; rw [fv8] at this; cases this
        · exact lv 16 i (by omega) (e5 i (vl 15 i (by omega) hi))
  · replace hi : i < y1.1 142 0 := hi
    rw [m1 142 0 (by omega)] at hi
    obtain ⟨g1, g2⟩ := e6 i hi
    refine ⟨lv 9 i (by omega) g1, ?_⟩
    rw [m2 342 _ (by omega), m2 9 i (by omega)]
    exact g2
  · have h0 := vl 9 i (by omega) hi
    obtain ⟨⟨g1, g2⟩, g3, g4, g5⟩ := e7 i h0
    have hp : nP y1 i = nP y i := m1 148 i (by omega)
    refine ⟨⟨lv 1 (11 + i) (by omega) g1, lv 48 i (by omega) g2⟩, by rw [hp]; exact g3, g4, fun p hp9 => ?_⟩
    rw [hp] at hp9
    obtain ⟨k1, k2⟩ := g5 p hp9
    refine ⟨lv 10 (5 * i + p) (by omega) k1, ?_⟩
    rw [m2 348 _ (by omega), m2 10 _ (by omega)]
    exact k2
  · replace hi : i < y1.1 144 0 := hi
    rw [m1 144 0 (by omega)] at hi
    obtain ⟨g1, g2⟩ := e8 i hi
    refine ⟨lv 11 i (by omega) g1, ?_⟩
    rw [m2 344 _ (by omega), m2 11 i (by omega)]
    exact g2
  · have h0 := vl 11 i (by omega) hi
    obtain ⟨⟨g1, g2⟩, g3⟩ := e9 i h0
    exact ⟨⟨lv 12 i (by omega) g1, lv 13 i (by omega) g2⟩, g3⟩
  · replace hi : 0 < y1.1 140 0 := hi
    rw [m1 140 0 (by omega)] at hi
    exact lv 41 0 (by omega) (f1 hi)
  · replace hi : 0 < y1.1 142 0 := hi
    rw [m1 142 0 (by omega)] at hi
    exact lv 43 0 (by omega) (f2 hi)
  · replace hi : 0 < y1.1 144 0 := hi
    rw [m1 144 0 (by omega)] at hi
    exact lv 45 0 (by omega) (f3 hi)
  · replace hi : 0 < y1.1 148 i := hi
    rw [m1 148 i (by omega)] at hi
    exact lv 49 i (by omega) (f4 i hi)
theorem WFc.addV {κ : Kx} {y y1 : Ly} {n : Nat} (h : WFc κ y) (hY : YAdd y 40 0 (y.2 6 n) y1) (hn : n = nV y) (h8 : n < 8) (hl : live y 6 n) : WFc κ y1 := by
  unfold YAdd at hY
  simp only [Nat.reduceAdd] at hY
  obtain ⟨⟨v0, v1, v2, u1⟩, m1, m2⟩ := hY
  replace m1 : ∀ a b, ¬ ((a = 41 ∧ b = 0) ∨ (a = 140 ∧ b = 0) ∨ (a = 240 ∧ b = 0)) → y1.1 a b = y.1 a b := fun a b h => m1 a b (by omega) (by omega) (by omega)
  replace m2 : ∀ a b, ¬ ((a = 41 ∧ b = 0) ∨ (a = 340 ∧ b = 16 * 0 + y.1 140 0)) → y1.2 a b = y.2 a b := fun a b h => m2 a b (by omega) (by omega)
  have lv : ∀ a b, ¬ ((a = 41 ∧ b = 0) ∨ (a = 140 ∧ b = 0) ∨ (a = 240 ∧ b = 0)) → live y a b → live y1 a b := fun a b hd hl => ⟨by rw [m1 a b hd]; exact hl.1, hl.2⟩
  have vl : ∀ a b, ¬ ((a = 41 ∧ b = 0) ∨ (a = 140 ∧ b = 0) ∨ (a = 240 ∧ b = 0)) → live y1 a b → live y a b := fun a b hd hl => ⟨by rw [← m1 a b hd]; exact hl.1, hl.2⟩
  obtain ⟨⟨c1, c2, c3, c4, c5, c6, c7, c8, c9, c10, c11, c12⟩, ⟨d1, d2, d3⟩, e3, e4, e5, e6, e7, e8, e9, f1, f2, f3, f4⟩ := h
  refine ⟨⟨lv 0 0 (by omega) c1, lv 1 0 (by omega) c2, lv 1 1 (by omega) c3, lv 1 2 (by omega) c4, lv 2 0 (by omega) c5, lv 3 0 (by omega) c6, fun d hd => lv 4 d (by omega) (c7 d hd), lv 5 0 (by omega) c8, lv 40 0 (by omega) c9, lv 42 0 (by omega) c10, lv 44 0 (by omega) c11, fun i hi => c12 i (vl 0 i (by omega) hi)⟩, ⟨?_, ?_, ?_⟩, fun i hi => ?_, fun i hi => ?_, fun i hi => ?_, fun i hi => ?_, fun i hi => ?_, fun i hi => ?_, fun i hi => ?_, fun hi => ?_, fun hi => ?_, fun hi => ?_, fun i hi => ?_⟩
  · show y1.1 140 0 ≤ 8
    rw [show y1.1 140 0 = y.1 140 0 + 1 from v1]
    have : n = y.1 140 0 := hn
    omega
  · show y1.1 142 0 ≤ 4
    rw [m1 142 0 (by omega)]
    exact d2
  · show y1.1 144 0 ≤ 8
    rw [m1 144 0 (by omega)]
    exact d3
  · replace hi : i < y1.1 140 0 := hi
    have hn9 : n = y.1 140 0 := hn
    rw [show y1.1 140 0 = y.1 140 0 + 1 from v1] at hi
    by_cases hin : i = n
    · subst hin
      refine ⟨lv 6 i (by omega) hl, ?_⟩
      rw [hn9] at u1 ⊢
      rw [m2 6 _ (by omega)]
      exact u1
    · obtain ⟨g1, g2⟩ := e3 i (show i < y.1 140 0 by omega)
      refine ⟨lv 6 i (by omega) g1, ?_⟩
      rw [m2 340 _ (by omega), m2 6 i (by omega)]
      exact g2
  · have h0 := vl 6 i (by omega) hi
    obtain ⟨⟨g1, g2, g3, g4, g5⟩, g6, g7, g8⟩ := e4 i h0
    refine ⟨⟨lv 1 (3 + i) (by omega) g1, lv 7 i (by omega) g2, lv 8 i (by omega) g3, lv 46 i (by omega) g4, lv 47 i (by omega) g5⟩, ?_, g7, fun d hd => ?_⟩
    · rw [m1 146 i (by omega)]
      exact g6
    · rw [m2 346 _ (by omega), m1 15 _ (by omega), m2 15 _ (by omega)]
      exact g8 d hd
  · exact lv 16 i (by omega) (e5 i (vl 15 i (by omega) hi))
  · replace hi : i < y1.1 142 0 := hi
    rw [m1 142 0 (by omega)] at hi
    obtain ⟨g1, g2⟩ := e6 i hi
    refine ⟨lv 9 i (by omega) g1, ?_⟩
    rw [m2 342 _ (by omega), m2 9 i (by omega)]
    exact g2
  · have h0 := vl 9 i (by omega) hi
    obtain ⟨⟨g1, g2⟩, g3, g4, g5⟩ := e7 i h0
    have hp : nP y1 i = nP y i := m1 148 i (by omega)
    refine ⟨⟨lv 1 (11 + i) (by omega) g1, lv 48 i (by omega) g2⟩, by rw [hp]; exact g3, g4, fun p hp9 => ?_⟩
    rw [hp] at hp9
    obtain ⟨k1, k2⟩ := g5 p hp9
    refine ⟨lv 10 (5 * i + p) (by omega) k1, ?_⟩
    rw [m2 348 _ (by omega), m2 10 _ (by omega)]
    exact k2
  · replace hi : i < y1.1 144 0 := hi
    rw [m1 144 0 (by omega)] at hi
    obtain ⟨g1, g2⟩ := e8 i hi
    refine ⟨lv 11 i (by omega) g1, ?_⟩
    rw [m2 344 _ (by omega), m2 11 i (by omega)]
    exact g2
  · have h0 := vl 11 i (by omega) hi
    obtain ⟨⟨g1, g2⟩, g3⟩ := e9 i h0
    exact ⟨⟨lv 12 i (by omega) g1, lv 13 i (by omega) g2⟩, g3⟩
  · exact ⟨v0, by decide⟩
  · replace hi : 0 < y1.1 142 0 := hi
    rw [m1 142 0 (by omega)] at hi
    exact lv 43 0 (by omega) (f2 hi)
  · replace hi : 0 < y1.1 144 0 := hi
    rw [m1 144 0 (by omega)] at hi
    exact lv 45 0 (by omega) (f3 hi)
  · replace hi : 0 < y1.1 148 i := hi
    rw [m1 148 i (by omega)] at hi
    exact lv 49 i (by omega) (f4 i hi)
theorem WFm.mkMV {κ : Kx} {y : Ly} {n q a1 a2 a3 : Nat} (h : WFm κ y) (hn : n = mV y) (h8 : n < 8) : WFm κ (yMkMV y n q a1 a2 a3) := by
  have m1 : ∀ a b, ¬ ((a = 21 ∧ b = n) ∨ (a = 22 ∧ b = n) ∨ (a = 23 ∧ b = n) ∨ (a = 24 ∧ b = n) ∨ (a = 25 ∧ b = 3 * n) ∨ (a = 25 ∧ b = 3 * n + 1) ∨ (a = 25 ∧ b = 3 * n + 2)) → (yMkMV y n q a1 a2 a3).1 a b = y.1 a b := fun a b h => yMkMV_1 h
  have m2 : ∀ a b, ¬ ((a = 21 ∧ b = n) ∨ (a = 22 ∧ b = n) ∨ (a = 23 ∧ b = n) ∨ (a = 24 ∧ b = n)) → (yMkMV y n q a1 a2 a3).2 a b = y.2 a b := fun a b h => yMkMV_2 h
  have fv0 : (yMkMV y n q a1 a2 a3).1 21 (n) = _ := yMkMV_f0
  have fv1 : (yMkMV y n q a1 a2 a3).1 22 (n) = _ := yMkMV_f1
  have fv2 : (yMkMV y n q a1 a2 a3).1 23 (n) = _ := yMkMV_f2
  have fv3 : (yMkMV y n q a1 a2 a3).1 24 (n) = _ := yMkMV_f3
  have fv4 : (yMkMV y n q a1 a2 a3).1 25 (3 * n) = _ := yMkMV_f4
  have fv5 : (yMkMV y n q a1 a2 a3).1 25 (3 * n + 1) = _ := yMkMV_f5
  have fv6 : (yMkMV y n q a1 a2 a3).1 25 (3 * n + 2) = _ := yMkMV_f6
  have ua0 : (yMkMV y n q a1 a2 a3).2 21 (n) = _ := yMkMV_a0
  have ua1 : (yMkMV y n q a1 a2 a3).2 22 (n) = _ := yMkMV_a1
  have ua2 : (yMkMV y n q a1 a2 a3).2 23 (n) = _ := yMkMV_a2
  have ua3 : (yMkMV y n q a1 a2 a3).2 24 (n) = _ := yMkMV_a3
  generalize yMkMV y n q a1 a2 a3 = y1 at *
  have lv : ∀ a b, ¬ ((a = 21 ∧ b = n) ∨ (a = 22 ∧ b = n) ∨ (a = 23 ∧ b = n) ∨ (a = 24 ∧ b = n) ∨ (a = 25 ∧ b = 3 * n) ∨ (a = 25 ∧ b = 3 * n + 1) ∨ (a = 25 ∧ b = 3 * n + 2)) → live y a b → live y1 a b := fun a b hd hl => ⟨by rw [m1 a b hd]; exact hl.1, hl.2⟩
  have vl : ∀ a b, ¬ ((a = 21 ∧ b = n) ∨ (a = 22 ∧ b = n) ∨ (a = 23 ∧ b = n) ∨ (a = 24 ∧ b = n) ∨ (a = 25 ∧ b = 3 * n) ∨ (a = 25 ∧ b = 3 * n + 1) ∨ (a = 25 ∧ b = 3 * n + 2)) → live y1 a b → live y a b := fun a b hd hl => ⟨by rw [← m1 a b hd]; exact hl.1, hl.2⟩
  have bx : ∀ a n0, True → bxO κ y a n0 → bxO κ y1 a n0 := fun a n0 _ hb => by
    unfold bxO at hb ⊢
    rw [m1 36 n0 (by omega), m1 137 n0 (by omega), m2 36 n0 (by omega)]
    exact hb
  obtain ⟨⟨c1, c2, c3, c4, c5, c6, c7, c8, c9, c10⟩, ⟨d1, d2, d3⟩, e3, e4, e6, e7, e8, e9, f1, f2, f3, f4, f5⟩ := h
  refine ⟨⟨lv 20 0 (by omega) c1, lv 50 0 (by omega) c2, lv 52 0 (by omega) c3, lv 54 0 (by omega) c4, lv 30 0 (by omega) c5, lv 31 0 (by omega) c6, lv 32 0 (by omega) c7, lv 33 0 (by omega) c8, lv 34 0 (by omega) c9, lv 35 0 (by omega) c10⟩, ⟨?_, ?_, ?_⟩, fun i hi => ?_, fun i hi => ?_, fun i hi => ?_, fun i hi => ?_, fun i hi => ?_, fun i hi => ?_, fun hi => ?_, fun hi => ?_, fun hi => ?_, fun i hi => ?_, fun i hi => ?_⟩
  · show y1.1 150 0 ≤ 8
    rw [m1 150 0 (by omega)]
    exact d1
  · show y1.1 152 0 ≤ 4
    rw [m1 152 0 (by omega)]
    exact d2
  · show y1.1 154 0 ≤ 8
    rw [m1 154 0 (by omega)]
    exact d3
  · replace hi : i < y1.1 150 0 := hi
    rw [m1 150 0 (by omega)] at hi
    replace hn : n = y.1 150 0 := hn
    obtain ⟨g1, g2⟩ := e3 i hi
    refine ⟨lv 21 i (by omega) g1, ?_⟩
    rw [m2 350 _ (by omega), m2 21 i (by omega)]
    exact g2
  · by_cases hin : i = n
    · subst hin
      exact ⟨⟨⟨fv1, by decide⟩, ⟨fv2, by decide⟩, ⟨fv3, by decide⟩⟩, h8⟩
    · have h0 := vl 21 i (by omega) hi
      obtain ⟨⟨g1, g2, g3⟩, g4⟩ := e4 i h0
      exact ⟨⟨lv 22 i (by omega) g1, lv 23 i (by omega) g2, lv 24 i (by omega) g3⟩, g4⟩
  · replace hi : i < y1.1 152 0 := hi
    rw [m1 152 0 (by omega)] at hi
    obtain ⟨g1, g2⟩ := e6 i hi
    refine ⟨lv 26 i (by omega) g1, ?_⟩
    rw [m2 352 _ (by omega), m2 26 i (by omega)]
    exact g2
  · have h0 := vl 26 i (by omega) hi
    obtain ⟨⟨g1, g2⟩, g3, g4, g5, g6, g7⟩ := e7 i h0
    have hs : mS y1 i = mS y i := m1 156 i (by omega)
    have ht : mT y1 i = mT y i := m1 158 i (by omega)
    refine ⟨⟨lv 56 i (by omega) g1, lv 58 i (by omega) g2⟩, by rw [hs]; exact g3, by rw [hs, ht]; exact g4, g5, fun t ht9 => ?_, fun t ht9 => ?_⟩
    · rw [hs] at ht9
      rw [m2 356 _ (by omega)]
      exact bx _ _ trivial (g6 t ht9)
    · rw [ht] at ht9
      rw [m2 358 _ (by omega)]
      exact bx _ _ trivial (g7 t ht9)
  · replace hi : i < y1.1 154 0 := hi
    rw [m1 154 0 (by omega)] at hi
    obtain ⟨g1, g2⟩ := e8 i hi
    refine ⟨lv 27 i (by omega) g1, ?_⟩
    rw [m2 354 _ (by omega), m2 27 i (by omega)]
    exact g2
  · have h0 := vl 27 i (by omega) hi
    obtain ⟨⟨g1, g2⟩, g3⟩ := e9 i h0
    exact ⟨⟨lv 28 i (by omega) g1, lv 29 i (by omega) g2⟩, g3⟩
  · replace hi : 0 < y1.1 150 0 := hi
    rw [m1 150 0 (by omega)] at hi
    exact lv 51 0 (by omega) (f1 hi)
  · replace hi : 0 < y1.1 152 0 := hi
    rw [m1 152 0 (by omega)] at hi
    exact lv 53 0 (by omega) (f2 hi)
  · replace hi : 0 < y1.1 154 0 := hi
    rw [m1 154 0 (by omega)] at hi
    exact lv 55 0 (by omega) (f3 hi)
  · replace hi : 0 < y1.1 156 i := hi
    rw [m1 156 i (by omega)] at hi
    exact lv 57 i (by omega) (f4 i hi)
  · replace hi : 0 < y1.1 158 i := hi
    rw [m1 158 i (by omega)] at hi
    exact lv 59 i (by omega) (f5 i hi)
theorem WFm.mkML {κ : Kx} {y : Ly} {n q a1 a2 : Nat} (h : WFm κ y) (hn : n = mL y) (h8 : n < 8) : WFm κ (yMkML y n q a1 a2) := by
  have m1 : ∀ a b, ¬ ((a = 27 ∧ b = n) ∨ (a = 28 ∧ b = n) ∨ (a = 29 ∧ b = n)) → (yMkML y n q a1 a2).1 a b = y.1 a b := fun a b h => yMkML_1 h
  have m2 : ∀ a b, ¬ ((a = 27 ∧ b = n) ∨ (a = 28 ∧ b = n) ∨ (a = 29 ∧ b = n)) → (yMkML y n q a1 a2).2 a b = y.2 a b := fun a b h => yMkML_2 h
  have fv0 : (yMkML y n q a1 a2).1 27 (n) = _ := yMkML_f0
  have fv1 : (yMkML y n q a1 a2).1 28 (n) = _ := yMkML_f1
  have fv2 : (yMkML y n q a1 a2).1 29 (n) = _ := yMkML_f2
  have ua0 : (yMkML y n q a1 a2).2 27 (n) = _ := yMkML_a0
  have ua1 : (yMkML y n q a1 a2).2 28 (n) = _ := yMkML_a1
  have ua2 : (yMkML y n q a1 a2).2 29 (n) = _ := yMkML_a2
  generalize yMkML y n q a1 a2 = y1 at *
  have lv : ∀ a b, ¬ ((a = 27 ∧ b = n) ∨ (a = 28 ∧ b = n) ∨ (a = 29 ∧ b = n)) → live y a b → live y1 a b := fun a b hd hl => ⟨by rw [m1 a b hd]; exact hl.1, hl.2⟩
  have vl : ∀ a b, ¬ ((a = 27 ∧ b = n) ∨ (a = 28 ∧ b = n) ∨ (a = 29 ∧ b = n)) → live y1 a b → live y a b := fun a b hd hl => ⟨by rw [← m1 a b hd]; exact hl.1, hl.2⟩
  have bx : ∀ a n0, True → bxO κ y a n0 → bxO κ y1 a n0 := fun a n0 _ hb => by
    unfold bxO at hb ⊢
    rw [m1 36 n0 (by omega), m1 137 n0 (by omega), m2 36 n0 (by omega)]
    exact hb
  obtain ⟨⟨c1, c2, c3, c4, c5, c6, c7, c8, c9, c10⟩, ⟨d1, d2, d3⟩, e3, e4, e6, e7, e8, e9, f1, f2, f3, f4, f5⟩ := h
  refine ⟨⟨lv 20 0 (by omega) c1, lv 50 0 (by omega) c2, lv 52 0 (by omega) c3, lv 54 0 (by omega) c4, lv 30 0 (by omega) c5, lv 31 0 (by omega) c6, lv 32 0 (by omega) c7, lv 33 0 (by omega) c8, lv 34 0 (by omega) c9, lv 35 0 (by omega) c10⟩, ⟨?_, ?_, ?_⟩, fun i hi => ?_, fun i hi => ?_, fun i hi => ?_, fun i hi => ?_, fun i hi => ?_, fun i hi => ?_, fun hi => ?_, fun hi => ?_, fun hi => ?_, fun i hi => ?_, fun i hi => ?_⟩
  · show y1.1 150 0 ≤ 8
    rw [m1 150 0 (by omega)]
    exact d1
  · show y1.1 152 0 ≤ 4
    rw [m1 152 0 (by omega)]
    exact d2
  · show y1.1 154 0 ≤ 8
    rw [m1 154 0 (by omega)]
    exact d3
  · replace hi : i < y1.1 150 0 := hi
    rw [m1 150 0 (by omega)] at hi
    obtain ⟨g1, g2⟩ := e3 i hi
    refine ⟨lv 21 i (by omega) g1, ?_⟩
    rw [m2 350 _ (by omega), m2 21 i (by omega)]
    exact g2
  · have h0 := vl 21 i (by omega) hi
    obtain ⟨⟨g1, g2, g3⟩, g4⟩ := e4 i h0
    exact ⟨⟨lv 22 i (by omega) g1, lv 23 i (by omega) g2, lv 24 i (by omega) g3⟩, g4⟩
  · replace hi : i < y1.1 152 0 := hi
    rw [m1 152 0 (by omega)] at hi
    obtain ⟨g1, g2⟩ := e6 i hi
    refine ⟨lv 26 i (by omega) g1, ?_⟩
    rw [m2 352 _ (by omega), m2 26 i (by omega)]
    exact g2
  · have h0 := vl 26 i (by omega) hi
    obtain ⟨⟨g1, g2⟩, g3, g4, g5, g6, g7⟩ := e7 i h0
    have hs : mS y1 i = mS y i := m1 156 i (by omega)
    have ht : mT y1 i = mT y i := m1 158 i (by omega)
    refine ⟨⟨lv 56 i (by omega) g1, lv 58 i (by omega) g2⟩, by rw [hs]; exact g3, by rw [hs, ht]; exact g4, g5, fun t ht9 => ?_, fun t ht9 => ?_⟩
    · rw [hs] at ht9
      rw [m2 356 _ (by omega)]
      exact bx _ _ trivial (g6 t ht9)
    · rw [ht] at ht9
      rw [m2 358 _ (by omega)]
      exact bx _ _ trivial (g7 t ht9)
  · replace hi : i < y1.1 154 0 := hi
    rw [m1 154 0 (by omega)] at hi
    replace hn : n = y.1 154 0 := hn
    obtain ⟨g1, g2⟩ := e8 i hi
    refine ⟨lv 27 i (by omega) g1, ?_⟩
    rw [m2 354 _ (by omega), m2 27 i (by omega)]
    exact g2
  · by_cases hin : i = n
    · subst hin
      exact ⟨⟨⟨fv1, by decide⟩, ⟨fv2, by decide⟩⟩, h8⟩
    · have h0 := vl 27 i (by omega) hi
      obtain ⟨⟨g1, g2⟩, g3⟩ := e9 i h0
      exact ⟨⟨lv 28 i (by omega) g1, lv 29 i (by omega) g2⟩, g3⟩
  · replace hi : 0 < y1.1 150 0 := hi
    rw [m1 150 0 (by omega)] at hi
    exact lv 51 0 (by omega) (f1 hi)
  · replace hi : 0 < y1.1 152 0 := hi
    rw [m1 152 0 (by omega)] at hi
    exact lv 53 0 (by omega) (f2 hi)
  · replace hi : 0 < y1.1 154 0 := hi
    rw [m1 154 0 (by omega)] at hi
    exact lv 55 0 (by omega) (f3 hi)
  · replace hi : 0 < y1.1 156 i := hi
    rw [m1 156 i (by omega)] at hi
    exact lv 57 i (by omega) (f4 i hi)
  · replace hi : 0 < y1.1 158 i := hi
    rw [m1 158 i (by omega)] at hi
    exact lv 59 i (by omega) (f5 i hi)
theorem WFm.mkMC {κ : Kx} {y : Ly} {n q a1 a3 : Nat} (h : WFm κ y) (hn : n = mC y) (h4 : n < 4) : WFm κ (yMkMC y n q a1 a3) := by
  have m1 : ∀ a b, ¬ ((a = 26 ∧ b = n) ∨ (a = 56 ∧ b = n) ∨ (a = 58 ∧ b = n) ∨ (a = 57 ∧ b = n) ∨ (a = 59 ∧ b = n) ∨ (a = 156 ∧ b = n) ∨ (a = 256 ∧ b = n) ∨ (a = 158 ∧ b = n) ∨ (a = 258 ∧ b = n)) → (yMkMC y n q a1 a3).1 a b = y.1 a b := fun a b h => yMkMC_1 h
  have m2 : ∀ a b, ¬ ((a = 26 ∧ b = n) ∨ (a = 56 ∧ b = n) ∨ (a = 58 ∧ b = n)) → (yMkMC y n q a1 a3).2 a b = y.2 a b := fun a b h => yMkMC_2 h
  have fv0 : (yMkMC y n q a1 a3).1 26 (n) = _ := yMkMC_f0
  have fv1 : (yMkMC y n q a1 a3).1 56 (n) = _ := yMkMC_f1
  have fv2 : (yMkMC y n q a1 a3).1 58 (n) = _ := yMkMC_f2
  have fv3 : (yMkMC y n q a1 a3).1 57 (n) = _ := yMkMC_f3
  have fv4 : (yMkMC y n q a1 a3).1 59 (n) = _ := yMkMC_f4
  have fv5 : (yMkMC y n q a1 a3).1 156 (n) = _ := yMkMC_f5
  have fv6 : (yMkMC y n q a1 a3).1 256 (n) = _ := yMkMC_f6
  have fv7 : (yMkMC y n q a1 a3).1 158 (n) = _ := yMkMC_f7
  have fv8 : (yMkMC y n q a1 a3).1 258 (n) = _ := yMkMC_f8
  have ua0 : (yMkMC y n q a1 a3).2 26 (n) = _ := yMkMC_a0
  have ua1 : (yMkMC y n q a1 a3).2 56 (n) = _ := yMkMC_a1
  have ua2 : (yMkMC y n q a1 a3).2 58 (n) = _ := yMkMC_a2
  generalize yMkMC y n q a1 a3 = y1 at *
  have lv : ∀ a b, ¬ ((a = 26 ∧ b = n) ∨ (a = 56 ∧ b = n) ∨ (a = 58 ∧ b = n) ∨ (a = 57 ∧ b = n) ∨ (a = 59 ∧ b = n) ∨ (a = 156 ∧ b = n) ∨ (a = 256 ∧ b = n) ∨ (a = 158 ∧ b = n) ∨ (a = 258 ∧ b = n)) → live y a b → live y1 a b := fun a b hd hl => ⟨by rw [m1 a b hd]; exact hl.1, hl.2⟩
  have vl : ∀ a b, ¬ ((a = 26 ∧ b = n) ∨ (a = 56 ∧ b = n) ∨ (a = 58 ∧ b = n) ∨ (a = 57 ∧ b = n) ∨ (a = 59 ∧ b = n) ∨ (a = 156 ∧ b = n) ∨ (a = 256 ∧ b = n) ∨ (a = 158 ∧ b = n) ∨ (a = 258 ∧ b = n)) → live y1 a b → live y a b := fun a b hd hl => ⟨by rw [← m1 a b hd]; exact hl.1, hl.2⟩
  have bx : ∀ a n0, True → bxO κ y a n0 → bxO κ y1 a n0 := fun a n0 _ hb => by
    unfold bxO at hb ⊢
    rw [m1 36 n0 (by omega), m1 137 n0 (by omega), m2 36 n0 (by omega)]
    exact hb
  obtain ⟨⟨c1, c2, c3, c4, c5, c6, c7, c8, c9, c10⟩, ⟨d1, d2, d3⟩, e3, e4, e6, e7, e8, e9, f1, f2, f3, f4, f5⟩ := h
  refine ⟨⟨lv 20 0 (by omega) c1, lv 50 0 (by omega) c2, lv 52 0 (by omega) c3, lv 54 0 (by omega) c4, lv 30 0 (by omega) c5, lv 31 0 (by omega) c6, lv 32 0 (by omega) c7, lv 33 0 (by omega) c8, lv 34 0 (by omega) c9, lv 35 0 (by omega) c10⟩, ⟨?_, ?_, ?_⟩, fun i hi => ?_, fun i hi => ?_, fun i hi => ?_, fun i hi => ?_, fun i hi => ?_, fun i hi => ?_, fun hi => ?_, fun hi => ?_, fun hi => ?_, fun i hi => ?_, fun i hi => ?_⟩
  · show y1.1 150 0 ≤ 8
    rw [m1 150 0 (by omega)]
    exact d1
  · show y1.1 152 0 ≤ 4
    rw [m1 152 0 (by omega)]
    exact d2
  · show y1.1 154 0 ≤ 8
    rw [m1 154 0 (by omega)]
    exact d3
  · replace hi : i < y1.1 150 0 := hi
    rw [m1 150 0 (by omega)] at hi
    obtain ⟨g1, g2⟩ := e3 i hi
    refine ⟨lv 21 i (by omega) g1, ?_⟩
    rw [m2 350 _ (by omega), m2 21 i (by omega)]
    exact g2
  · have h0 := vl 21 i (by omega) hi
    obtain ⟨⟨g1, g2, g3⟩, g4⟩ := e4 i h0
    exact ⟨⟨lv 22 i (by omega) g1, lv 23 i (by omega) g2, lv 24 i (by omega) g3⟩, g4⟩
  · replace hi : i < y1.1 152 0 := hi
    rw [m1 152 0 (by omega)] at hi
    replace hn : n = y.1 152 0 := hn
    obtain ⟨g1, g2⟩ := e6 i hi
    refine ⟨lv 26 i (by omega) g1, ?_⟩
    rw [m2 352 _ (by omega), m2 26 i (by omega)]
    exact g2
  · by_cases hin : i = n
    · subst hin
      have hs : mS y1 i = 0 := fv5
      have ht : mT y1 i = 0 := fv7
      refine ⟨⟨⟨fv1, by decide⟩, ⟨fv2, by decide⟩⟩, by rw [hs]; decide, by rw [hs, ht]; exact Nat.le_refl _, h4, fun t ht9 => absurd (show t < 0 by rw [← hs]; exact ht9) (Nat.not_lt_zero _), fun t ht9 => absurd (show t < 0 by rw [← ht]; exact ht9) (Nat.not_lt_zero _)⟩
    · have h0 := vl 26 i (by omega) hi
      obtain ⟨⟨g1, g2⟩, g3, g4, g5, g6, g7⟩ := e7 i h0
      have hs : mS y1 i = mS y i := m1 156 i (by omega)
      have ht : mT y1 i = mT y i := m1 158 i (by omega)
      refine ⟨⟨lv 56 i (by omega) g1, lv 58 i (by omega) g2⟩, by rw [hs]; exact g3, by rw [hs, ht]; exact g4, g5, fun t ht9 => ?_, fun t ht9 => ?_⟩
      · rw [hs] at ht9
        rw [m2 356 _ (by omega)]
        exact bx _ _ trivial (g6 t ht9)
      · rw [ht] at ht9
        rw [m2 358 _ (by omega)]
        exact bx _ _ trivial (g7 t ht9)
  · replace hi : i < y1.1 154 0 := hi
    rw [m1 154 0 (by omega)] at hi
    obtain ⟨g1, g2⟩ := e8 i hi
    refine ⟨lv 27 i (by omega) g1, ?_⟩
    rw [m2 354 _ (by omega), m2 27 i (by omega)]
    exact g2
  · have h0 := vl 27 i (by omega) hi
    obtain ⟨⟨g1, g2⟩, g3⟩ := e9 i h0
    exact ⟨⟨lv 28 i (by omega) g1, lv 29 i (by omega) g2⟩, g3⟩
  · replace hi : 0 < y1.1 150 0 := hi
    rw [m1 150 0 (by omega)] at hi
    exact lv 51 0 (by omega) (f1 hi)
  · replace hi : 0 < y1.1 152 0 := hi
    rw [m1 152 0 (by omega)] at hi
    exact lv 53 0 (by omega) (f2 hi)
  · replace hi : 0 < y1.1 154 0 := hi
    rw [m1 154 0 (by omega)] at hi
    exact lv 55 0 (by omega) (f3 hi)
  · replace hi : 0 < y1.1 156 i := hi
    by_cases hin : i = n
    · subst hin
      rw [fv5] at hi
      exact absurd hi (Nat.lt_irrefl _)
    · rw [m1 156 i (by omega)] at hi
      exact lv 57 i (by omega) (f4 i hi)
  · replace hi : 0 < y1.1 158 i := hi
    by_cases hin : i = n
    · subst hin
      rw [fv7] at hi
      exact absurd hi (Nat.lt_irrefl _)
    · rw [m1 158 i (by omega)] at hi
      exact lv 59 i (by omega) (f5 i hi)
theorem WFm.addMV {κ : Kx} {y y1 : Ly} {n : Nat} (h : WFm κ y) (hY : YAdd y 50 0 (y.2 21 n) y1) (hn : n = mV y) (h8 : n < 8) (hl : live y 21 n) : WFm κ y1 := by
  unfold YAdd at hY
  simp only [Nat.reduceAdd] at hY
  obtain ⟨⟨v0, v1, v2, u1⟩, m1, m2⟩ := hY
  replace m1 : ∀ a b, ¬ ((a = 51 ∧ b = 0) ∨ (a = 150 ∧ b = 0) ∨ (a = 250 ∧ b = 0)) → y1.1 a b = y.1 a b := fun a b h => m1 a b (by omega) (by omega) (by omega)
  replace m2 : ∀ a b, ¬ ((a = 51 ∧ b = 0) ∨ (a = 350 ∧ b = 16 * 0 + y.1 150 0)) → y1.2 a b = y.2 a b := fun a b h => m2 a b (by omega) (by omega)
  have lv : ∀ a b, ¬ ((a = 51 ∧ b = 0) ∨ (a = 150 ∧ b = 0) ∨ (a = 250 ∧ b = 0)) → live y a b → live y1 a b := fun a b hd hl => ⟨by rw [m1 a b hd]; exact hl.1, hl.2⟩
  have vl : ∀ a b, ¬ ((a = 51 ∧ b = 0) ∨ (a = 150 ∧ b = 0) ∨ (a = 250 ∧ b = 0)) → live y1 a b → live y a b := fun a b hd hl => ⟨by rw [← m1 a b hd]; exact hl.1, hl.2⟩
  have bx : ∀ a n0, True → bxO κ y a n0 → bxO κ y1 a n0 := fun a n0 _ hb => by
    unfold bxO at hb ⊢
    rw [m1 36 n0 (by omega), m1 137 n0 (by omega), m2 36 n0 (by omega)]
    exact hb
  obtain ⟨⟨c1, c2, c3, c4, c5, c6, c7, c8, c9, c10⟩, ⟨d1, d2, d3⟩, e3, e4, e6, e7, e8, e9, f1, f2, f3, f4, f5⟩ := h
  refine ⟨⟨lv 20 0 (by omega) c1, lv 50 0 (by omega) c2, lv 52 0 (by omega) c3, lv 54 0 (by omega) c4, lv 30 0 (by omega) c5, lv 31 0 (by omega) c6, lv 32 0 (by omega) c7, lv 33 0 (by omega) c8, lv 34 0 (by omega) c9, lv 35 0 (by omega) c10⟩, ⟨?_, ?_, ?_⟩, fun i hi => ?_, fun i hi => ?_, fun i hi => ?_, fun i hi => ?_, fun i hi => ?_, fun i hi => ?_, fun hi => ?_, fun hi => ?_, fun hi => ?_, fun i hi => ?_, fun i hi => ?_⟩
  · show y1.1 150 0 ≤ 8
    rw [show y1.1 150 0 = y.1 150 0 + 1 from v1]
    have : n = y.1 150 0 := hn
    omega
  · show y1.1 152 0 ≤ 4
    rw [m1 152 0 (by omega)]
    exact d2
  · show y1.1 154 0 ≤ 8
    rw [m1 154 0 (by omega)]
    exact d3
  · replace hi : i < y1.1 150 0 := hi
    have hn9 : n = y.1 150 0 := hn
    rw [show y1.1 150 0 = y.1 150 0 + 1 from v1] at hi
    by_cases hin : i = n
    · subst hin
      refine ⟨lv 21 i (by omega) hl, ?_⟩
      rw [hn9] at u1 ⊢
      rw [m2 21 _ (by omega)]
      exact u1
    · obtain ⟨g1, g2⟩ := e3 i (show i < y.1 150 0 by omega)
      refine ⟨lv 21 i (by omega) g1, ?_⟩
      rw [m2 350 _ (by omega), m2 21 i (by omega)]
      exact g2
  · have h0 := vl 21 i (by omega) hi
    obtain ⟨⟨g1, g2, g3⟩, g4⟩ := e4 i h0
    exact ⟨⟨lv 22 i (by omega) g1, lv 23 i (by omega) g2, lv 24 i (by omega) g3⟩, g4⟩
  · replace hi : i < y1.1 152 0 := hi
    rw [m1 152 0 (by omega)] at hi
    obtain ⟨g1, g2⟩ := e6 i hi
    refine ⟨lv 26 i (by omega) g1, ?_⟩
    rw [m2 352 _ (by omega), m2 26 i (by omega)]
    exact g2
  · have h0 := vl 26 i (by omega) hi
    obtain ⟨⟨g1, g2⟩, g3, g4, g5, g6, g7⟩ := e7 i h0
    have hs : mS y1 i = mS y i := m1 156 i (by omega)
    have ht : mT y1 i = mT y i := m1 158 i (by omega)
    refine ⟨⟨lv 56 i (by omega) g1, lv 58 i (by omega) g2⟩, by rw [hs]; exact g3, by rw [hs, ht]; exact g4, g5, fun t ht9 => ?_, fun t ht9 => ?_⟩
    · rw [hs] at ht9
      rw [m2 356 _ (by omega)]
      exact bx _ _ trivial (g6 t ht9)
    · rw [ht] at ht9
      rw [m2 358 _ (by omega)]
      exact bx _ _ trivial (g7 t ht9)
  · replace hi : i < y1.1 154 0 := hi
    rw [m1 154 0 (by omega)] at hi
    obtain ⟨g1, g2⟩ := e8 i hi
    refine ⟨lv 27 i (by omega) g1, ?_⟩
    rw [m2 354 _ (by omega), m2 27 i (by omega)]
    exact g2
  · have h0 := vl 27 i (by omega) hi
    obtain ⟨⟨g1, g2⟩, g3⟩ := e9 i h0
    exact ⟨⟨lv 28 i (by omega) g1, lv 29 i (by omega) g2⟩, g3⟩
  · exact ⟨v0, by decide⟩
  · replace hi : 0 < y1.1 152 0 := hi
    rw [m1 152 0 (by omega)] at hi
    exact lv 53 0 (by omega) (f2 hi)
  · replace hi : 0 < y1.1 154 0 := hi
    rw [m1 154 0 (by omega)] at hi
    exact lv 55 0 (by omega) (f3 hi)
  · replace hi : 0 < y1.1 156 i := hi
    rw [m1 156 i (by omega)] at hi
    exact lv 57 i (by omega) (f4 i hi)
  · replace hi : 0 < y1.1 158 i := hi
    rw [m1 158 i (by omega)] at hi
    exact lv 59 i (by omega) (f5 i hi)
theorem WFm.addML {κ : Kx} {y y1 : Ly} {n : Nat} (h : WFm κ y) (hY : YAdd y 54 0 (y.2 27 n) y1) (hn : n = mL y) (h8 : n < 8) (hl : live y 27 n) : WFm κ y1 := by
  unfold YAdd at hY
  simp only [Nat.reduceAdd] at hY
  obtain ⟨⟨v0, v1, v2, u1⟩, m1, m2⟩ := hY
  replace m1 : ∀ a b, ¬ ((a = 55 ∧ b = 0) ∨ (a = 154 ∧ b = 0) ∨ (a = 254 ∧ b = 0)) → y1.1 a b = y.1 a b := fun a b h => m1 a b (by omega) (by omega) (by omega)
  replace m2 : ∀ a b, ¬ ((a = 55 ∧ b = 0) ∨ (a = 354 ∧ b = 16 * 0 + y.1 154 0)) → y1.2 a b = y.2 a b := fun a b h => m2 a b (by omega) (by omega)
  have lv : ∀ a b, ¬ ((a = 55 ∧ b = 0) ∨ (a = 154 ∧ b = 0) ∨ (a = 254 ∧ b = 0)) → live y a b → live y1 a b := fun a b hd hl => ⟨by rw [m1 a b hd]; exact hl.1, hl.2⟩
  have vl : ∀ a b, ¬ ((a = 55 ∧ b = 0) ∨ (a = 154 ∧ b = 0) ∨ (a = 254 ∧ b = 0)) → live y1 a b → live y a b := fun a b hd hl => ⟨by rw [← m1 a b hd]; exact hl.1, hl.2⟩
  have bx : ∀ a n0, True → bxO κ y a n0 → bxO κ y1 a n0 := fun a n0 _ hb => by
    unfold bxO at hb ⊢
    rw [m1 36 n0 (by omega), m1 137 n0 (by omega), m2 36 n0 (by omega)]
    exact hb
  obtain ⟨⟨c1, c2, c3, c4, c5, c6, c7, c8, c9, c10⟩, ⟨d1, d2, d3⟩, e3, e4, e6, e7, e8, e9, f1, f2, f3, f4, f5⟩ := h
  refine ⟨⟨lv 20 0 (by omega) c1, lv 50 0 (by omega) c2, lv 52 0 (by omega) c3, lv 54 0 (by omega) c4, lv 30 0 (by omega) c5, lv 31 0 (by omega) c6, lv 32 0 (by omega) c7, lv 33 0 (by omega) c8, lv 34 0 (by omega) c9, lv 35 0 (by omega) c10⟩, ⟨?_, ?_, ?_⟩, fun i hi => ?_, fun i hi => ?_, fun i hi => ?_, fun i hi => ?_, fun i hi => ?_, fun i hi => ?_, fun hi => ?_, fun hi => ?_, fun hi => ?_, fun i hi => ?_, fun i hi => ?_⟩
  · show y1.1 150 0 ≤ 8
    rw [m1 150 0 (by omega)]
    exact d1
  · show y1.1 152 0 ≤ 4
    rw [m1 152 0 (by omega)]
    exact d2
  · show y1.1 154 0 ≤ 8
    rw [show y1.1 154 0 = y.1 154 0 + 1 from v1]
    have : n = y.1 154 0 := hn
    omega
  · replace hi : i < y1.1 150 0 := hi
    rw [m1 150 0 (by omega)] at hi
    obtain ⟨g1, g2⟩ := e3 i hi
    refine ⟨lv 21 i (by omega) g1, ?_⟩
    rw [m2 350 _ (by omega), m2 21 i (by omega)]
    exact g2
  · have h0 := vl 21 i (by omega) hi
    obtain ⟨⟨g1, g2, g3⟩, g4⟩ := e4 i h0
    exact ⟨⟨lv 22 i (by omega) g1, lv 23 i (by omega) g2, lv 24 i (by omega) g3⟩, g4⟩
  · replace hi : i < y1.1 152 0 := hi
    rw [m1 152 0 (by omega)] at hi
    obtain ⟨g1, g2⟩ := e6 i hi
    refine ⟨lv 26 i (by omega) g1, ?_⟩
    rw [m2 352 _ (by omega), m2 26 i (by omega)]
    exact g2
  · have h0 := vl 26 i (by omega) hi
    obtain ⟨⟨g1, g2⟩, g3, g4, g5, g6, g7⟩ := e7 i h0
    have hs : mS y1 i = mS y i := m1 156 i (by omega)
    have ht : mT y1 i = mT y i := m1 158 i (by omega)
    refine ⟨⟨lv 56 i (by omega) g1, lv 58 i (by omega) g2⟩, by rw [hs]; exact g3, by rw [hs, ht]; exact g4, g5, fun t ht9 => ?_, fun t ht9 => ?_⟩
    · rw [hs] at ht9
      rw [m2 356 _ (by omega)]
      exact bx _ _ trivial (g6 t ht9)
    · rw [ht] at ht9
      rw [m2 358 _ (by omega)]
      exact bx _ _ trivial (g7 t ht9)
  · replace hi : i < y1.1 154 0 := hi
    have hn9 : n = y.1 154 0 := hn
    rw [show y1.1 154 0 = y.1 154 0 + 1 from v1] at hi
    by_cases hin : i = n
    · subst hin
      refine ⟨lv 27 i (by omega) hl, ?_⟩
      rw [hn9] at u1 ⊢
      rw [m2 27 _ (by omega)]
      exact u1
    · obtain ⟨g1, g2⟩ := e8 i (show i < y.1 154 0 by omega)
      refine ⟨lv 27 i (by omega) g1, ?_⟩
      rw [m2 354 _ (by omega), m2 27 i (by omega)]
      exact g2
  · have h0 := vl 27 i (by omega) hi
    obtain ⟨⟨g1, g2⟩, g3⟩ := e9 i h0
    exact ⟨⟨lv 28 i (by omega) g1, lv 29 i (by omega) g2⟩, g3⟩
  · replace hi : 0 < y1.1 150 0 := hi
    rw [m1 150 0 (by omega)] at hi
    exact lv 51 0 (by omega) (f1 hi)
  · replace hi : 0 < y1.1 152 0 := hi
    rw [m1 152 0 (by omega)] at hi
    exact lv 53 0 (by omega) (f2 hi)
  · exact ⟨v0, by decide⟩
  · replace hi : 0 < y1.1 156 i := hi
    rw [m1 156 i (by omega)] at hi
    exact lv 57 i (by omega) (f4 i hi)
  · replace hi : 0 < y1.1 158 i := hi
    rw [m1 158 i (by omega)] at hi
    exact lv 59 i (by omega) (f5 i hi)
theorem WFm.addMC {κ : Kx} {y y1 : Ly} {n : Nat} (h : WFm κ y) (hY : YAdd y 52 0 (y.2 26 n) y1) (hn : n = mC y) (h8 : n < 4) (hl : live y 26 n) : WFm κ y1 := by
  unfold YAdd at hY
  simp only [Nat.reduceAdd] at hY
  obtain ⟨⟨v0, v1, v2, u1⟩, m1, m2⟩ := hY
  replace m1 : ∀ a b, ¬ ((a = 53 ∧ b = 0) ∨ (a = 152 ∧ b = 0) ∨ (a = 252 ∧ b = 0)) → y1.1 a b = y.1 a b := fun a b h => m1 a b (by omega) (by omega) (by omega)
  replace m2 : ∀ a b, ¬ ((a = 53 ∧ b = 0) ∨ (a = 352 ∧ b = 16 * 0 + y.1 152 0)) → y1.2 a b = y.2 a b := fun a b h => m2 a b (by omega) (by omega)
  have lv : ∀ a b, ¬ ((a = 53 ∧ b = 0) ∨ (a = 152 ∧ b = 0) ∨ (a = 252 ∧ b = 0)) → live y a b → live y1 a b := fun a b hd hl => ⟨by rw [m1 a b hd]; exact hl.1, hl.2⟩
  have vl : ∀ a b, ¬ ((a = 53 ∧ b = 0) ∨ (a = 152 ∧ b = 0) ∨ (a = 252 ∧ b = 0)) → live y1 a b → live y a b := fun a b hd hl => ⟨by rw [← m1 a b hd]; exact hl.1, hl.2⟩
  have bx : ∀ a n0, True → bxO κ y a n0 → bxO κ y1 a n0 := fun a n0 _ hb => by
    unfold bxO at hb ⊢
    rw [m1 36 n0 (by omega), m1 137 n0 (by omega), m2 36 n0 (by omega)]
    exact hb
  obtain ⟨⟨c1, c2, c3, c4, c5, c6, c7, c8, c9, c10⟩, ⟨d1, d2, d3⟩, e3, e4, e6, e7, e8, e9, f1, f2, f3, f4, f5⟩ := h
  refine ⟨⟨lv 20 0 (by omega) c1, lv 50 0 (by omega) c2, lv 52 0 (by omega) c3, lv 54 0 (by omega) c4, lv 30 0 (by omega) c5, lv 31 0 (by omega) c6, lv 32 0 (by omega) c7, lv 33 0 (by omega) c8, lv 34 0 (by omega) c9, lv 35 0 (by omega) c10⟩, ⟨?_, ?_, ?_⟩, fun i hi => ?_, fun i hi => ?_, fun i hi => ?_, fun i hi => ?_, fun i hi => ?_, fun i hi => ?_, fun hi => ?_, fun hi => ?_, fun hi => ?_, fun i hi => ?_, fun i hi => ?_⟩
  · show y1.1 150 0 ≤ 8
    rw [m1 150 0 (by omega)]
    exact d1
  · show y1.1 152 0 ≤ 4
    rw [show y1.1 152 0 = y.1 152 0 + 1 from v1]
    have : n = y.1 152 0 := hn
    omega
  · show y1.1 154 0 ≤ 8
    rw [m1 154 0 (by omega)]
    exact d3
  · replace hi : i < y1.1 150 0 := hi
    rw [m1 150 0 (by omega)] at hi
    obtain ⟨g1, g2⟩ := e3 i hi
    refine ⟨lv 21 i (by omega) g1, ?_⟩
    rw [m2 350 _ (by omega), m2 21 i (by omega)]
    exact g2
  · have h0 := vl 21 i (by omega) hi
    obtain ⟨⟨g1, g2, g3⟩, g4⟩ := e4 i h0
    exact ⟨⟨lv 22 i (by omega) g1, lv 23 i (by omega) g2, lv 24 i (by omega) g3⟩, g4⟩
  · replace hi : i < y1.1 152 0 := hi
    have hn9 : n = y.1 152 0 := hn
    rw [show y1.1 152 0 = y.1 152 0 + 1 from v1] at hi
    by_cases hin : i = n
    · subst hin
      refine ⟨lv 26 i (by omega) hl, ?_⟩
      rw [hn9] at u1 ⊢
      rw [m2 26 _ (by omega)]
      exact u1
    · obtain ⟨g1, g2⟩ := e6 i (show i < y.1 152 0 by omega)
      refine ⟨lv 26 i (by omega) g1, ?_⟩
      rw [m2 352 _ (by omega), m2 26 i (by omega)]
      exact g2
  · have h0 := vl 26 i (by omega) hi
    obtain ⟨⟨g1, g2⟩, g3, g4, g5, g6, g7⟩ := e7 i h0
    have hs : mS y1 i = mS y i := m1 156 i (by omega)
    have ht : mT y1 i = mT y i := m1 158 i (by omega)
    refine ⟨⟨lv 56 i (by omega) g1, lv 58 i (by omega) g2⟩, by rw [hs]; exact g3, by rw [hs, ht]; exact g4, g5, fun t ht9 => ?_, fun t ht9 => ?_⟩
    · rw [hs] at ht9
      rw [m2 356 _ (by omega)]
      exact bx _ _ trivial (g6 t ht9)
    · rw [ht] at ht9
      rw [m2 358 _ (by omega)]
      exact bx _ _ trivial (g7 t ht9)
  · replace hi : i < y1.1 154 0 := hi
    rw [m1 154 0 (by omega)] at hi
    obtain ⟨g1, g2⟩ := e8 i hi
    refine ⟨lv 27 i (by omega) g1, ?_⟩
    rw [m2 354 _ (by omega), m2 27 i (by omega)]
    exact g2
  · have h0 := vl 27 i (by omega) hi
    obtain ⟨⟨g1, g2⟩, g3⟩ := e9 i h0
    exact ⟨⟨lv 28 i (by omega) g1, lv 29 i (by omega) g2⟩, g3⟩
  · replace hi : 0 < y1.1 150 0 := hi
    rw [m1 150 0 (by omega)] at hi
    exact lv 51 0 (by omega) (f1 hi)
  · exact ⟨v0, by decide⟩
  · replace hi : 0 < y1.1 154 0 := hi
    rw [m1 154 0 (by omega)] at hi
    exact lv 55 0 (by omega) (f3 hi)
  · replace hi : 0 < y1.1 156 i := hi
    rw [m1 156 i (by omega)] at hi
    exact lv 57 i (by omega) (f4 i hi)
  · replace hi : 0 < y1.1 158 i := hi
    rw [m1 158 i (by omega)] at hi
    exact lv 59 i (by omega) (f5 i hi)
theorem WFm.addB56 {κ : Kx} {y y9 y1 : Ly} {n j q : Nat} (h : WFm κ y) (hj : live y 26 j) (h1 : ∀ a b, ¬ (a = 36 ∧ b = n) → ¬ (a = 137 ∧ b = n) → y9.1 a b = y.1 a b) (h2 : ∀ a b, ¬ (a = 36 ∧ b = n) → y9.2 a b = y.2 a b) (hq : bxO κ y9 q n) (hY : YAdd y9 56 j q y1) (hn : n = (5 * j + mS y j)) (h5 : mS y j < 5) : WFm κ y1 := by
  unfold YAdd at hY
  simp only [Nat.reduceAdd] at hY
  obtain ⟨⟨v0, v1, v2, u1⟩, m1, m2⟩ := hY
  have hsz : y9.1 156 j = y.1 156 j := h1 _ _ (by omega) (by omega)
  rw [hsz] at v1 u1 m2
  have bxq : bxO κ y1 q n := by
    unfold bxO at hq ⊢
    rw [m1 36 n (by omega) (by omega) (by omega), m1 137 n (by omega) (by omega) (by omega), m2 36 n (by omega) (by omega)]
    exact hq
  replace m1 : ∀ a b, ¬ ((a = 57 ∧ b = j) ∨ (a = 156 ∧ b = j) ∨ (a = 256 ∧ b = j) ∨ (a = 36 ∧ b = n) ∨ (a = 137 ∧ b = n)) → y1.1 a b = y.1 a b := fun a b h => (m1 a b (by omega) (by omega) (by omega)).trans (h1 a b (by omega) (by omega))
  replace m2 : ∀ a b, ¬ ((a = 57 ∧ b = j) ∨ (a = 356 ∧ b = 16 * j + y.1 156 j) ∨ (a = 36 ∧ b = n)) → y1.2 a b = y.2 a b := fun a b h => (m2 a b (by omega) (by omega)).trans (h2 a b (by omega))
  have lv : ∀ a b, ¬ ((a = 57 ∧ b = j) ∨ (a = 156 ∧ b = j) ∨ (a = 256 ∧ b = j) ∨ (a = 36 ∧ b = n) ∨ (a = 137 ∧ b = n)) → live y a b → live y1 a b := fun a b hd hl => ⟨by rw [m1 a b hd]; exact hl.1, hl.2⟩
  have vl : ∀ a b, ¬ ((a = 57 ∧ b = j) ∨ (a = 156 ∧ b = j) ∨ (a = 256 ∧ b = j) ∨ (a = 36 ∧ b = n) ∨ (a = 137 ∧ b = n)) → live y1 a b → live y a b := fun a b hd hl => ⟨by rw [← m1 a b hd]; exact hl.1, hl.2⟩
  have bx : ∀ a n0, n0 ≠ n → bxO κ y a n0 → bxO κ y1 a n0 := fun a n0 hne hb => by
    unfold bxO at hb ⊢
    rw [m1 36 n0 (by omega), m1 137 n0 (by omega), m2 36 n0 (by omega)]
    exact hb
  obtain ⟨⟨c1, c2, c3, c4, c5, c6, c7, c8, c9, c10⟩, ⟨d1, d2, d3⟩, e3, e4, e6, e7, e8, e9, f1, f2, f3, f4, f5⟩ := h
  refine ⟨⟨lv 20 0 (by omega) c1, lv 50 0 (by omega) c2, lv 52 0 (by omega) c3, lv 54 0 (by omega) c4, lv 30 0 (by omega) c5, lv 31 0 (by omega) c6, lv 32 0 (by omega) c7, lv 33 0 (by omega) c8, lv 34 0 (by omega) c9, lv 35 0 (by omega) c10⟩, ⟨?_, ?_, ?_⟩, fun i hi => ?_, fun i hi => ?_, fun i hi => ?_, fun i hi => ?_, fun i hi => ?_, fun i hi => ?_, fun hi => ?_, fun hi => ?_, fun hi => ?_, fun i hi => ?_, fun i hi => ?_⟩
  · show y1.1 150 0 ≤ 8
    rw [m1 150 0 (by omega)]
    exact d1
  · show y1.1 152 0 ≤ 4
    rw [m1 152 0 (by omega)]
    exact d2
  · show y1.1 154 0 ≤ 8
    rw [m1 154 0 (by omega)]
    exact d3
  · replace hi : i < y1.1 150 0 := hi
    rw [m1 150 0 (by omega)] at hi
    obtain ⟨g1, g2⟩ := e3 i hi
    refine ⟨lv 21 i (by omega) g1, ?_⟩
    rw [m2 350 _ (by omega), m2 21 i (by omega)]
    exact g2
  · have h0 := vl 21 i (by omega) hi
    obtain ⟨⟨g1, g2, g3⟩, g4⟩ := e4 i h0
    exact ⟨⟨lv 22 i (by omega) g1, lv 23 i (by omega) g2, lv 24 i (by omega) g3⟩, g4⟩
  · replace hi : i < y1.1 152 0 := hi
    rw [m1 152 0 (by omega)] at hi
    obtain ⟨g1, g2⟩ := e6 i hi
    refine ⟨lv 26 i (by omega) g1, ?_⟩
    rw [m2 352 _ (by omega), m2 26 i (by omega)]
    exact g2
  · have h0 := vl 26 i (by omega) hi
    have hj4 := (e7 j hj).2.2.2.1
    have hjS := (e7 j hj).2.1
    have hjT := (e7 j hj).2.2.1
    obtain ⟨⟨g1, g2⟩, g3, g4, g5, g6, g7⟩ := e7 i h0
    by_cases hij : i = j
    · subst hij
      have hs : mS y1 i = mS y i + 1 := v1
      have ht : mT y1 i = mT y i := m1 158 i (by omega)
      refine ⟨⟨lv 56 i (by omega) g1, lv 58 i (by omega) g2⟩, by rw [hs]; omega, by rw [hs, ht]; omega, g5, fun t ht9 => ?_, fun t ht9 => ?_⟩
      · rw [hs] at ht9
        by_cases htt : t = mS y i
        · subst htt
          rw [← hn, show y1.2 356 (16 * i + mS y i) = q from u1]
          exact bxq
        · have hne2 : t ≠ y.1 156 i := htt
          rw [m2 356 _ (by omega)]
          exact bx _ _ (by omega) (g6 t (by omega))
      · rw [ht] at ht9
        rw [m2 358 _ (by omega)]
        exact bx _ _ (by omega) (g7 t ht9)
    · have hs : mS y1 i = mS y i := m1 156 i (by omega)
      have ht : mT y1 i = mT y i := m1 158 i (by omega)
      refine ⟨⟨lv 56 i (by omega) g1, lv 58 i (by omega) g2⟩, by rw [hs]; exact g3, by rw [hs, ht]; exact g4, g5, fun t ht9 => ?_, fun t ht9 => ?_⟩
      · rw [hs] at ht9
        have hsJ : y.1 156 j ≤ 5 := hjS
        rw [m2 356 _ (by omega)]
        exact bx _ _ (by omega) (g6 t ht9)
      · rw [ht] at ht9
        have hsJ : y.1 158 j ≤ 5 := Nat.le_trans hjT hjS
        rw [m2 358 _ (by omega)]
        exact bx _ _ (by omega) (g7 t ht9)
  · replace hi : i < y1.1 154 0 := hi
    rw [m1 154 0 (by omega)] at hi
    obtain ⟨g1, g2⟩ := e8 i hi
    refine ⟨lv 27 i (by omega) g1, ?_⟩
    rw [m2 354 _ (by omega), m2 27 i (by omega)]
    exact g2
  · have h0 := vl 27 i (by omega) hi
    obtain ⟨⟨g1, g2⟩, g3⟩ := e9 i h0
    exact ⟨⟨lv 28 i (by omega) g1, lv 29 i (by omega) g2⟩, g3⟩
  · replace hi : 0 < y1.1 150 0 := hi
    rw [m1 150 0 (by omega)] at hi
    exact lv 51 0 (by omega) (f1 hi)
  · replace hi : 0 < y1.1 152 0 := hi
    rw [m1 152 0 (by omega)] at hi
    exact lv 53 0 (by omega) (f2 hi)
  · replace hi : 0 < y1.1 154 0 := hi
    rw [m1 154 0 (by omega)] at hi
    exact lv 55 0 (by omega) (f3 hi)
  · by_cases hij : i = j
    · subst hij
      exact ⟨v0, by decide⟩
    · replace hi : 0 < y1.1 156 i := hi
      rw [m1 156 i (by omega)] at hi
      exact lv 57 i (by omega) (f4 i hi)
  · replace hi : 0 < y1.1 158 i := hi
    rw [m1 158 i (by omega)] at hi
    exact lv 59 i (by omega) (f5 i hi)
theorem WFm.addB58 {κ : Kx} {y y9 y1 : Ly} {n j q : Nat} (h : WFm κ y) (hj : live y 26 j) (h1 : ∀ a b, ¬ (a = 36 ∧ b = n) → ¬ (a = 137 ∧ b = n) → y9.1 a b = y.1 a b) (h2 : ∀ a b, ¬ (a = 36 ∧ b = n) → y9.2 a b = y.2 a b) (hq : bxO κ y9 q n) (hY : YAdd y9 58 j q y1) (hn : n = 50 + (5 * j + mT y j)) (h5 : mT y j < mS y j) : WFm κ y1 := by
  unfold YAdd at hY
  simp only [Nat.reduceAdd] at hY
  obtain ⟨⟨v0, v1, v2, u1⟩, m1, m2⟩ := hY
  have hsz : y9.1 158 j = y.1 158 j := h1 _ _ (by omega) (by omega)
  rw [hsz] at v1 u1 m2
  have bxq : bxO κ y1 q n := by
    unfold bxO at hq ⊢
    rw [m1 36 n (by omega) (by omega) (by omega), m1 137 n (by omega) (by omega) (by omega), m2 36 n (by omega) (by omega)]
    exact hq
  replace m1 : ∀ a b, ¬ ((a = 59 ∧ b = j) ∨ (a = 158 ∧ b = j) ∨ (a = 258 ∧ b = j) ∨ (a = 36 ∧ b = n) ∨ (a = 137 ∧ b = n)) → y1.1 a b = y.1 a b := fun a b h => (m1 a b (by omega) (by omega) (by omega)).trans (h1 a b (by omega) (by omega))
  replace m2 : ∀ a b, ¬ ((a = 59 ∧ b = j) ∨ (a = 358 ∧ b = 16 * j + y.1 158 j) ∨ (a = 36 ∧ b = n)) → y1.2 a b = y.2 a b := fun a b h => (m2 a b (by omega) (by omega)).trans (h2 a b (by omega))
  have lv : ∀ a b, ¬ ((a = 59 ∧ b = j) ∨ (a = 158 ∧ b = j) ∨ (a = 258 ∧ b = j) ∨ (a = 36 ∧ b = n) ∨ (a = 137 ∧ b = n)) → live y a b → live y1 a b := fun a b hd hl => ⟨by rw [m1 a b hd]; exact hl.1, hl.2⟩
  have vl : ∀ a b, ¬ ((a = 59 ∧ b = j) ∨ (a = 158 ∧ b = j) ∨ (a = 258 ∧ b = j) ∨ (a = 36 ∧ b = n) ∨ (a = 137 ∧ b = n)) → live y1 a b → live y a b := fun a b hd hl => ⟨by rw [← m1 a b hd]; exact hl.1, hl.2⟩
  have bx : ∀ a n0, n0 ≠ n → bxO κ y a n0 → bxO κ y1 a n0 := fun a n0 hne hb => by
    unfold bxO at hb ⊢
    rw [m1 36 n0 (by omega), m1 137 n0 (by omega), m2 36 n0 (by omega)]
    exact hb
  obtain ⟨⟨c1, c2, c3, c4, c5, c6, c7, c8, c9, c10⟩, ⟨d1, d2, d3⟩, e3, e4, e6, e7, e8, e9, f1, f2, f3, f4, f5⟩ := h
  refine ⟨⟨lv 20 0 (by omega) c1, lv 50 0 (by omega) c2, lv 52 0 (by omega) c3, lv 54 0 (by omega) c4, lv 30 0 (by omega) c5, lv 31 0 (by omega) c6, lv 32 0 (by omega) c7, lv 33 0 (by omega) c8, lv 34 0 (by omega) c9, lv 35 0 (by omega) c10⟩, ⟨?_, ?_, ?_⟩, fun i hi => ?_, fun i hi => ?_, fun i hi => ?_, fun i hi => ?_, fun i hi => ?_, fun i hi => ?_, fun hi => ?_, fun hi => ?_, fun hi => ?_, fun i hi => ?_, fun i hi => ?_⟩
  · show y1.1 150 0 ≤ 8
    rw [m1 150 0 (by omega)]
    exact d1
  · show y1.1 152 0 ≤ 4
    rw [m1 152 0 (by omega)]
    exact d2
  · show y1.1 154 0 ≤ 8
    rw [m1 154 0 (by omega)]
    exact d3
  · replace hi : i < y1.1 150 0 := hi
    rw [m1 150 0 (by omega)] at hi
    obtain ⟨g1, g2⟩ := e3 i hi
    refine ⟨lv 21 i (by omega) g1, ?_⟩
    rw [m2 350 _ (by omega), m2 21 i (by omega)]
    exact g2
  · have h0 := vl 21 i (by omega) hi
    obtain ⟨⟨g1, g2, g3⟩, g4⟩ := e4 i h0
    exact ⟨⟨lv 22 i (by omega) g1, lv 23 i (by omega) g2, lv 24 i (by omega) g3⟩, g4⟩
  · replace hi : i < y1.1 152 0 := hi
    rw [m1 152 0 (by omega)] at hi
    obtain ⟨g1, g2⟩ := e6 i hi
    refine ⟨lv 26 i (by omega) g1, ?_⟩
    rw [m2 352 _ (by omega), m2 26 i (by omega)]
    exact g2
  · have h0 := vl 26 i (by omega) hi
    have hj4 := (e7 j hj).2.2.2.1
    have hjS := (e7 j hj).2.1
    have hjT := (e7 j hj).2.2.1
    obtain ⟨⟨g1, g2⟩, g3, g4, g5, g6, g7⟩ := e7 i h0
    by_cases hij : i = j
    · subst hij
      have hs : mS y1 i = mS y i := m1 156 i (by omega)
      have ht : mT y1 i = mT y i + 1 := v1
      refine ⟨⟨lv 56 i (by omega) g1, lv 58 i (by omega) g2⟩, by rw [hs]; exact g3, by rw [hs, ht]; omega, g5, fun t ht9 => ?_, fun t ht9 => ?_⟩
      · rw [hs] at ht9
        rw [m2 356 _ (by omega)]
        exact bx _ _ (by omega) (g6 t ht9)
      · rw [ht] at ht9
        by_cases htt : t = mT y i
        · subst htt
          rw [← hn, show y1.2 358 (16 * i + mT y i) = q from u1]
          exact bxq
        · have hne2 : t ≠ y.1 158 i := htt
          rw [m2 358 _ (by omega)]
          exact bx _ _ (by omega) (g7 t (by omega))
    · have hs : mS y1 i = mS y i := m1 156 i (by omega)
      have ht : mT y1 i = mT y i := m1 158 i (by omega)
      refine ⟨⟨lv 56 i (by omega) g1, lv 58 i (by omega) g2⟩, by rw [hs]; exact g3, by rw [hs, ht]; exact g4, g5, fun t ht9 => ?_, fun t ht9 => ?_⟩
      · rw [hs] at ht9
        have hsJ : y.1 156 j ≤ 5 := hjS
        rw [m2 356 _ (by omega)]
        exact bx _ _ (by omega) (g6 t ht9)
      · rw [ht] at ht9
        have hsJ : y.1 158 j ≤ 5 := Nat.le_trans hjT hjS
        rw [m2 358 _ (by omega)]
        exact bx _ _ (by omega) (g7 t ht9)
  · replace hi : i < y1.1 154 0 := hi
    rw [m1 154 0 (by omega)] at hi
    obtain ⟨g1, g2⟩ := e8 i hi
    refine ⟨lv 27 i (by omega) g1, ?_⟩
    rw [m2 354 _ (by omega), m2 27 i (by omega)]
    exact g2
  · have h0 := vl 27 i (by omega) hi
    obtain ⟨⟨g1, g2⟩, g3⟩ := e9 i h0
    exact ⟨⟨lv 28 i (by omega) g1, lv 29 i (by omega) g2⟩, g3⟩
  · replace hi : 0 < y1.1 150 0 := hi
    rw [m1 150 0 (by omega)] at hi
    exact lv 51 0 (by omega) (f1 hi)
  · replace hi : 0 < y1.1 152 0 := hi
    rw [m1 152 0 (by omega)] at hi
    exact lv 53 0 (by omega) (f2 hi)
  · replace hi : 0 < y1.1 154 0 := hi
    rw [m1 154 0 (by omega)] at hi
    exact lv 55 0 (by omega) (f3 hi)
  · replace hi : 0 < y1.1 156 i := hi
    rw [m1 156 i (by omega)] at hi
    exact lv 57 i (by omega) (f4 i hi)
  · by_cases hij : i = j
    · subst hij
      exact ⟨v0, by decide⟩
    · replace hi : 0 < y1.1 158 i := hi
      rw [m1 158 i (by omega)] at hi
      exact lv 59 i (by omega) (f5 i hi)
/-- the new lot's cells, taken back out of the world: as they stood before, the layout told nothing of them -/
theorem Rp.unL {κ : Kx} {w : Wd} {y y1 : Ly} {X : XR} {H : Heap} {n q a1 a2 : Nat} (h : Rp κ w y1 X [] H) (e : y1 = yMkL y n q a1 a2) (f1 : ¬ y.1 11 n = 1) (f2 : ¬ y.1 12 n = 1) (f3 : ¬ y.1 13 n = 1) (f4 : ¬ y.1 14 n = 1) :
    Rp κ w y X [(y1.2 11 n, ce κ y1 11 n (w.1 11 n) w.2), (y1.2 12 n, ce κ y1 12 n (w.1 12 n) w.2), (y1.2 13 n, ce κ y1 13 n (w.1 13 n) w.2)] H := by
  have v0 : live y1 11 n := ⟨by rw [e]; exact yMkL_f0, by decide⟩
  have v1 : live y1 12 n := ⟨by rw [e]; exact yMkL_f1, by decide⟩
  have v2 : live y1 13 n := ⟨by rw [e]; exact yMkL_f2, by decide⟩
  have key : ∀ a b, live y a b → ¬ ((a = 11 ∧ b = n) ∨ (a = 12 ∧ b = n) ∨ (a = 13 ∧ b = n)) ∧ live y1 a b ∧ y.2 a b = y1.2 a b ∧ ce κ y a b (w.1 a b) w.2 = ce κ y1 a b (w.1 a b) w.2 := fun a b hl => by
    have hA : ¬ ((a = 11 ∧ b = n) ∨ (a = 12 ∧ b = n) ∨ (a = 13 ∧ b = n)) := by
      rintro (⟨rfl, rfl⟩ | ⟨rfl, rfl⟩ | ⟨rfl, rfl⟩)
      · exact f1 hl.1
      · exact f2 hl.1
      · exact f3 hl.1
    have h14 : ¬ (a = 14 ∧ b = n) := by
      rintro ⟨rfl, rfl⟩
      exact f4 hl.1
    subst e
    exact ⟨hA, ⟨by rw [yMkL_1 (by omega)]; exact hl.1, hl.2⟩, (yMkL_2 (by omega)).symm, (ce_mkL hl.2 hA h14).symm⟩
  obtain ⟨a12, a3, a4, a5, a6, a7, a8⟩ := h
  refine ⟨a12, fun a b hl => ?_, fun a b a' b' hl hl' e9 => ?_, fun z g hz => ?_, fun t z hz => ?_, ⟨fun i j x z hi hj e9 => ?_, fun t z hz => ?_⟩, fun t z hz => ?_⟩
  · obtain ⟨-, k1, k2, k3⟩ := key a b hl
    rw [k2, k3]
    exact a3 a b k1
  · obtain ⟨-, k1, k2, -⟩ := key a b hl
    obtain ⟨-, l1, l2, -⟩ := key a' b' hl'
    exact a4 a b a' b' k1 l1 (k2.symm.trans (e9.trans l2))
  · obtain ⟨b1, b2, b3⟩ := a5 z g hz
    refine ⟨b1, b2, fun a b hl e9 => ?_⟩
    obtain ⟨-, k1, k2, -⟩ := key a b hl
    exact b3 a b k1 (k2.symm.trans e9)
  · have hlt := (List.getElem?_eq_some_iff.mp hz).1
    simp only [List.length_cons, List.length_nil] at hlt
    rcases (show t = 0 ∨ t = 1 ∨ t = 2 by omega) with rfl | rfl | rfl
    · cases hz; exact (a3 _ _ v0).1
    · cases hz; exact (a3 _ _ v1).1
    · cases hz; exact (a3 _ _ v2).1
  · have hlt := (List.getElem?_eq_some_iff.mp hi).1
    have hlt2 := (List.getElem?_eq_some_iff.mp hj).1
    simp only [List.length_cons, List.length_nil] at hlt hlt2
    rcases (show i = 0 ∨ i = 1 ∨ i = 2 by omega) with rfl | rfl | rfl <;> rcases (show j = 0 ∨ j = 1 ∨ j = 2 by omega) with rfl | rfl | rfl <;> cases hi <;> cases hj <;> first | rfl | (have := (a4 _ _ _ _ v0 v1 e9).1; omega) | (have := (a4 _ _ _ _ v0 v2 e9).1; omega) | (have := (a4 _ _ _ _ v1 v0 e9).1; omega) | (have := (a4 _ _ _ _ v1 v2 e9).1; omega) | (have := (a4 _ _ _ _ v2 v0 e9).1; omega) | (have := (a4 _ _ _ _ v2 v1 e9).1; omega)
  · have hlt := (List.getElem?_eq_some_iff.mp hz).1
    simp only [List.length_cons, List.length_nil] at hlt
    rcases (show t = 0 ∨ t = 1 ∨ t = 2 by omega) with rfl | rfl | rfl
    · cases hz; exact (a3 _ _ v0).2
    · cases hz; exact (a3 _ _ v1).2
    · cases hz; exact (a3 _ _ v2).2
  · have hlt := (List.getElem?_eq_some_iff.mp hz).1
    simp only [List.length_cons, List.length_nil] at hlt
    have sep : ∀ k0 i0, live y1 k0 i0 → ((k0 = 11 ∧ i0 = n) ∨ (k0 = 12 ∧ i0 = n) ∨ (k0 = 13 ∧ i0 = n)) → (∀ g, ¬ X (y1.2 k0 i0) g) ∧ ∀ a b, live y a b → y.2 a b ≠ y1.2 k0 i0 := fun k0 i0 h0 hA0 => ⟨fun g hg => (a5 _ g hg).2.2 k0 i0 h0 rfl, fun a b hl e9 => by
      obtain ⟨k0', k1, k2, -⟩ := key a b hl
      obtain ⟨rfl, rfl⟩ := a4 a b k0 i0 k1 h0 (k2.symm.trans e9)
      exact k0' hA0⟩
    rcases (show t = 0 ∨ t = 1 ∨ t = 2 by omega) with rfl | rfl | rfl
    · cases hz; exact sep 11 n v0 (by omega)
    · cases hz; exact sep 12 n v1 (by omega)
    · cases hz; exact sep 13 n v2 (by omega)
def wRe (w' w : Wd) (n : Nat) : Wd := sr (sr (sr w' 11 n (w.1 11 n)) 12 n (w.1 12 n)) 13 n (w.1 13 n)
/-- .. and put back -/
theorem Rp.reL {κ : Kx} {w w' : Wd} {y y1 : Ly} {X : XR} {H : Heap} {n q a1 a2 : Nat} (e : y1 = yMkL y n q a1 a2) (h : Rp κ w' y X [(y1.2 11 n, ce κ y1 11 n (w.1 11 n) w.2), (y1.2 12 n, ce κ y1 12 n (w.1 12 n) w.2), (y1.2 13 n, ce κ y1 13 n (w.1 13 n) w.2)] H) : Rp κ (wRe w' w n) y1 X [] H := by
  have wn : ∀ a b, ¬ ((a = 11 ∧ b = n) ∨ (a = 12 ∧ b = n) ∨ (a = 13 ∧ b = n)) → (wRe w' w n).1 a b = w'.1 a b := fun a b hA => by
    unfold wRe
    rw [sr_ne (fun e => hA (by omega)), sr_ne (fun e => hA (by omega)), sr_ne (fun e => hA (by omega))]
  have w0 : (wRe w' w n).1 11 n = w.1 11 n := by
    unfold wRe
    rw [sr_ne (fun e => by omega), sr_ne (fun e => by omega), sr_same]
  have w1 : (wRe w' w n).1 12 n = w.1 12 n := by
    unfold wRe
    rw [sr_ne (fun e => by omega), sr_same]
  have w2 : (wRe w' w n).1 13 n = w.1 13 n := by
    unfold wRe
    rw [sr_same]
  have hd := h.LD.1
  refine h.back (X := X) (w' := wRe w' w n) (y' := y1) (L' := []) (fun _ _ hx => hx) (fun a b => (a = 11 ∧ b = n) ∨ (a = 12 ∧ b = n) ∨ (a = 13 ∧ b = n)) (fun a b hl hA => ?_) (fun a b hl hA => Or.inr ?_) (fun a b a' b' _ _ hA hA' e9 => ?_) (fun t q h => by simp at h) va_D0
  · have h9 := hl.1
    have hk := hl.2
    have h14 : ¬ (a = 14 ∧ b = n) := by
      rintro ⟨rfl, rfl⟩
      rw [e, yMkL_f3] at h9
      cases h9
    subst e
    rw [yMkL_1 (by omega)] at h9
    refine ⟨⟨h9, hk⟩, yMkL_2 (by omega), ?_⟩
    rw [wn a b hA]
    exact ce_mkL hk hA h14
  · rcases hA with ⟨rfl, rfl⟩ | ⟨rfl, rfl⟩ | ⟨rfl, rfl⟩
    · exact ⟨0, by rw [w0]; rfl⟩
    · exact ⟨1, by rw [w1]; rfl⟩
    · exact ⟨2, by rw [w2]; rfl⟩
  · rcases hA with ⟨rfl, rfl⟩ | ⟨rfl, rfl⟩ | ⟨rfl, rfl⟩ <;> rcases hA' with ⟨rfl, hb⟩ | ⟨rfl, hb⟩ | ⟨rfl, hb⟩ <;> subst hb <;> first | exact ⟨rfl, rfl⟩ | (have := hd 0 1 _ _ rfl rfl e9; omega) | (have := hd 0 2 _ _ rfl rfl e9; omega) | (have := hd 1 0 _ _ rfl rfl e9; omega) | (have := hd 1 2 _ _ rfl rfl e9; omega) | (have := hd 2 0 _ _ rfl rfl e9; omega) | (have := hd 2 1 _ _ rfl rfl e9; omega)
