/-! ArrayList.set (printed by wip gen/setp.py) -/
set_option maxRecDepth 100000
theorem laC_put {κ : Kx} {y : Ly} {k i j q : Nat} (hj : j < y.1 (k + 100) i) (h16 : j < 16) : laC κ (seA y (k + 300) (16 * i + j) q) k i = .inl (kT κ 4, (10, .inr (.inr (.inr (.inr (va_up (laF y k i) j (some q))))))) := by
  have e : laF (seA y (k + 300) (16 * i + j) q) k i = va_up (laF y k i) j (some q) := by
    funext t
    unfold laF va_up
    by_cases ht : t = j
    · subst ht
      rw [if_pos ⟨hj, h16⟩, if_pos rfl, seA_eq]
    · rw [if_neg ht, seA_ne (fun e => ht (by omega))]
      rfl
  unfold laC
  rw [e]
theorem laF_ne {y : Ly} {k i k' i' j q : Nat} (h16 : j < 16) (h : ¬ (k' = k ∧ i' = i)) : laF (seA y (k + 300) (16 * i + j) q) k' i' = laF y k' i' := by
  funext t
  unfold laF
  by_cases ht : t < y.1 (k' + 100) i' ∧ t < 16
  · rw [if_pos ht, if_pos (show t < (seA y (k + 300) (16 * i + j) q).1 (k' + 100) i' ∧ t < 16 from ht), seA_ne (fun e => h ⟨by omega, by omega⟩)]
  · rw [if_neg ht, if_neg (show ¬ (t < (seA y (k + 300) (16 * i + j) q).1 (k' + 100) i' ∧ t < 16) from ht)]
theorem ce_set {κ : Kx} {y : Ly} {k i j q k' i' : Nat} {g : Nat → Int32} {d : Int64} (hk : k % 2 = 0) (h16 : j < 16) (hn : ¬ (k' = k + 1 ∧ i' = i)) : ce κ (seA y (k + 300) (16 * i + j) q) k' i' g d = ce κ y k' i' g d := by
  have a2 : ∀ k', k' < 300 → (seA y (k + 300) (16 * i + j) q).2 k' = y.2 k' := fun k' h => funext fun i' => seA_ne (fun e => by omega)
  unfold ce
  split
  all_goals first
    | rfl
    | (split
       · exact lsC_eq rfl rfl rfl (seA_ne (fun e => by omega))
       · unfold laC
         rw [laF_ne h16 (fun e => hn ⟨by omega, e.2⟩)])
    | (simp only [a2 25 (by decide), a2 1 (by decide), a2 2 (by decide), a2 3 (by decide), a2 4 (by decide), a2 5 (by decide), a2 7 (by decide), a2 8 (by decide), a2 9 (by decide), a2 12 (by decide), a2 13 (by decide), a2 14 (by decide), a2 16 (by decide), a2 22 (by decide), a2 23 (by decide), a2 24 (by decide), a2 28 (by decide), a2 29 (by decide), a2 30 (by decide), a2 31 (by decide), a2 32 (by decide), a2 33 (by decide), a2 34 (by decide), a2 35 (by decide), a2 40 (by decide), a2 42 (by decide), a2 44 (by decide), a2 46 (by decide), a2 48 (by decide), a2 50 (by decide), a2 52 (by decide), a2 54 (by decide), a2 56 (by decide), a2 58 (by decide)]; done)
    | (simp only [a2 25 (by decide), a2 1 (by decide), a2 2 (by decide), a2 3 (by decide), a2 4 (by decide), a2 5 (by decide), a2 7 (by decide), a2 8 (by decide), a2 9 (by decide), a2 12 (by decide), a2 13 (by decide), a2 14 (by decide), a2 16 (by decide), a2 22 (by decide), a2 23 (by decide), a2 24 (by decide), a2 28 (by decide), a2 29 (by decide), a2 30 (by decide), a2 31 (by decide), a2 32 (by decide), a2 33 (by decide), a2 34 (by decide), a2 35 (by decide), a2 40 (by decide), a2 42 (by decide), a2 44 (by decide), a2 46 (by decide), a2 48 (by decide), a2 50 (by decide), a2 52 (by decide), a2 54 (by decide), a2 56 (by decide), a2 58 (by decide)]; rfl)
theorem hd_J2_set : yJ2_set.cls = RJ2 ∧ yJ2_set.cls ≠ "java/lang/invoke/MethodHandle" ∧ yJ2_set.cls ≠ "java/lang/invoke/VarHandle" ∧ (parseMethodDescriptor yJ2_set.desc).map (fun d => d.parameters.length) = some 2 := by decide +kernel
abbrev rm_J2_set : Room := { frames := 2, locals := 72 }
set_option maxHeartbeats 4000000 in
theorem m_J2_set {l : Launch} {κ : Kx} {w : Wd} {y : Ly} {X : XR} {k i : Nat} (hk : IsLs k) (hl0 : live y k i) (hA : LsA y k i) (hke : k % 2 = 0) {j : Int32} (hj : vp_in j (y.1 (k + 100) i)) {q ci : Nat} {vs : List Value} {r : vw_C} (hX : ∀ H : Heap, Rp κ w y X [] H → va_at (kD κ) Cl (q, .inr (ci, vs)) H) (hc : Cl[ci]? = some r) (hq : (r.1, "java/lang/Object") ∈ nwC) : Met l yJ2_set (ws_ yJ2_set cJ2_set 4 (Option.some (Jvm.ClassFile.FieldType.object "java/lang/Object"))) rm_J2_set (va_Pc [.ref (y.2 k i), .int j, .ref q] (RC κ w y X)) (va_Qr (fun _ : Unit => True) (fun _ _ t => Rp κ w (seA y (k + 300) (16 * i + j.toNatClampNeg) q) X [] t.heap) (Af κ)) 0 0 (Af κ) := by
  refine Met.ofW (cc := cJ2_set) (maxL := 4) (ret := (Option.some (Jvm.ClassFile.FieldType.object "java/lang/Object"))) (by decide) rfl ?_
  intro p e s m args below meth c s₁ B hml hv
  obtain ⟨rfl, hR, hK⟩ := hv
  have hx := B.exec
  have hb := B.bytes
  have hr := B.returns
  have hts := atoms_spec (ws := ws_ yJ2_set cJ2_set 4 (Option.some (Jvm.ClassFile.FieldType.object "java/lang/Object"))) B.pre
  have hts : ∀ w ∈ lw_all, w.before _ s = true := fun w h => hts w (List.mem_cons_of_mem _ h)
  have hown : s.vm.findClass RJ2 = some m.cls := findClass_of_methodNamed B.named
  have hlocks := B.notSynchronized
  have hS : va_S (Af κ) s.heap s.heap [] := va_S.rf
  have hl := lv_entry ([.ref (y.2 k i), .int j, .ref q]) (n := 4) (Nat.le_of_ble_eq_true rfl)
  rw [lg_entry_eq]
  generalize (lg_sl ([.ref (y.2 k i), .int j, .ref q]) ++ List.replicate (4 - (lg_sl ([.ref (y.2 k i), .int j, .ref q])).length) Slot.unset).toArray = ls at hl ⊢
  have hl : lv_has ls 4 [(0, .ref (y.2 k i)), (1, .int j), (2, .ref q)] := hl
  have hL := hR.role hl0
  rw [hk.1] at hL
  have hM := hR.role hA.1
  rw [hk.2] at hM
  have hj9 := vp_lt hj
  have h16 : j.toNatClampNeg < 16 := by have := hA.2; omega
  have h10 : vp_in j 10 := fun q => hj (q.imp id (fun z => by have := hA.2; omega))
  have h0 : ¬ j < 0 := fun q => hj (Or.inl q)
  have h1 : j < nI (y.1 (k + 100) i) := by
    obtain ⟨z, hz, rfl⟩ := vp_in_of hj (by have := hA.2; omega)
    exact nI_lt hz (by have := hA.2; omega)
  refine lv_iload_n hx hb dJ2_set_0 rfl (lv_at hl 1 rfl) ?_
  refine lv_aload_n hx hb dJ2_set_1 rfl (lv_at hl 0 rfl) ?_
  refine xa_get (T := TJ2) (N := 3) (v := .int (nI (y.1 (k + 100) i))) hx hb hts in_J2 hown hK.1 hL rfl 2 (by decide) q146 rfl rfl dJ2_set_2 ?_
  refine ce_s (cr_S (n := 2) (As := [.int j, .int (nI (y.1 (k + 100) i))]) (rest := []) ⟨hx, hb, hml, hown, hts⟩ hK hR (m_J13_checkIndex h0 h1) q689 q690 q100 q691 rfl rfl hds_J13_checkIndex ⟨Nat.le_of_ble_eq_true rfl, Nat.le_of_ble_eq_true rfl⟩ rfl rfl hl.1 rfl (lv_room (Nat.le_of_ble_eq_true rfl)) dJ2_set_5 ⟨Nat.le_of_ble_eq_true rfl, Nat.le_of_ble_eq_true rfl⟩) ?_
  refine lv_pop hx hb dJ2_set_8 rfl ?_
  refine lv_aload_n hx hb dJ2_set_9 rfl (lv_at hl 0 rfl) ?_
  refine lv_iload_n hx hb dJ2_set_10 rfl (lv_at hl 1 rfl) ?_
  refine ce_s (cr_V (n := 1) (As := [.int j]) (rest := []) ⟨hx, hb, hml, hown, hts⟩ hK hR (m_J2_elementData hk hl0 hA hj) q695 q696 q697 q77 q698 rfl rfl hd_J2_elementData ⟨Nat.le_of_ble_eq_true rfl, Nat.le_of_ble_eq_true rfl⟩ (rv_ls hK hR hk hl0) rfl rfl hl.1 rfl (lv_room (Nat.le_of_ble_eq_true rfl)) dJ2_set_11 ⟨Nat.le_of_ble_eq_true rfl, Nat.le_of_ble_eq_true rfl⟩) ?_
  refine lv_astore_n (lv' := [(3, .ref (y.2 (k + 300) (16 * i + j.toNatClampNeg))), (0, .ref (y.2 k i)), (1, .int j), (2, .ref q)]) hx hb dJ2_set_14 rfl hl (by decide) rfl (fun ls hl => ?_)
  refine lv_aload_n hx hb dJ2_set_15 rfl (lv_at hl 1 rfl) ?_
  refine xa_get (T := TJ2) (N := 3) (v := .ref (y.2 (k + 1) i)) hx hb hts in_J2 hown hK.1 hL rfl 1 (by decide) q143 rfl (by rw [if_pos (show y.1 (k + 1) i = 1 from hA.1.1)]; rfl) dJ2_set_16 ?_
  refine lv_iload_n hx hb dJ2_set_19 rfl (lv_at hl 2 rfl) ?_
  refine lv_aload_n hx hb dJ2_set_20 rfl (lv_at hl 3 rfl) ?_
  refine xa_aast hx hb hK.1 hS (hR.2.1 _ _ hA.1).2 hM 4 rfl (hK.2.1.2.2.1 _ hq) (hX _ hR) hc h10 dJ2_set_21 (fun H1 locs h1 hz ho hS => ?_)
  have hR : Rp κ w (seA y (k + 300) (16 * i + j.toNatClampNeg) q) X [] H1 := by
    refine hR.absorb (A := fun _ _ => False) (w' := w) (L' := []) hA.1 id (seA_ne (fun e => by omega)) ?_ hz ho ?_ (fun _ _ _ h => h.elim) (fun _ _ _ _ h => h.elim) (fun t q h => by simp at h) va_D0
    · rw [hk.2, laC_put hj9 h16]
      exact h1
    · intro k' i' h _ hn
      exact ⟨h, seA_ne (fun e => by have := h.2; omega), ce_set hke h16 hn⟩
  refine lv_aload_n hx hb dJ2_set_22 rfl (lv_at hl 0 rfl) ?_
  exact W.aret hx hb hr (Or.inl ⟨_, rfl⟩) (Or.inr ⟨_, rfl⟩) (fun t ht _ => ⟨⟨(), _, rfl, trivial, rpt ht hR⟩, hS.F ht⟩) hS.2.2 dJ2_set_23
/-- what a new levy makes of the world and of the layout -/
def wLev (w : Wd) (e : Nat) (a b c d l f : Int32) : Wd := sv (sv (sv (sv (sv (sv w 16 e 0 a) 16 e 1 b) 16 e 2 c) 16 e 3 d) 16 e 4 l) 16 e 5 f
def yLev (y : Ly) (v d qL qO : Nat) : Ly := seF (seF (seA (seA (seA y 346 (16 * v + d) qO) 15 (3 * v + d) qO) 16 (3 * v + d) qL) 15 (3 * v + d) 1) 16 (3 * v + d) 1
theorem wLev_ne {w : Wd} {e k i : Nat} {a b c d l f : Int32} (h : ¬ (k = 16 ∧ i = e)) : (wLev w e a b c d l f).1 k i = w.1 k i := by
  unfold wLev
  rw [sv_ne _ _ _ _ _ h, sv_ne _ _ _ _ _ h, sv_ne _ _ _ _ _ h, sv_ne _ _ _ _ _ h, sv_ne _ _ _ _ _ h, sv_ne _ _ _ _ _ h]
theorem wLev_2 {w : Wd} {e : Nat} {a b c d l f : Int32} : (wLev w e a b c d l f).2 = w.2 := rfl
theorem yLev_1 {y : Ly} {v d qL qO k i : Nat} (h15 : ¬ (k = 15 ∧ i = 3 * v + d)) (h16 : ¬ (k = 16 ∧ i = 3 * v + d)) : (yLev y v d qL qO).1 k i = y.1 k i := by
  unfold yLev
  rw [seF_ne h16, seF_ne h15]
  rfl
theorem yLev_2 {y : Ly} {v d qL qO k i : Nat} (h : ¬ (k = 346 ∧ i = 16 * v + d)) (h15 : ¬ (k = 15 ∧ i = 3 * v + d)) (h16 : ¬ (k = 16 ∧ i = 3 * v + d)) : (yLev y v d qL qO).2 k i = y.2 k i := by
  show (seA (seA (seA y 346 (16 * v + d) qO) 15 (3 * v + d) qO) 16 (3 * v + d) qL).2 k i = _
  rw [seA_ne h16, seA_ne h15, seA_ne h]
theorem leS_lev {y : Ly} {v d qL qO : Nat} : LeS y (yLev y v d qL qO) := LeS.trans (LeS.trans (LeS.trans (LeS.trans (LeS.seA rfl) (LeS.seA rfl)) (LeS.seA rfl)) (LeS.seF rfl)) (LeS.seF rfl)
theorem yLev_a16 {y : Ly} {v d qL qO : Nat} : (yLev y v d qL qO).2 16 (3 * v + d) = qL := seA_eq
theorem yLev_a15 {y : Ly} {v d qL qO : Nat} : (yLev y v d qL qO).2 15 (3 * v + d) = qO := by
  show (seA (seA (seA y 346 (16 * v + d) qO) 15 (3 * v + d) qO) 16 (3 * v + d) qL).2 15 (3 * v + d) = _
  rw [seA_ne (fun e => by omega), seA_eq]
theorem yLev_a346 {y : Ly} {v d qL qO : Nat} : (yLev y v d qL qO).2 346 (16 * v + d) = qO := by
  show (seA (seA (seA y 346 (16 * v + d) qO) 15 (3 * v + d) qO) 16 (3 * v + d) qL).2 346 (16 * v + d) = _
  rw [seA_ne (fun e => by omega), seA_ne (fun e => by omega), seA_eq]
theorem yLev_f15 {y : Ly} {v d qL qO : Nat} : (yLev y v d qL qO).1 15 (3 * v + d) = 1 := by
  unfold yLev
  rw [seF_ne (fun e => by omega), seF_eq]
theorem yLev_f16 {y : Ly} {v d qL qO : Nat} : (yLev y v d qL qO).1 16 (3 * v + d) = 1 := seF_eq
theorem WFc.lev9 {κ : Kx} {y : Ly} {v d qL qO : Nat} (h : WFc κ y) (hd : d < 3) : WFc κ (yLev y v d qL qO) := by
  have e1 : ∀ k, k ≠ 15 → k ≠ 16 → (yLev y v d qL qO).1 k = y.1 k := fun k h5 h6 => funext fun i => yLev_1 (fun e => h5 e.1) (fun e => h6 e.1)
  have e2 : ∀ k, k ≠ 15 → k ≠ 16 → k ≠ 346 → (yLev y v d qL qO).2 k = y.2 k := fun k h5 h6 h7 => funext fun i => yLev_2 (fun e => h7 e.1) (fun e => h5 e.1) (fun e => h6 e.1)
  unfold WFc live nV nC nL nP at h ⊢
  simp only [e1 0 (by decide) (by decide), e1 1 (by decide) (by decide), e1 2 (by decide) (by decide), e1 3 (by decide) (by decide), e1 4 (by decide) (by decide), e1 5 (by decide) (by decide), e1 6 (by decide) (by decide), e1 7 (by decide) (by decide), e1 8 (by decide) (by decide), e1 9 (by decide) (by decide), e1 10 (by decide) (by decide), e1 11 (by decide) (by decide), e1 12 (by decide) (by decide), e1 13 (by decide) (by decide), e1 40 (by decide) (by decide), e1 41 (by decide) (by decide), e1 42 (by decide) (by decide), e1 43 (by decide) (by decide), e1 44 (by decide) (by decide), e1 45 (by decide) (by decide), e1 46 (by decide) (by decide), e1 47 (by decide) (by decide), e1 48 (by decide) (by decide), e1 49 (by decide) (by decide), e1 140 (by decide) (by decide), e1 142 (by decide) (by decide), e1 144 (by decide) (by decide), e1 146 (by decide) (by decide), e1 148 (by decide) (by decide), e2 340 (by decide) (by decide) (by decide), e2 342 (by decide) (by decide) (by decide), e2 344 (by decide) (by decide) (by decide), e2 348 (by decide) (by decide) (by decide), e2 6 (by decide) (by decide) (by decide), e2 9 (by decide) (by decide) (by decide), e2 10 (by decide) (by decide) (by decide), e2 11 (by decide) (by decide) (by decide)]
  obtain ⟨b1, b2, b3, b4, b5, b6⟩ := h
  refine ⟨b1, b2, b3, fun i hi => ?_, fun q hq => ?_, b6⟩
  · obtain ⟨c1, c2, c3, c4⟩ := b4 i hi
    refine ⟨c1, c2, c3, fun d' hd' => ?_⟩
    by_cases hc : i = v ∧ d' = d
    · obtain ⟨rfl, rfl⟩ := hc
      rw [yLev_f15, if_pos rfl, yLev_a15, yLev_a346]
    · rw [yLev_1 (fun e => hc (by omega)) (fun e => by omega), yLev_2 (fun e => hc (by omega)) (fun e => by omega) (fun e => by omega), yLev_2 (fun e => by omega) (fun e => hc (by omega)) (fun e => by omega)]
      exact c4 d' hd'
  · by_cases hc : q = 3 * v + d
    · subst hc
      exact ⟨yLev_f16, by decide⟩
    · have h9 := hq.1
      rw [yLev_1 (fun e => hc e.2) (fun e => by omega)] at h9
      rw [yLev_1 (fun e => by omega) (fun e => hc e.2)]
      exact b5 q ⟨h9, hq.2⟩
theorem ce_lev2 {κ : Kx} {y : Ly} {v d qL qO k i : Nat} {g : Nat → Int32} {l : Int64} (h15 : ¬ (k = 15 ∧ i = 3 * v + d)) (_h16 : ¬ (k = 16 ∧ i = 3 * v + d)) : ce κ (yLev y v d qL qO) k i g l = ce κ (seA y 346 (16 * v + d) qO) k i g l := by
  have e1 : ∀ k', k' ≠ 15 → k' ≠ 16 → (yLev y v d qL qO).1 k' = y.1 k' := fun k h5 h6 => funext fun i => yLev_1 (fun e => h5 e.1) (fun e => h6 e.1)
  have f1 : ∀ k', k' ≠ 15 → k' ≠ 16 → (yLev y v d qL qO).1 k' = (seA y 346 (16 * v + d) qO).1 k' := fun k' h5 h6 => e1 k' h5 h6
  have f2 : ∀ k' i', ¬ (k' = 15 ∧ i' = 3 * v + d) → ¬ (k' = 16 ∧ i' = 3 * v + d) → (yLev y v d qL qO).2 k' i' = (seA y 346 (16 * v + d) qO).2 k' i' := fun k' i' h5 h6 => by
    show (seA (seA (seA y 346 (16 * v + d) qO) 15 (3 * v + d) qO) 16 (3 * v + d) qL).2 k' i' = _
    rw [seA_ne h6, seA_ne h5]
  have f3 : ∀ k', k' ≠ 15 → k' ≠ 16 → (yLev y v d qL qO).2 k' = (seA y 346 (16 * v + d) qO).2 k' := fun k' h5 h6 => funext fun i' => f2 k' i' (fun e => h5 e.1) (fun e => h6 e.1)
  generalize yLev y v d qL qO = y1 at *
  generalize seA y 346 (16 * v + d) qO = y0 at *
  unfold ce
  split
  all_goals first
    | rfl
    | (have n14 : k ≠ 14 := by assumption
       split
       · exact lsC_eq (by rw [f1 _ (by omega) (by omega)]) (by rw [f1 _ (by omega) (by omega)]) (by rw [f1 _ (by omega) (by omega)]) (by rw [f3 _ (by omega) (by omega)])
       · exact laC_eq (by rw [f1 _ (by omega) (by omega)]) (f3 _ (by omega) (by omega)))
    | (rw [f2 16 i (fun e => by omega) (fun e => h15 ⟨rfl, e.2⟩)]; done)
    | (rw [f2 16 i (fun e => by omega) (fun e => h15 ⟨rfl, e.2⟩)]; rfl)
    | (simp only [f1 14 (by decide) (by decide), f1 25 (by decide) (by decide), f3 25 (by decide) (by decide), f3 1 (by decide) (by decide), f3 2 (by decide) (by decide), f3 3 (by decide) (by decide), f3 4 (by decide) (by decide), f3 5 (by decide) (by decide), f3 7 (by decide) (by decide), f3 8 (by decide) (by decide), f3 9 (by decide) (by decide), f3 12 (by decide) (by decide), f3 13 (by decide) (by decide), f3 14 (by decide) (by decide), f3 22 (by decide) (by decide), f3 23 (by decide) (by decide), f3 24 (by decide) (by decide), f3 28 (by decide) (by decide), f3 29 (by decide) (by decide), f3 30 (by decide) (by decide), f3 31 (by decide) (by decide), f3 32 (by decide) (by decide), f3 33 (by decide) (by decide), f3 34 (by decide) (by decide), f3 35 (by decide) (by decide), f3 40 (by decide) (by decide), f3 42 (by decide) (by decide), f3 44 (by decide) (by decide), f3 46 (by decide) (by decide), f3 48 (by decide) (by decide), f3 50 (by decide) (by decide), f3 52 (by decide) (by decide), f3 54 (by decide) (by decide), f3 56 (by decide) (by decide), f3 58 (by decide) (by decide)]; done)
    | (simp only [f1 14 (by decide) (by decide), f1 25 (by decide) (by decide), f3 25 (by decide) (by decide), f3 1 (by decide) (by decide), f3 2 (by decide) (by decide), f3 3 (by decide) (by decide), f3 4 (by decide) (by decide), f3 5 (by decide) (by decide), f3 7 (by decide) (by decide), f3 8 (by decide) (by decide), f3 9 (by decide) (by decide), f3 12 (by decide) (by decide), f3 13 (by decide) (by decide), f3 14 (by decide) (by decide), f3 22 (by decide) (by decide), f3 23 (by decide) (by decide), f3 24 (by decide) (by decide), f3 28 (by decide) (by decide), f3 29 (by decide) (by decide), f3 30 (by decide) (by decide), f3 31 (by decide) (by decide), f3 32 (by decide) (by decide), f3 33 (by decide) (by decide), f3 34 (by decide) (by decide), f3 35 (by decide) (by decide), f3 40 (by decide) (by decide), f3 42 (by decide) (by decide), f3 44 (by decide) (by decide), f3 46 (by decide) (by decide), f3 48 (by decide) (by decide), f3 50 (by decide) (by decide), f3 52 (by decide) (by decide), f3 54 (by decide) (by decide), f3 56 (by decide) (by decide), f3 58 (by decide) (by decide)]; rfl)
section ST
variable {p : Program} {l : Launch} {e : Env} {R : Room} {s : State} {m : MethodId} {args : Array Value} {below : List Frame} {meth : Method} {c : Code} {H : Heap} {locs : List Loc} {cells slots : Nat} {Q : State → Prop}
variable {cc : ByteArray} {pc nL index : Nat} {ls : Array Slot} {rest : List Value} {κ : Kx} {w : Wd} {y : Ly} {X : XR} {L : va_W} {own : String}
theorem jr_set46 (S : CallFix p m c cc nL s args lw_all own) (hK : KK κ s) (hR : Rp κ w y X L H) (hS : va_S (Af κ) s.heap H locs) (hW : WFc κ y) {v : Nat} (hv : live y 6 v) {j : Int32} (hj : vp_in j (y.1 (46 + 100) v)) {qL qO : Nat} {a b c1 d l1 f : Int32} (hL : L = [(qL, .inr (10, [.int a, .int b, .int c1, .int d, .int l1, .int f])), (qO, .inr (18, [.ref qL]))]) (q1 : Cond.methodLink own index yJ2_set ∈ lw_all) (hRm : rm_J2_set.frames + 1 ≤ R.frames ∧ 8 + (4 + 11) + rm_J2_set.locals ≤ R.locals) (hsize : ls.size = nL) (hWd : (rest.map fun v => v.category).sum ≤ 8) (hdg : decode cc pc = .ok (.invokevirtual index, 3)) (hf : cells + 0 ≤ R.cells ∧ slots + 0 ≤ R.slots)
    (kk : ∀ (a9 : Nat) (H1 : Heap) (locs1 : List Loc) (w1 : Wd) (y1 : Ly), w1 = wLev w (3 * v + j.toNatClampNeg) a b c1 d l1 f → y1 = yLev y v j.toNatClampNeg qL qO → Rp κ w1 y1 X [] H1 → va_S (Af κ) s.heap H1 locs1 → W p l e R s m args below meth c H1 locs1 cells slots Q (F0 m (pc + 3) ls (.ref a9 :: rest))) : W p l e R s m args below meth c H locs cells slots Q (F0 m pc ls (.ref qO :: .int j :: .ref (y.2 46 v) :: rest)) := by
  have h3 : y.1 (46 + 100) v = 3 := hW.vl3 hv
  have hd3 : j.toNatClampNeg < 3 := by have := vp_lt hj; omega
  have hv8 := hW.vi8 hv
  have hk : IsLs 46 := ⟨fun _ _ _ _ _ => rfl, fun _ _ _ _ _ => rfl⟩
  have hLA : LsA y 46 v := ⟨hW.vla hv, by omega⟩
  have hM := m_J2_set (l := l) (κ := κ) (w := w) (y := y) (X := xl X L) hk (hW.vle hv) hLA rfl hj (q := qO) (ci := 18) (vs := [.ref qL]) (fun H hR => hR.X (Or.inr ⟨1, by rw [hL]; rfl⟩)) rfl (List.mem_of_getElem? (i := 18) rfl)
  refine va_callr (cr_V (n := 2) (As := [.int j, .ref qO]) (rest := rest) S hK hR hM q1 q1567 q1568 q77 q1569 rfl rfl hd_J2_set hRm (rv_ls hK hR hk (hW.vle hv)) rfl rfl hsize rfl (lv_room hWd) hdg hf) hS (fun _ _ h => h) (fun _ h => h) (fun u a9 t H1 locs1 ht _ _ hB _ _ hS => ?_)
  have hR : Rp κ w (seA y 346 (16 * v + j.toNatClampNeg) qO) X L H1 := hR.up (by rw [← ht]; exact hB)
  refine kk a9 H1 locs1 _ _ rfl rfl ?_ hS
  generalize j.toNatClampNeg = d0 at hd3 hR ⊢
  subst hL
  have hl46 : live (seA y 346 (16 * v + d0) qO) 46 v := hW.vle hv
  have h46 := hR.role hl46
  have g2 : ∀ k i, ¬ (k = 15 ∧ i = 3 * v + d0) → ¬ (k = 16 ∧ i = 3 * v + d0) → (yLev y v d0 qL qO).2 k i = (seA y 346 (16 * v + d0) qO).2 k i := fun k i h5 h6 => by
    show (seA (seA (seA y 346 (16 * v + d0) qO) 15 (3 * v + d0) qO) 16 (3 * v + d0) qL).2 k i = _
    rw [seA_ne h6, seA_ne h5]
  refine hR.absorb (A := fun k i => (k = 15 ∨ k = 16) ∧ i = 3 * v + d0) (k0 := 46) (i0 := v) (L' := []) hl46 (fun h => by omega) (g2 _ _ (fun e => by omega) (fun e => by omega)) ?_ rfl (fun _ _ => rfl) ?_ ?_ ?_ (fun t q h => by simp at h) va_D0
  · rw [wLev_ne (fun e => by omega), wLev_2, ce_lev2 (fun e => by omega) (fun e => by omega)]
    exact h46
  · intro k i h hA hn
    have h5 : ¬ (k = 15 ∧ i = 3 * v + d0) := fun e => hA ⟨Or.inl e.1, e.2⟩
    have h6 : ¬ (k = 16 ∧ i = 3 * v + d0) := fun e => hA ⟨Or.inr e.1, e.2⟩
    have h9 := h.1
    rw [yLev_1 h5 h6] at h9
    refine ⟨⟨h9, h.2⟩, g2 k i h5 h6, ?_⟩
    rw [wLev_ne h6, wLev_2]
    exact ce_lev2 h5 h6
  · rintro k i h ⟨rfl | rfl, rfl⟩
    · refine ⟨1, ?_⟩
      rw [yLev_a15]
      show some (qO, Sum.inr (18, [Value.ref qL])) = some (qO, Sum.inr (18, [Value.ref ((yLev y v d0 qL qO).2 16 (3 * v + d0))]))
      rw [yLev_a16]
    · refine ⟨0, ?_⟩
      rw [yLev_a16]
      have h9 : ∀ n : Nat, n = 3 * v + d0 → (wLev w n a b c1 d l1 f).1 16 n 0 = a ∧ (wLev w n a b c1 d l1 f).1 16 n 1 = b ∧ (wLev w n a b c1 d l1 f).1 16 n 2 = c1 ∧ (wLev w n a b c1 d l1 f).1 16 n 3 = d ∧ (wLev w n a b c1 d l1 f).1 16 n 4 = l1 ∧ (wLev w n a b c1 d l1 f).1 16 n 5 = f := fun n _ => by simp [wLev, sv]
      obtain ⟨g0, g1, g2', g3, g4, g5⟩ := h9 _ rfl
      show some (qL, Sum.inr (10, [Value.int a, Value.int b, Value.int c1, Value.int d, Value.int l1, Value.int f])) = some (qL, Sum.inr (10, [Value.int ((wLev w (3 * v + d0) a b c1 d l1 f).1 16 (3 * v + d0) 0), Value.int ((wLev w (3 * v + d0) a b c1 d l1 f).1 16 (3 * v + d0) 1), Value.int ((wLev w (3 * v + d0) a b c1 d l1 f).1 16 (3 * v + d0) 2), Value.int ((wLev w (3 * v + d0) a b c1 d l1 f).1 16 (3 * v + d0) 3), Value.int ((wLev w (3 * v + d0) a b c1 d l1 f).1 16 (3 * v + d0) 4), Value.int ((wLev w (3 * v + d0) a b c1 d l1 f).1 16 (3 * v + d0) 5)]))
      rw [g0, g1, g2', g3, g4, g5]
  · rintro k i k' i' ⟨h1, h2⟩ ⟨h1', h2'⟩ e9
    refine ⟨?_, h2.trans h2'.symm⟩
    have hne : qL ≠ qO := fun e => by have := hR.LD.1 0 1 (qL, .inr (10, [.int a, .int b, .int c1, .int d, .int l1, .int f])) (qO, .inr (18, [.ref qL])) rfl rfl e; omega
    subst h2
    subst h2'
    rcases h1 with rfl | rfl <;> rcases h1' with rfl | rfl
    · rfl
    · rw [yLev_a15, yLev_a16] at e9; exact absurd e9.symm hne
    · rw [yLev_a15, yLev_a16] at e9; exact absurd e9 hne
    · rfl
end ST
