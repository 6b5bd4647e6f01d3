/-! THE LAW's CASES (printed by wip gen/law.py) -/
set_option maxRecDepth 100000
def sL_8 (κ : Kx) (y : Ly) (post : Wd → Ly → Prop) (n0 : Int64) (w : Wd) (x1 : Int32) (x2 : Int32) : Prop := sp_X0_shareOut κ y (fun k9 n1 w1 => sp_X8_shareOut κ y (fun b9 w2 y2 => WFc κ y2 ∧ gv w2 20 0 0 = k9 ∧ (k9 = 0 → n1 = b9.toInt64) ∧ post w2 y2) w1 x1 x2) n0 w x1 x2
set_option maxHeartbeats 4000000 in
theorem lc_8 {p : Program} {l : Launch} {e : Env} {s : State} {m : MethodId} {below : List Frame} {meth : Method} {c : Code} {b L : Nat} {xs : Nat → Int32} {κ : Kx} {Q : State → Prop} {w : Wd} {y : Ly} {oa : Nat} {n0 : Int64} {d0 : UInt64} {s0 : Value} {H : Heap} {locs : List Loc} {ls : Array Slot} {cells slots j : Nat} {post : Wd → Ly → Prop} (F : LF p l s m meth c b L xs κ) (hm : mon s.heap (y.2 3 0)) (hR : Rp κ w y (oX oa n0 d0 s0) [] H) (hS : va_S (Af κ) s.heap H locs) (hW : WFc κ y) (hM : WFm κ y) (hl : lv_has ls 8 [(0, .ref b), (1, .ref (y.2 0 0)), (2, .ref (y.2 20 0)), (3, .ref oa), (4, .int (nI j))]) (hj : j + 5 ≤ L) (hC : cells + 9300 ≤ rmL.cells) (hSl : slots + 100000 ≤ rmL.slots) (h : sL_8 κ y post n0 w (xs (j + 1)) (xs (j + 2))) (kk : ∀ (w2 : Wd) (y2 : Ly) (n1 : Int64) (d1 : UInt64) (s1 : Value) (H1 : Heap) (locs1 : List Loc) (ls1 : Array Slot), post w2 y2 → Keeps y y2 → Rp κ w2 y2 (oX oa n1 d1 s1) [] H1 → va_S (Af κ) s.heap H1 locs1 → lv_has ls1 8 [(0, .ref b), (1, .ref (y.2 0 0)), (2, .ref (y.2 20 0)), (3, .ref oa), (4, .int (nI j))] → W p l e rmL s m #[.ref b] below meth c H1 locs1 (cells + 9300) (slots + 100000) Q (F0 m 3023 ls1 [])) : W p l e rmL s m #[.ref b] below meth c H locs cells slots Q (F0 m 780 ls []) := by
  obtain ⟨hx, hb, hr, hml, hlk, hown, hts, hfl, hK, hPx, hX9, hbl, hz9, hL9⟩ := F
  have hbA : ¬ Af κ b := fun h9 => Nat.lt_irrefl _ (Nat.lt_of_lt_of_le hbl h9)
  have hbs : b < s.heap.size := Nat.lt_of_lt_of_le hbl hz9
  have a1 : nI j + (1 : Int32) = nI (j + 1) := nI_add j 1
  have c1 : (nI (j + 1)).toNatClampNeg = j + 1 := nI_clamp (by omega)
  have v1 : vp_in (nI (j + 1)) L := vp_in_nI (by omega) (by omega)
  have a2 : nI j + (2 : Int32) = nI (j + 2) := nI_add j 2
  have c2 : (nI (j + 2)).toNatClampNeg = j + 2 := nI_clamp (by omega)
  have v2 : vp_in (nI (j + 2)) L := vp_in_nI (by omega) (by omega)
  unfold sL_8 at h
  refine lv_aload_n hx hb dL_law_780 rfl (lv_at hl 1 rfl) ?_
  refine lv_aload_n hx hb dL_law_781 rfl (lv_at hl 0 rfl) ?_
  refine lv_iload hx hb dL_law_782 (lv_at hl 4 rfl) ?_
  refine lv_iconst (v := (1 : Int32)) hx hb dL_law_784 (by decide) ?_
  refine lv_iadd hx hb dL_law_785 ?_
  rw [a1]
  refine va_sld hx hb hX9 hbs hbA hS v1 dL_law_786 ?_
  rw [c1]
  refine lv_aload_n hx hb dL_law_787 rfl (lv_at hl 0 rfl) ?_
  refine lv_iload hx hb dL_law_788 (lv_at hl 4 rfl) ?_
  refine lv_iconst (v := (2 : Int32)) hx hb dL_law_790 (by decide) ?_
  refine lv_iadd hx hb dL_law_791 ?_
  rw [a2]
  refine va_sld hx hb hX9 hbs hbA hS v2 dL_law_792 ?_
  rw [c2]
  refine lv_aload_n hx hb dL_law_793 rfl (lv_at hl 3 rfl) ?_
  refine vx_calli (crx_SW (n := 4) (As := [.ref (y.2 0 0), .int (xs (j + 1)), .int (xs (j + 2)), .ref oa]) (rest := []) ⟨hx, hb, hml, hown, hts⟩ hK hR (m_X0_shareOut (X := xl (oX oa n0 d0 s0) []) hfl hW hW.pub (Or.inl ⟨rfl, rfl⟩) h) q1196 q1197 q73 q1198 rfl rfl hdL_shareOut ⟨Nat.le_of_ble_eq_true rfl, Nat.le_of_ble_eq_true rfl⟩ rfl rfl hl.1 rfl (lv_room (Nat.le_of_ble_eq_true rfl)) dL_law_794 ⟨(Nat.le_trans (show cells + 5 ≤ cells + 9300 from by omega) hC), (Nat.le_trans (show slots + 27 ≤ slots + 100000 from by omega) hSl)⟩) hS (fun _ _ h => h) (fun _ h => h) (fun _ _ h => h) (fun E9 ce9 q9 u t H1 locs1 e1 _ hu => hu.elim) (fun k9 u t H1 locs1 ht _ hp hB hz8 _ hS => ?_)
  obtain ⟨w1, n1⟩ := u
  dsimp only at hp hB
  replace h := hp
  have hR : Rp κ w1 y (oX oa n1 d0 s0) [] H1 := by rw [← ht]; exact hB.wk (fun _ _ h => by obtain ⟨rfl, rfl⟩ := h; exact Or.inl ⟨rfl, rfl⟩)
  refine lv_istore (lv' := [(5, .int k9), (0, .ref b), (1, .ref (y.2 0 0)), (2, .ref (y.2 20 0)), (3, .ref oa), (4, .int (nI j))]) hx hb dL_law_797 hl (by decide) rfl (fun ls hl => ?_)
  refine lv_aload_n hx hb dL_law_799 rfl (lv_at hl 3 rfl) ?_
  refine lv_aload_n hx hb dL_law_800 rfl (lv_at hl 1 rfl) ?_
  refine lv_iload hx hb dL_law_801 (lv_at hl 5 rfl) ?_
  refine lv_iconst (v := (1 : Int32)) hx hb dL_law_803 (by decide) ?_
  refine lv_iadd hx hb dL_law_804 ?_
  rw [a1]
  refine va_sld hx hb hX9 hbs hbA hS v1 dL_law_805 ?_
  rw [c1]
  refine lv_aload_n hx hb dL_law_806 rfl (lv_at hl 1 rfl) ?_
  refine lv_iload hx hb dL_law_807 (lv_at hl 5 rfl) ?_
  refine lv_iconst (v := (2 : Int32)) hx hb dL_law_809 (by decide) ?_
  refine lv_iadd hx hb dL_law_810 ?_
  rw [a2]
  refine va_sld hx hb hX9 hbs hbA hS v2 dL_law_811 ?_
  rw [c2]
  refine cey_qi (P := fun u : Wd × Ly => WFm κ u.2 ∧ LeS y u.2) (fw := fun u : Wd × Ly => u.1) (fy := fun u => u.2) (cr_V (n := 2) (As := [.int (xs (j + 1)), .int (xs (j + 2))]) (rest := []) ⟨hx, hb, hml, hown, hts⟩ hK hR (m_X8_shareOut hM hM.mro h) q2213 q2214 q2215 q85 q2216 rfl rfl hd_X8_shareOut ⟨Nat.le_of_ble_eq_true rfl, Nat.le_of_ble_eq_true rfl⟩ (rv hK hR hM.mro (ci := 11) rfl rfl) rfl rfl hl.1 rfl (lv_room (Nat.le_of_ble_eq_true rfl)) dL_law_812 ⟨(Nat.le_trans (show cells + 5 + 14 ≤ cells + 9300 from by omega) hC), (Nat.le_trans (show slots + 27 + 21 ≤ slots + 100000 from by omega) hSl)⟩) hR hS (fun b9 u H1 locs1 hp hP9 hR _ hS => ?_)
  obtain ⟨w2, y2⟩ := u
  dsimp only at hp hP9 hR
  obtain ⟨hM2, hLe2⟩ := hP9
  have hKp2 : Keeps y y2 := Keeps.le hLe2
  obtain ⟨hW2, h⟩ := hp
  have hKp := (Keeps.rf.tr hKp2)
  obtain ⟨e7, e9, h⟩ := h
  refine lv_istore (lv' := [(6, .int b9), (5, .int k9), (0, .ref b), (1, .ref (y.2 0 0)), (2, .ref (y.2 20 0)), (3, .ref oa), (4, .int (nI j))]) hx hb dL_law_815 hl (by decide) rfl (fun ls hl => ?_)
  refine lv_aload_n hx hb dL_law_817 rfl (lv_at hl 4 rfl) ?_
  rw [← hKp.a20]
  refine ce_qi (fw := fun u => u) (fy := fun _ => y2) (cr_V (n := 0) (As := []) (rest := []) ⟨hx, hb, hml, hown, hts⟩ hK hR (m_X8_thrown (post := fun r9 u9 => r9 = gv w2 20 0 0 ∧ u9 = w2) hM2 hM2.mro ⟨rfl, rfl⟩) q2012 q2013 q2014 q85 q2015 rfl rfl hd_X8_thrown ⟨Nat.le_of_ble_eq_true rfl, Nat.le_of_ble_eq_true rfl⟩ (rv hK hR hM2.mro (ci := 11) rfl rfl) rfl rfl hl.1 rfl (lv_room (Nat.le_of_ble_eq_true rfl)) dL_law_818 ⟨(Nat.le_trans (show cells + 5 + 14 + 0 ≤ cells + 9300 from by omega) hC), (Nat.le_trans (show slots + 27 + 21 + 0 ≤ slots + 100000 from by omega) hSl)⟩) hR hS (fun t9 w3 H1 locs1 ht9 hR _ hS => ?_)
  obtain ⟨et9, rfl⟩ := ht9
  rw [et9, e7]
  refine lv_iload hx hb dL_law_821 (lv_at hl 1 rfl) ?_
  refine lv_icmp_eq (tgt := 828) hx hb dL_law_823 (by decide) (fun _ => ?_) (fun c9 => absurd rfl c9)
  refine lv_iload hx hb dL_law_828 (lv_at hl 1 rfl) ?_
  refine lv_if_ne (tgt := 846) hx hb dL_law_830 (by decide) (fun c9 => ?_) (fun c9 => ?_)
  · skip
    refine lv_goto (tgt := 3023) hx hb dL_law_846 (by decide) ?_
    refine W.widen (k := cells + 9300) (n := slots + 100000) (by omega) (by omega) ?_
    exact kk _ _ _ _ _ _ _ _ h (Keeps.rf.tr hKp2) hR hS (lv_sub (hl) [2, 3, 4, 5, 6] rfl)
  · have c9 : k9 = 0 := by first | exact c9 | exact Decidable.of_not_not c9
    have e9 := e9 c9
    refine lv_aload_n hx hb dL_law_833 rfl (lv_at hl 5 rfl) ?_
    refine va_getN (host := "PublicanryLaw") (T := TX9) (N := 3) (v := .long n1) hx hb hts in_X9 hown hK.1 (va_P1 (hR.2.2.2.1 _ _ ⟨rfl, rfl⟩).1) 0 rfl rfl 0 (by decide) (va_Nw.use rfl (hK.2.1.2.1 _ (List.mem_of_getElem? (i := 1) rfl))) (fun _ h => h) rfl dL_law_834 ?_
    refine lv_iload hx hb dL_law_837 (lv_at hl 0 rfl) ?_
    refine lv_i2l hx hb dL_law_839 rfl ?_
    refine W.lcmp hx hb dL_law_840 ?_
    refine lv_if_eq (tgt := 846) hx hb dL_law_841 (by decide) (fun _ => ?_) (fun c9 => absurd (by rw [e9]; exact lg_cmp_self _) c9)
    refine lv_goto (tgt := 3023) hx hb dL_law_846 (by decide) ?_
    refine W.widen (k := cells + 9300) (n := slots + 100000) (by omega) (by omega) ?_
    exact kk _ _ _ _ _ _ _ _ h (Keeps.rf.tr hKp2) hR hS (lv_sub (hl) [2, 3, 4, 5, 6] rfl)
def sL_9 (κ : Kx) (y : Ly) (post : Wd → Ly → Prop) (n0 : Int64) (w : Wd) (x1 : Int32) (x2 : Int32) : Prop := sp_X0_ring κ y (fun k9 n1 w1 => sp_X8_ring κ y (fun b9 w2 => gv w2 20 0 0 = k9 ∧ (k9 = 0 → n1 = b9.toInt64) ∧ post w2 y) w1 x1 x2) n0 w x1 x2
set_option maxHeartbeats 4000000 in
theorem lc_9 {p : Program} {l : Launch} {e : Env} {s : State} {m : MethodId} {below : List Frame} {meth : Method} {c : Code} {b L : Nat} {xs : Nat → Int32} {κ : Kx} {Q : State → Prop} {w : Wd} {y : Ly} {oa : Nat} {n0 : Int64} {d0 : UInt64} {s0 : Value} {H : Heap} {locs : List Loc} {ls : Array Slot} {cells slots j : Nat} {post : Wd → Ly → Prop} (F : LF p l s m meth c b L xs κ) (hm : mon s.heap (y.2 3 0)) (hR : Rp κ w y (oX oa n0 d0 s0) [] H) (hS : va_S (Af κ) s.heap H locs) (hW : WFc κ y) (hM : WFm κ y) (hl : lv_has ls 8 [(0, .ref b), (1, .ref (y.2 0 0)), (2, .ref (y.2 20 0)), (3, .ref oa), (4, .int (nI j))]) (hj : j + 5 ≤ L) (hC : cells + 9300 ≤ rmL.cells) (hSl : slots + 100000 ≤ rmL.slots) (h : sL_9 κ y post n0 w (xs (j + 1)) (xs (j + 2))) (kk : ∀ (w2 : Wd) (y2 : Ly) (n1 : Int64) (d1 : UInt64) (s1 : Value) (H1 : Heap) (locs1 : List Loc) (ls1 : Array Slot), post w2 y2 → Keeps y y2 → Rp κ w2 y2 (oX oa n1 d1 s1) [] H1 → va_S (Af κ) s.heap H1 locs1 → lv_has ls1 8 [(0, .ref b), (1, .ref (y.2 0 0)), (2, .ref (y.2 20 0)), (3, .ref oa), (4, .int (nI j))] → W p l e rmL s m #[.ref b] below meth c H1 locs1 (cells + 9300) (slots + 100000) Q (F0 m 3023 ls1 [])) : W p l e rmL s m #[.ref b] below meth c H locs cells slots Q (F0 m 849 ls []) := by
  obtain ⟨hx, hb, hr, hml, hlk, hown, hts, hfl, hK, hPx, hX9, hbl, hz9, hL9⟩ := F
  have hbA : ¬ Af κ b := fun h9 => Nat.lt_irrefl _ (Nat.lt_of_lt_of_le hbl h9)
  have hbs : b < s.heap.size := Nat.lt_of_lt_of_le hbl hz9
  have a1 : nI j + (1 : Int32) = nI (j + 1) := nI_add j 1
  have c1 : (nI (j + 1)).toNatClampNeg = j + 1 := nI_clamp (by omega)
  have v1 : vp_in (nI (j + 1)) L := vp_in_nI (by omega) (by omega)
  have a2 : nI j + (2 : Int32) = nI (j + 2) := nI_add j 2
  have c2 : (nI (j + 2)).toNatClampNeg = j + 2 := nI_clamp (by omega)
  have v2 : vp_in (nI (j + 2)) L := vp_in_nI (by omega) (by omega)
  unfold sL_9 at h
  refine lv_aload_n hx hb dL_law_849 rfl (lv_at hl 1 rfl) ?_
  refine lv_aload_n hx hb dL_law_850 rfl (lv_at hl 0 rfl) ?_
  refine lv_iload hx hb dL_law_851 (lv_at hl 4 rfl) ?_
  refine lv_iconst (v := (1 : Int32)) hx hb dL_law_853 (by decide) ?_
  refine lv_iadd hx hb dL_law_854 ?_
  rw [a1]
  refine va_sld hx hb hX9 hbs hbA hS v1 dL_law_855 ?_
  rw [c1]
  refine lv_aload_n hx hb dL_law_856 rfl (lv_at hl 0 rfl) ?_
  refine lv_iload hx hb dL_law_857 (lv_at hl 4 rfl) ?_
  refine lv_iconst (v := (2 : Int32)) hx hb dL_law_859 (by decide) ?_
  refine lv_iadd hx hb dL_law_860 ?_
  rw [a2]
  refine va_sld hx hb hX9 hbs hbA hS v2 dL_law_861 ?_
  rw [c2]
  refine lv_aload_n hx hb dL_law_862 rfl (lv_at hl 3 rfl) ?_
  refine vx_calli (crx_SW (n := 4) (As := [.ref (y.2 0 0), .int (xs (j + 1)), .int (xs (j + 2)), .ref oa]) (rest := []) ⟨hx, hb, hml, hown, hts⟩ hK hR (m_X0_ring (X := xl (oX oa n0 d0 s0) []) hfl hW hW.pub (Or.inl ⟨rfl, rfl⟩) h) q1230 q1231 q73 q1232 rfl rfl hdL_ring ⟨Nat.le_of_ble_eq_true rfl, Nat.le_of_ble_eq_true rfl⟩ rfl rfl hl.1 rfl (lv_room (Nat.le_of_ble_eq_true rfl)) dL_law_863 ⟨(Nat.le_trans (show cells + 2 ≤ cells + 9300 from by omega) hC), (Nat.le_trans (show slots + 12 ≤ slots + 100000 from by omega) hSl)⟩) hS (fun _ _ h => h) (fun _ h => h) (fun _ _ h => h) (fun E9 ce9 q9 u t H1 locs1 e1 _ hu => hu.elim) (fun k9 u t H1 locs1 ht _ hp hB hz8 _ hS => ?_)
  obtain ⟨w1, n1⟩ := u
  dsimp only at hp hB
  replace h := hp
  have hR : Rp κ w1 y (oX oa n1 d0 s0) [] H1 := by rw [← ht]; exact hB.wk (fun _ _ h => by obtain ⟨rfl, rfl⟩ := h; exact Or.inl ⟨rfl, rfl⟩)
  refine lv_istore (lv' := [(5, .int k9), (0, .ref b), (1, .ref (y.2 0 0)), (2, .ref (y.2 20 0)), (3, .ref oa), (4, .int (nI j))]) hx hb dL_law_866 hl (by decide) rfl (fun ls hl => ?_)
  refine lv_aload_n hx hb dL_law_868 rfl (lv_at hl 3 rfl) ?_
  refine lv_aload_n hx hb dL_law_869 rfl (lv_at hl 1 rfl) ?_
  refine lv_iload hx hb dL_law_870 (lv_at hl 5 rfl) ?_
  refine lv_iconst (v := (1 : Int32)) hx hb dL_law_872 (by decide) ?_
  refine lv_iadd hx hb dL_law_873 ?_
  rw [a1]
  refine va_sld hx hb hX9 hbs hbA hS v1 dL_law_874 ?_
  rw [c1]
  refine lv_aload_n hx hb dL_law_875 rfl (lv_at hl 1 rfl) ?_
  refine lv_iload hx hb dL_law_876 (lv_at hl 5 rfl) ?_
  refine lv_iconst (v := (2 : Int32)) hx hb dL_law_878 (by decide) ?_
  refine lv_iadd hx hb dL_law_879 ?_
  rw [a2]
  refine va_sld hx hb hX9 hbs hbA hS v2 dL_law_880 ?_
  rw [c2]
  refine ce_qi (fw := fun u => u) (fy := fun _ => y) (cr_V (n := 2) (As := [.int (xs (j + 1)), .int (xs (j + 2))]) (rest := []) ⟨hx, hb, hml, hown, hts⟩ hK hR (m_X8_ring hM hM.mro h) q2236 q2237 q2238 q85 q2239 rfl rfl hd_X8_ring ⟨Nat.le_of_ble_eq_true rfl, Nat.le_of_ble_eq_true rfl⟩ (rv hK hR hM.mro (ci := 11) rfl rfl) rfl rfl hl.1 rfl (lv_room (Nat.le_of_ble_eq_true rfl)) dL_law_881 ⟨(Nat.le_trans (show cells + 2 + 0 ≤ cells + 9300 from by omega) hC), (Nat.le_trans (show slots + 12 + 0 ≤ slots + 100000 from by omega) hSl)⟩) hR hS (fun b9 w2 H1 locs1 h hR _ hS => ?_)
  obtain ⟨e7, e9, h⟩ := h
  refine lv_istore (lv' := [(6, .int b9), (5, .int k9), (0, .ref b), (1, .ref (y.2 0 0)), (2, .ref (y.2 20 0)), (3, .ref oa), (4, .int (nI j))]) hx hb dL_law_884 hl (by decide) rfl (fun ls hl => ?_)
  refine lv_aload_n hx hb dL_law_886 rfl (lv_at hl 4 rfl) ?_
  refine ce_qi (fw := fun u => u) (fy := fun _ => y) (cr_V (n := 0) (As := []) (rest := []) ⟨hx, hb, hml, hown, hts⟩ hK hR (m_X8_thrown (post := fun r9 u9 => r9 = gv w2 20 0 0 ∧ u9 = w2) hM hM.mro ⟨rfl, rfl⟩) q2012 q2013 q2014 q85 q2015 rfl rfl hd_X8_thrown ⟨Nat.le_of_ble_eq_true rfl, Nat.le_of_ble_eq_true rfl⟩ (rv hK hR hM.mro (ci := 11) rfl rfl) rfl rfl hl.1 rfl (lv_room (Nat.le_of_ble_eq_true rfl)) dL_law_887 ⟨(Nat.le_trans (show cells + 2 + 0 + 0 ≤ cells + 9300 from by omega) hC), (Nat.le_trans (show slots + 12 + 0 + 0 ≤ slots + 100000 from by omega) hSl)⟩) hR hS (fun t9 w3 H1 locs1 ht9 hR _ hS => ?_)
  obtain ⟨et9, rfl⟩ := ht9
  rw [et9, e7]
  refine lv_iload hx hb dL_law_890 (lv_at hl 1 rfl) ?_
  refine lv_icmp_eq (tgt := 897) hx hb dL_law_892 (by decide) (fun _ => ?_) (fun c9 => absurd rfl c9)
  refine lv_iload hx hb dL_law_897 (lv_at hl 1 rfl) ?_
  refine lv_if_ne (tgt := 915) hx hb dL_law_899 (by decide) (fun c9 => ?_) (fun c9 => ?_)
  · skip
    refine lv_goto (tgt := 3023) hx hb dL_law_915 (by decide) ?_
    refine W.widen (k := cells + 9300) (n := slots + 100000) (by omega) (by omega) ?_
    exact kk _ _ _ _ _ _ _ _ h Keeps.rf hR hS (lv_sub (hl) [2, 3, 4, 5, 6] rfl)
  · have c9 : k9 = 0 := by first | exact c9 | exact Decidable.of_not_not c9
    have e9 := e9 c9
    refine lv_aload_n hx hb dL_law_902 rfl (lv_at hl 5 rfl) ?_
    refine va_getN (host := "PublicanryLaw") (T := TX9) (N := 3) (v := .long n1) hx hb hts in_X9 hown hK.1 (va_P1 (hR.2.2.2.1 _ _ ⟨rfl, rfl⟩).1) 0 rfl rfl 0 (by decide) (va_Nw.use rfl (hK.2.1.2.1 _ (List.mem_of_getElem? (i := 1) rfl))) (fun _ h => h) rfl dL_law_903 ?_
    refine lv_iload hx hb dL_law_906 (lv_at hl 0 rfl) ?_
    refine lv_i2l hx hb dL_law_908 rfl ?_
    refine W.lcmp hx hb dL_law_909 ?_
    refine lv_if_eq (tgt := 915) hx hb dL_law_910 (by decide) (fun _ => ?_) (fun c9 => absurd (by rw [e9]; exact lg_cmp_self _) c9)
    refine lv_goto (tgt := 3023) hx hb dL_law_915 (by decide) ?_
    refine W.widen (k := cells + 9300) (n := slots + 100000) (by omega) (by omega) ?_
    exact kk _ _ _ _ _ _ _ _ h Keeps.rf hR hS (lv_sub (hl) [2, 3, 4, 5, 6] rfl)
def sL_10 (κ : Kx) (y : Ly) (post : Wd → Ly → Prop) (n0 : Int64) (w : Wd) (x1 : Int32) (x2 : Int32) (x3 : Int32) (x4 : Int32) : Prop := sp_X0_lot κ y (fun k9 n1 w1 y1 => WFm κ y1 ∧ Keeps y y1 ∧ sp_X8_lot κ y1 (fun b9 w2 y2 => WFc κ y2 ∧ Keeps y1 y2 ∧ gv w2 20 0 0 = k9 ∧ (k9 = 0 → n1 = b9.toInt64) ∧ post w2 y2) w1 x1 x2 x3 x4) n0 w x1 x2 x3 x4
set_option maxHeartbeats 4000000 in
theorem lc_10 {p : Program} {l : Launch} {e : Env} {s : State} {m : MethodId} {below : List Frame} {meth : Method} {c : Code} {b L : Nat} {xs : Nat → Int32} {κ : Kx} {Q : State → Prop} {w : Wd} {y : Ly} {oa : Nat} {n0 : Int64} {d0 : UInt64} {s0 : Value} {H : Heap} {locs : List Loc} {ls : Array Slot} {cells slots j : Nat} {post : Wd → Ly → Prop} (F : LF p l s m meth c b L xs κ) (hm : mon s.heap (y.2 3 0)) (hR : Rp κ w y (oX oa n0 d0 s0) [] H) (hS : va_S (Af κ) s.heap H locs) (hW : WFc κ y) (hM : WFm κ y) (hl : lv_has ls 8 [(0, .ref b), (1, .ref (y.2 0 0)), (2, .ref (y.2 20 0)), (3, .ref oa), (4, .int (nI j))]) (hj : j + 5 ≤ L) (hC : cells + 9300 ≤ rmL.cells) (hSl : slots + 100000 ≤ rmL.slots) (h : sL_10 κ y post n0 w (xs (j + 1)) (xs (j + 2)) (xs (j + 3)) (xs (j + 4))) (kk : ∀ (w2 : Wd) (y2 : Ly) (n1 : Int64) (d1 : UInt64) (s1 : Value) (H1 : Heap) (locs1 : List Loc) (ls1 : Array Slot), post w2 y2 → Keeps y y2 → Rp κ w2 y2 (oX oa n1 d1 s1) [] H1 → va_S (Af κ) s.heap H1 locs1 → lv_has ls1 8 [(0, .ref b), (1, .ref (y.2 0 0)), (2, .ref (y.2 20 0)), (3, .ref oa), (4, .int (nI j))] → W p l e rmL s m #[.ref b] below meth c H1 locs1 (cells + 9300) (slots + 100000) Q (F0 m 3023 ls1 [])) : W p l e rmL s m #[.ref b] below meth c H locs cells slots Q (F0 m 918 ls []) := by
  obtain ⟨hx, hb, hr, hml, hlk, hown, hts, hfl, hK, hPx, hX9, hbl, hz9, hL9⟩ := F
  have hbA : ¬ Af κ b := fun h9 => Nat.lt_irrefl _ (Nat.lt_of_lt_of_le hbl h9)
  have hbs : b < s.heap.size := Nat.lt_of_lt_of_le hbl hz9
  have a1 : nI j + (1 : Int32) = nI (j + 1) := nI_add j 1
  have c1 : (nI (j + 1)).toNatClampNeg = j + 1 := nI_clamp (by omega)
  have v1 : vp_in (nI (j + 1)) L := vp_in_nI (by omega) (by omega)
  have a2 : nI j + (2 : Int32) = nI (j + 2) := nI_add j 2
  have c2 : (nI (j + 2)).toNatClampNeg = j + 2 := nI_clamp (by omega)
  have v2 : vp_in (nI (j + 2)) L := vp_in_nI (by omega) (by omega)
  have a3 : nI j + (3 : Int32) = nI (j + 3) := nI_add j 3
  have c3 : (nI (j + 3)).toNatClampNeg = j + 3 := nI_clamp (by omega)
  have v3 : vp_in (nI (j + 3)) L := vp_in_nI (by omega) (by omega)
  have a4 : nI j + (4 : Int32) = nI (j + 4) := nI_add j 4
  have c4 : (nI (j + 4)).toNatClampNeg = j + 4 := nI_clamp (by omega)
  have v4 : vp_in (nI (j + 4)) L := vp_in_nI (by omega) (by omega)
  unfold sL_10 at h
  refine lv_aload_n hx hb dL_law_918 rfl (lv_at hl 1 rfl) ?_
  refine lv_aload_n hx hb dL_law_919 rfl (lv_at hl 0 rfl) ?_
  refine lv_iload hx hb dL_law_920 (lv_at hl 4 rfl) ?_
  refine lv_iconst (v := (1 : Int32)) hx hb dL_law_922 (by decide) ?_
  refine lv_iadd hx hb dL_law_923 ?_
  rw [a1]
  refine va_sld hx hb hX9 hbs hbA hS v1 dL_law_924 ?_
  rw [c1]
  refine lv_aload_n hx hb dL_law_925 rfl (lv_at hl 0 rfl) ?_
  refine lv_iload hx hb dL_law_926 (lv_at hl 4 rfl) ?_
  refine lv_iconst (v := (2 : Int32)) hx hb dL_law_928 (by decide) ?_
  refine lv_iadd hx hb dL_law_929 ?_
  rw [a2]
  refine va_sld hx hb hX9 hbs hbA hS v2 dL_law_930 ?_
  rw [c2]
  refine lv_aload_n hx hb dL_law_931 rfl (lv_at hl 0 rfl) ?_
  refine lv_iload hx hb dL_law_932 (lv_at hl 4 rfl) ?_
  refine lv_iconst (v := (3 : Int32)) hx hb dL_law_934 (by decide) ?_
  refine lv_iadd hx hb dL_law_935 ?_
  rw [a3]
  refine va_sld hx hb hX9 hbs hbA hS v3 dL_law_936 ?_
  rw [c3]
  refine lv_aload_n hx hb dL_law_937 rfl (lv_at hl 0 rfl) ?_
  refine lv_iload hx hb dL_law_938 (lv_at hl 4 rfl) ?_
  refine lv_iconst (v := (4 : Int32)) hx hb dL_law_940 (by decide) ?_
  refine lv_iadd hx hb dL_law_941 ?_
  rw [a4]
  refine va_sld hx hb hX9 hbs hbA hS v4 dL_law_942 ?_
  rw [c4]
  refine lv_aload_n hx hb dL_law_943 rfl (lv_at hl 3 rfl) ?_
  refine vx_calli (crx_SW (n := 6) (As := [.ref (y.2 0 0), .int (xs (j + 1)), .int (xs (j + 2)), .int (xs (j + 3)), .int (xs (j + 4)), .ref oa]) (rest := []) ⟨hx, hb, hml, hown, hts⟩ hK hR (m_X0_lot (X := xl (oX oa n0 d0 s0) []) hfl hW hW.pub (Or.inl ⟨rfl, rfl⟩) h) q1238 q1239 q73 q1240 rfl rfl hdL_lot ⟨Nat.le_of_ble_eq_true rfl, Nat.le_of_ble_eq_true rfl⟩ rfl rfl hl.1 rfl (lv_room (Nat.le_of_ble_eq_true rfl)) dL_law_944 ⟨(Nat.le_trans (show cells + 9 ≤ cells + 9300 from by omega) hC), (Nat.le_trans (show slots + 62 ≤ slots + 100000 from by omega) hSl)⟩) hS (fun _ _ h => h) (fun _ h => h) (fun _ _ h => h) (fun E9 ce9 q9 u t H1 locs1 e1 _ hu => hu.elim) (fun k9 u t H1 locs1 ht _ hp hB hz8 _ hS => ?_)
  obtain ⟨w1, y1, n1⟩ := u
  dsimp only at hp hB
  obtain ⟨hB, hW1⟩ := hB
  obtain ⟨hM1, hKp, h⟩ := hp
  have hR : Rp κ w1 y1 (oX oa n1 d0 s0) [] H1 := by rw [← ht]; exact hB.wk (fun _ _ h => by obtain ⟨rfl, rfl⟩ := h; exact Or.inl ⟨rfl, rfl⟩)
  have eL20 := hKp.a20
  refine lv_istore (lv' := [(5, .int k9), (0, .ref b), (1, .ref (y.2 0 0)), (2, .ref (y.2 20 0)), (3, .ref oa), (4, .int (nI j))]) hx hb dL_law_947 hl (by decide) rfl (fun ls hl => ?_)
  refine lv_aload_n hx hb dL_law_949 rfl (lv_at hl 3 rfl) ?_
  refine lv_aload_n hx hb dL_law_950 rfl (lv_at hl 1 rfl) ?_
  refine lv_iload hx hb dL_law_951 (lv_at hl 5 rfl) ?_
  refine lv_iconst (v := (1 : Int32)) hx hb dL_law_953 (by decide) ?_
  refine lv_iadd hx hb dL_law_954 ?_
  rw [a1]
  refine va_sld hx hb hX9 hbs hbA hS v1 dL_law_955 ?_
  rw [c1]
  refine lv_aload_n hx hb dL_law_956 rfl (lv_at hl 1 rfl) ?_
  refine lv_iload hx hb dL_law_957 (lv_at hl 5 rfl) ?_
  refine lv_iconst (v := (2 : Int32)) hx hb dL_law_959 (by decide) ?_
  refine lv_iadd hx hb dL_law_960 ?_
  rw [a2]
  refine va_sld hx hb hX9 hbs hbA hS v2 dL_law_961 ?_
  rw [c2]
  refine lv_aload_n hx hb dL_law_962 rfl (lv_at hl 1 rfl) ?_
  refine lv_iload hx hb dL_law_963 (lv_at hl 5 rfl) ?_
  refine lv_iconst (v := (3 : Int32)) hx hb dL_law_965 (by decide) ?_
  refine lv_iadd hx hb dL_law_966 ?_
  rw [a3]
  refine va_sld hx hb hX9 hbs hbA hS v3 dL_law_967 ?_
  rw [c3]
  refine lv_aload_n hx hb dL_law_968 rfl (lv_at hl 1 rfl) ?_
  refine lv_iload hx hb dL_law_969 (lv_at hl 5 rfl) ?_
  refine lv_iconst (v := (4 : Int32)) hx hb dL_law_971 (by decide) ?_
  refine lv_iadd hx hb dL_law_972 ?_
  rw [a4]
  refine va_sld hx hb hX9 hbs hbA hS v4 dL_law_973 ?_
  rw [c4]
  rw [← hKp.a20]
  refine cey_qi (P := fun u : Wd × Ly => WFm κ u.2) (fw := fun u : Wd × Ly => u.1) (fy := fun u => u.2) (cr_V (n := 4) (As := [.int (xs (j + 1)), .int (xs (j + 2)), .int (xs (j + 3)), .int (xs (j + 4))]) (rest := []) ⟨hx, hb, hml, hown, hts⟩ hK hR (m_X8_lot hM1 hM1.mro h) q2240 q2241 q2242 q85 q2243 rfl rfl hd_X8_lot ⟨Nat.le_of_ble_eq_true rfl, Nat.le_of_ble_eq_true rfl⟩ (rv hK hR hM1.mro (ci := 11) rfl rfl) rfl rfl hl.1 rfl (lv_room (Nat.le_of_ble_eq_true rfl)) dL_law_974 ⟨(Nat.le_trans (show cells + 9 + 5 ≤ cells + 9300 from by omega) hC), (Nat.le_trans (show slots + 62 + 39 ≤ slots + 100000 from by omega) hSl)⟩) hR hS (fun b9 u H1 locs1 hp hP9 hR _ hS => ?_)
  obtain ⟨w2, y2⟩ := u
  dsimp only at hp hP9 hR
  have hM2 := hP9
  obtain ⟨hW2, hKp2, h⟩ := hp
  have hKp := ((Keeps.rf.tr hKp).tr hKp2)
  obtain ⟨e7, e9, h⟩ := h
  refine lv_istore (lv' := [(6, .int b9), (5, .int k9), (0, .ref b), (1, .ref (y.2 0 0)), (2, .ref (y.2 20 0)), (3, .ref oa), (4, .int (nI j))]) hx hb dL_law_977 hl (by decide) rfl (fun ls hl => ?_)
  refine lv_aload_n hx hb dL_law_979 rfl (lv_at hl 4 rfl) ?_
  rw [← hKp.a20]
  refine ce_qi (fw := fun u => u) (fy := fun _ => y2) (cr_V (n := 0) (As := []) (rest := []) ⟨hx, hb, hml, hown, hts⟩ hK hR (m_X8_thrown (post := fun r9 u9 => r9 = gv w2 20 0 0 ∧ u9 = w2) hM2 hM2.mro ⟨rfl, rfl⟩) q2012 q2013 q2014 q85 q2015 rfl rfl hd_X8_thrown ⟨Nat.le_of_ble_eq_true rfl, Nat.le_of_ble_eq_true rfl⟩ (rv hK hR hM2.mro (ci := 11) rfl rfl) rfl rfl hl.1 rfl (lv_room (Nat.le_of_ble_eq_true rfl)) dL_law_980 ⟨(Nat.le_trans (show cells + 9 + 5 + 0 ≤ cells + 9300 from by omega) hC), (Nat.le_trans (show slots + 62 + 39 + 0 ≤ slots + 100000 from by omega) hSl)⟩) hR hS (fun t9 w3 H1 locs1 ht9 hR _ hS => ?_)
  obtain ⟨et9, rfl⟩ := ht9
  rw [et9, e7]
  refine lv_iload hx hb dL_law_983 (lv_at hl 1 rfl) ?_
  refine lv_icmp_eq (tgt := 990) hx hb dL_law_985 (by decide) (fun _ => ?_) (fun c9 => absurd rfl c9)
  refine lv_iload hx hb dL_law_990 (lv_at hl 1 rfl) ?_
  refine lv_if_ne (tgt := 1008) hx hb dL_law_992 (by decide) (fun c9 => ?_) (fun c9 => ?_)
  · skip
    refine lv_goto (tgt := 3023) hx hb dL_law_1008 (by decide) ?_
    refine W.widen (k := cells + 9300) (n := slots + 100000) (by omega) (by omega) ?_
    exact kk _ _ _ _ _ _ _ _ h ((Keeps.rf.tr hKp).tr hKp2) hR hS (lv_sub (hl) [2, 3, 4, 5, 6] rfl)
  · have c9 : k9 = 0 := by first | exact c9 | exact Decidable.of_not_not c9
    have e9 := e9 c9
    refine lv_aload_n hx hb dL_law_995 rfl (lv_at hl 5 rfl) ?_
    refine va_getN (host := "PublicanryLaw") (T := TX9) (N := 3) (v := .long n1) hx hb hts in_X9 hown hK.1 (va_P1 (hR.2.2.2.1 _ _ ⟨rfl, rfl⟩).1) 0 rfl rfl 0 (by decide) (va_Nw.use rfl (hK.2.1.2.1 _ (List.mem_of_getElem? (i := 1) rfl))) (fun _ h => h) rfl dL_law_996 ?_
    refine lv_iload hx hb dL_law_999 (lv_at hl 0 rfl) ?_
    refine lv_i2l hx hb dL_law_1001 rfl ?_
    refine W.lcmp hx hb dL_law_1002 ?_
    refine lv_if_eq (tgt := 1008) hx hb dL_law_1003 (by decide) (fun _ => ?_) (fun c9 => absurd (by rw [e9]; exact lg_cmp_self _) c9)
    refine lv_goto (tgt := 3023) hx hb dL_law_1008 (by decide) ?_
    refine W.widen (k := cells + 9300) (n := slots + 100000) (by omega) (by omega) ?_
    exact kk _ _ _ _ _ _ _ _ h ((Keeps.rf.tr hKp).tr hKp2) hR hS (lv_sub (hl) [2, 3, 4, 5, 6] rfl)
def sL_11 (κ : Kx) (y : Ly) (post : Wd → Ly → Prop) (n0 : Int64) (w : Wd) (x1 : Int32) (x2 : Int32) (x3 : Int32) : Prop := sp_X0_bid κ y (fun k9 n1 w1 => sp_X8_bid κ y (fun b9 w2 => gv w2 20 0 0 = k9 ∧ (k9 = 0 → n1 = b9.toInt64) ∧ post w2 y) w1 x1 x2 x3) n0 w x1 x2 x3
set_option maxHeartbeats 4000000 in
theorem lc_11 {p : Program} {l : Launch} {e : Env} {s : State} {m : MethodId} {below : List Frame} {meth : Method} {c : Code} {b L : Nat} {xs : Nat → Int32} {κ : Kx} {Q : State → Prop} {w : Wd} {y : Ly} {oa : Nat} {n0 : Int64} {d0 : UInt64} {s0 : Value} {H : Heap} {locs : List Loc} {ls : Array Slot} {cells slots j : Nat} {post : Wd → Ly → Prop} (F : LF p l s m meth c b L xs κ) (hm : mon s.heap (y.2 3 0)) (hR : Rp κ w y (oX oa n0 d0 s0) [] H) (hS : va_S (Af κ) s.heap H locs) (hW : WFc κ y) (hM : WFm κ y) (hl : lv_has ls 8 [(0, .ref b), (1, .ref (y.2 0 0)), (2, .ref (y.2 20 0)), (3, .ref oa), (4, .int (nI j))]) (hj : j + 5 ≤ L) (hC : cells + 9300 ≤ rmL.cells) (hSl : slots + 100000 ≤ rmL.slots) (h : sL_11 κ y post n0 w (xs (j + 1)) (xs (j + 2)) (xs (j + 3))) (kk : ∀ (w2 : Wd) (y2 : Ly) (n1 : Int64) (d1 : UInt64) (s1 : Value) (H1 : Heap) (locs1 : List Loc) (ls1 : Array Slot), post w2 y2 → Keeps y y2 → Rp κ w2 y2 (oX oa n1 d1 s1) [] H1 → va_S (Af κ) s.heap H1 locs1 → lv_has ls1 8 [(0, .ref b), (1, .ref (y.2 0 0)), (2, .ref (y.2 20 0)), (3, .ref oa), (4, .int (nI j))] → W p l e rmL s m #[.ref b] below meth c H1 locs1 (cells + 9300) (slots + 100000) Q (F0 m 3023 ls1 [])) : W p l e rmL s m #[.ref b] below meth c H locs cells slots Q (F0 m 1011 ls []) := by
  obtain ⟨hx, hb, hr, hml, hlk, hown, hts, hfl, hK, hPx, hX9, hbl, hz9, hL9⟩ := F
  have hbA : ¬ Af κ b := fun h9 => Nat.lt_irrefl _ (Nat.lt_of_lt_of_le hbl h9)
  have hbs : b < s.heap.size := Nat.lt_of_lt_of_le hbl hz9
  have a1 : nI j + (1 : Int32) = nI (j + 1) := nI_add j 1
  have c1 : (nI (j + 1)).toNatClampNeg = j + 1 := nI_clamp (by omega)
  have v1 : vp_in (nI (j + 1)) L := vp_in_nI (by omega) (by omega)
  have a2 : nI j + (2 : Int32) = nI (j + 2) := nI_add j 2
  have c2 : (nI (j + 2)).toNatClampNeg = j + 2 := nI_clamp (by omega)
  have v2 : vp_in (nI (j + 2)) L := vp_in_nI (by omega) (by omega)
  have a3 : nI j + (3 : Int32) = nI (j + 3) := nI_add j 3
  have c3 : (nI (j + 3)).toNatClampNeg = j + 3 := nI_clamp (by omega)
  have v3 : vp_in (nI (j + 3)) L := vp_in_nI (by omega) (by omega)
  unfold sL_11 at h
  refine lv_aload_n hx hb dL_law_1011 rfl (lv_at hl 1 rfl) ?_
  refine lv_aload_n hx hb dL_law_1012 rfl (lv_at hl 0 rfl) ?_
  refine lv_iload hx hb dL_law_1013 (lv_at hl 4 rfl) ?_
  refine lv_iconst (v := (1 : Int32)) hx hb dL_law_1015 (by decide) ?_
  refine lv_iadd hx hb dL_law_1016 ?_
  rw [a1]
  refine va_sld hx hb hX9 hbs hbA hS v1 dL_law_1017 ?_
  rw [c1]
  refine lv_aload_n hx hb dL_law_1018 rfl (lv_at hl 0 rfl) ?_
  refine lv_iload hx hb dL_law_1019 (lv_at hl 4 rfl) ?_
  refine lv_iconst (v := (2 : Int32)) hx hb dL_law_1021 (by decide) ?_
  refine lv_iadd hx hb dL_law_1022 ?_
  rw [a2]
  refine va_sld hx hb hX9 hbs hbA hS v2 dL_law_1023 ?_
  rw [c2]
  refine lv_aload_n hx hb dL_law_1024 rfl (lv_at hl 0 rfl) ?_
  refine lv_iload hx hb dL_law_1025 (lv_at hl 4 rfl) ?_
  refine lv_iconst (v := (3 : Int32)) hx hb dL_law_1027 (by decide) ?_
  refine lv_iadd hx hb dL_law_1028 ?_
  rw [a3]
  refine va_sld hx hb hX9 hbs hbA hS v3 dL_law_1029 ?_
  rw [c3]
  refine lv_aload_n hx hb dL_law_1030 rfl (lv_at hl 3 rfl) ?_
  refine vx_calli (crx_SW (n := 5) (As := [.ref (y.2 0 0), .int (xs (j + 1)), .int (xs (j + 2)), .int (xs (j + 3)), .ref oa]) (rest := []) ⟨hx, hb, hml, hown, hts⟩ hK hR (m_X0_bid (X := xl (oX oa n0 d0 s0) []) hfl hW hW.pub (Or.inl ⟨rfl, rfl⟩) h) q1310 q1311 q73 q1312 rfl rfl hdL_bid ⟨Nat.le_of_ble_eq_true rfl, Nat.le_of_ble_eq_true rfl⟩ rfl rfl hl.1 rfl (lv_room (Nat.le_of_ble_eq_true rfl)) dL_law_1031 ⟨(Nat.le_trans (show cells + 4 ≤ cells + 9300 from by omega) hC), (Nat.le_trans (show slots + 24 ≤ slots + 100000 from by omega) hSl)⟩) hS (fun _ _ h => h) (fun _ h => h) (fun _ _ h => h) (fun E9 ce9 q9 u t H1 locs1 e1 _ hu => hu.elim) (fun k9 u t H1 locs1 ht _ hp hB hz8 _ hS => ?_)
  obtain ⟨w1, n1⟩ := u
  dsimp only at hp hB
  replace h := hp
  have hR : Rp κ w1 y (oX oa n1 d0 s0) [] H1 := by rw [← ht]; exact hB.wk (fun _ _ h => by obtain ⟨rfl, rfl⟩ := h; exact Or.inl ⟨rfl, rfl⟩)
  refine lv_istore (lv' := [(5, .int k9), (0, .ref b), (1, .ref (y.2 0 0)), (2, .ref (y.2 20 0)), (3, .ref oa), (4, .int (nI j))]) hx hb dL_law_1034 hl (by decide) rfl (fun ls hl => ?_)
  refine lv_aload_n hx hb dL_law_1036 rfl (lv_at hl 3 rfl) ?_
  refine lv_aload_n hx hb dL_law_1037 rfl (lv_at hl 1 rfl) ?_
  refine lv_iload hx hb dL_law_1038 (lv_at hl 5 rfl) ?_
  refine lv_iconst (v := (1 : Int32)) hx hb dL_law_1040 (by decide) ?_
  refine lv_iadd hx hb dL_law_1041 ?_
  rw [a1]
  refine va_sld hx hb hX9 hbs hbA hS v1 dL_law_1042 ?_
  rw [c1]
  refine lv_aload_n hx hb dL_law_1043 rfl (lv_at hl 1 rfl) ?_
  refine lv_iload hx hb dL_law_1044 (lv_at hl 5 rfl) ?_
  refine lv_iconst (v := (2 : Int32)) hx hb dL_law_1046 (by decide) ?_
  refine lv_iadd hx hb dL_law_1047 ?_
  rw [a2]
  refine va_sld hx hb hX9 hbs hbA hS v2 dL_law_1048 ?_
  rw [c2]
  refine lv_aload_n hx hb dL_law_1049 rfl (lv_at hl 1 rfl) ?_
  refine lv_iload hx hb dL_law_1050 (lv_at hl 5 rfl) ?_
  refine lv_iconst (v := (3 : Int32)) hx hb dL_law_1052 (by decide) ?_
  refine lv_iadd hx hb dL_law_1053 ?_
  rw [a3]
  refine va_sld hx hb hX9 hbs hbA hS v3 dL_law_1054 ?_
  rw [c3]
  refine ce_qi (fw := fun u => u) (fy := fun _ => y) (cr_V (n := 3) (As := [.int (xs (j + 1)), .int (xs (j + 2)), .int (xs (j + 3))]) (rest := []) ⟨hx, hb, hml, hown, hts⟩ hK hR (m_X8_bid hM hM.mro h) q2304 q2305 q2306 q85 q2307 rfl rfl hd_X8_bid ⟨Nat.le_of_ble_eq_true rfl, Nat.le_of_ble_eq_true rfl⟩ (rv hK hR hM.mro (ci := 11) rfl rfl) rfl rfl hl.1 rfl (lv_room (Nat.le_of_ble_eq_true rfl)) dL_law_1055 ⟨(Nat.le_trans (show cells + 4 + 1 ≤ cells + 9300 from by omega) hC), (Nat.le_trans (show slots + 24 + 4 ≤ slots + 100000 from by omega) hSl)⟩) hR hS (fun b9 w2 H1 locs1 h hR _ hS => ?_)
  obtain ⟨e7, e9, h⟩ := h
  refine lv_istore (lv' := [(6, .int b9), (5, .int k9), (0, .ref b), (1, .ref (y.2 0 0)), (2, .ref (y.2 20 0)), (3, .ref oa), (4, .int (nI j))]) hx hb dL_law_1058 hl (by decide) rfl (fun ls hl => ?_)
  refine lv_aload_n hx hb dL_law_1060 rfl (lv_at hl 4 rfl) ?_
  refine ce_qi (fw := fun u => u) (fy := fun _ => y) (cr_V (n := 0) (As := []) (rest := []) ⟨hx, hb, hml, hown, hts⟩ hK hR (m_X8_thrown (post := fun r9 u9 => r9 = gv w2 20 0 0 ∧ u9 = w2) hM hM.mro ⟨rfl, rfl⟩) q2012 q2013 q2014 q85 q2015 rfl rfl hd_X8_thrown ⟨Nat.le_of_ble_eq_true rfl, Nat.le_of_ble_eq_true rfl⟩ (rv hK hR hM.mro (ci := 11) rfl rfl) rfl rfl hl.1 rfl (lv_room (Nat.le_of_ble_eq_true rfl)) dL_law_1061 ⟨(Nat.le_trans (show cells + 4 + 1 + 0 ≤ cells + 9300 from by omega) hC), (Nat.le_trans (show slots + 24 + 4 + 0 ≤ slots + 100000 from by omega) hSl)⟩) hR hS (fun t9 w3 H1 locs1 ht9 hR _ hS => ?_)
  obtain ⟨et9, rfl⟩ := ht9
  rw [et9, e7]
  refine lv_iload hx hb dL_law_1064 (lv_at hl 1 rfl) ?_
  refine lv_icmp_eq (tgt := 1071) hx hb dL_law_1066 (by decide) (fun _ => ?_) (fun c9 => absurd rfl c9)
  refine lv_iload hx hb dL_law_1071 (lv_at hl 1 rfl) ?_
  refine lv_if_ne (tgt := 1089) hx hb dL_law_1073 (by decide) (fun c9 => ?_) (fun c9 => ?_)
  · skip
    refine lv_goto (tgt := 3023) hx hb dL_law_1089 (by decide) ?_
    refine W.widen (k := cells + 9300) (n := slots + 100000) (by omega) (by omega) ?_
    exact kk _ _ _ _ _ _ _ _ h Keeps.rf hR hS (lv_sub (hl) [2, 3, 4, 5, 6] rfl)
  · have c9 : k9 = 0 := by first | exact c9 | exact Decidable.of_not_not c9
    have e9 := e9 c9
    refine lv_aload_n hx hb dL_law_1076 rfl (lv_at hl 5 rfl) ?_
    refine va_getN (host := "PublicanryLaw") (T := TX9) (N := 3) (v := .long n1) hx hb hts in_X9 hown hK.1 (va_P1 (hR.2.2.2.1 _ _ ⟨rfl, rfl⟩).1) 0 rfl rfl 0 (by decide) (va_Nw.use rfl (hK.2.1.2.1 _ (List.mem_of_getElem? (i := 1) rfl))) (fun _ h => h) rfl dL_law_1077 ?_
    refine lv_iload hx hb dL_law_1080 (lv_at hl 0 rfl) ?_
    refine lv_i2l hx hb dL_law_1082 rfl ?_
    refine W.lcmp hx hb dL_law_1083 ?_
    refine lv_if_eq (tgt := 1089) hx hb dL_law_1084 (by decide) (fun _ => ?_) (fun c9 => absurd (by rw [e9]; exact lg_cmp_self _) c9)
    refine lv_goto (tgt := 3023) hx hb dL_law_1089 (by decide) ?_
    refine W.widen (k := cells + 9300) (n := slots + 100000) (by omega) (by omega) ?_
    exact kk _ _ _ _ _ _ _ _ h Keeps.rf hR hS (lv_sub (hl) [2, 3, 4, 5, 6] rfl)
def sL_12 (κ : Kx) (y : Ly) (post : Wd → Ly → Prop) (n0 : Int64) (w : Wd) (x1 : Int32) : Prop := sp_X0_award κ y (fun k9 n1 w1 y1 => WFm κ y1 ∧ sp_X8_award κ y1 (fun b9 w2 => gv w2 20 0 0 = k9 ∧ (k9 = 0 → n1 = b9.toInt64) ∧ post w2 y1) w1 x1) n0 w x1
set_option maxHeartbeats 4000000 in
theorem lc_12 {p : Program} {l : Launch} {e : Env} {s : State} {m : MethodId} {below : List Frame} {meth : Method} {c : Code} {b L : Nat} {xs : Nat → Int32} {κ : Kx} {Q : State → Prop} {w : Wd} {y : Ly} {oa : Nat} {n0 : Int64} {d0 : UInt64} {s0 : Value} {H : Heap} {locs : List Loc} {ls : Array Slot} {cells slots j : Nat} {post : Wd → Ly → Prop} (F : LF p l s m meth c b L xs κ) (hm : mon s.heap (y.2 3 0)) (hR : Rp κ w y (oX oa n0 d0 s0) [] H) (hS : va_S (Af κ) s.heap H locs) (hW : WFc κ y) (hM : WFm κ y) (hl : lv_has ls 8 [(0, .ref b), (1, .ref (y.2 0 0)), (2, .ref (y.2 20 0)), (3, .ref oa), (4, .int (nI j))]) (hj : j + 5 ≤ L) (hC : cells + 9300 ≤ rmL.cells) (hSl : slots + 100000 ≤ rmL.slots) (h : sL_12 κ y post n0 w (xs (j + 1))) (kk : ∀ (w2 : Wd) (y2 : Ly) (n1 : Int64) (d1 : UInt64) (s1 : Value) (H1 : Heap) (locs1 : List Loc) (ls1 : Array Slot), post w2 y2 → Keeps y y2 → Rp κ w2 y2 (oX oa n1 d1 s1) [] H1 → va_S (Af κ) s.heap H1 locs1 → lv_has ls1 8 [(0, .ref b), (1, .ref (y.2 0 0)), (2, .ref (y.2 20 0)), (3, .ref oa), (4, .int (nI j))] → W p l e rmL s m #[.ref b] below meth c H1 locs1 (cells + 9300) (slots + 100000) Q (F0 m 3023 ls1 [])) : W p l e rmL s m #[.ref b] below meth c H locs cells slots Q (F0 m 1092 ls []) := by
  obtain ⟨hx, hb, hr, hml, hlk, hown, hts, hfl, hK, hPx, hX9, hbl, hz9, hL9⟩ := F
  have hbA : ¬ Af κ b := fun h9 => Nat.lt_irrefl _ (Nat.lt_of_lt_of_le hbl h9)
  have hbs : b < s.heap.size := Nat.lt_of_lt_of_le hbl hz9
  have a1 : nI j + (1 : Int32) = nI (j + 1) := nI_add j 1
  have c1 : (nI (j + 1)).toNatClampNeg = j + 1 := nI_clamp (by omega)
  have v1 : vp_in (nI (j + 1)) L := vp_in_nI (by omega) (by omega)
  unfold sL_12 at h
  refine lv_aload_n hx hb dL_law_1092 rfl (lv_at hl 1 rfl) ?_
  refine lv_aload_n hx hb dL_law_1093 rfl (lv_at hl 0 rfl) ?_
  refine lv_iload hx hb dL_law_1094 (lv_at hl 4 rfl) ?_
  refine lv_iconst (v := (1 : Int32)) hx hb dL_law_1096 (by decide) ?_
  refine lv_iadd hx hb dL_law_1097 ?_
  rw [a1]
  refine va_sld hx hb hX9 hbs hbA hS v1 dL_law_1098 ?_
  rw [c1]
  refine lv_aload_n hx hb dL_law_1099 rfl (lv_at hl 3 rfl) ?_
  refine vx_calli (crx_SW (n := 3) (As := [.ref (y.2 0 0), .int (xs (j + 1)), .ref oa]) (rest := []) ⟨hx, hb, hml, hown, hts⟩ hK hR (m_X0_award (X := xl (oX oa n0 d0 s0) []) hfl hW hW.pub (Or.inl ⟨rfl, rfl⟩) h) q1327 q1328 q73 q1329 rfl rfl hdL_award ⟨Nat.le_of_ble_eq_true rfl, Nat.le_of_ble_eq_true rfl⟩ rfl rfl hl.1 rfl (lv_room (Nat.le_of_ble_eq_true rfl)) dL_law_1100 ⟨(Nat.le_trans (show cells + 7 ≤ cells + 9300 from by omega) hC), (Nat.le_trans (show slots + 29 ≤ slots + 100000 from by omega) hSl)⟩) hS (fun _ _ h => h) (fun _ h => h) (fun _ _ h => h) (fun E9 ce9 q9 u t H1 locs1 e1 _ hu => hu.elim) (fun k9 u t H1 locs1 ht _ hp hB hz8 _ hS => ?_)
  obtain ⟨w1, y1, n1⟩ := u
  dsimp only at hp hB
  obtain ⟨hB, hW1, hLe⟩ := hB
  have hKp : Keeps y y1 := Keeps.le hLe
  obtain ⟨hM1, h⟩ := hp
  have hR : Rp κ w1 y1 (oX oa n1 d0 s0) [] H1 := by rw [← ht]; exact hB.wk (fun _ _ h => by obtain ⟨rfl, rfl⟩ := h; exact Or.inl ⟨rfl, rfl⟩)
  have eL20 := hKp.a20
  refine lv_istore (lv' := [(5, .int k9), (0, .ref b), (1, .ref (y.2 0 0)), (2, .ref (y.2 20 0)), (3, .ref oa), (4, .int (nI j))]) hx hb dL_law_1103 hl (by decide) rfl (fun ls hl => ?_)
  refine lv_aload_n hx hb dL_law_1105 rfl (lv_at hl 3 rfl) ?_
  refine lv_aload_n hx hb dL_law_1106 rfl (lv_at hl 1 rfl) ?_
  refine lv_iload hx hb dL_law_1107 (lv_at hl 5 rfl) ?_
  refine lv_iconst (v := (1 : Int32)) hx hb dL_law_1109 (by decide) ?_
  refine lv_iadd hx hb dL_law_1110 ?_
  rw [a1]
  refine va_sld hx hb hX9 hbs hbA hS v1 dL_law_1111 ?_
  rw [c1]
  rw [← hKp.a20]
  refine ce_qi (fw := fun u => u) (fy := fun _ => y1) (cr_V (n := 1) (As := [.int (xs (j + 1))]) (rest := []) ⟨hx, hb, hml, hown, hts⟩ hK hR (m_X8_award hM1 hM1.mro h) q2324 q2325 q2326 q85 q2327 rfl rfl hd_X8_award ⟨Nat.le_of_ble_eq_true rfl, Nat.le_of_ble_eq_true rfl⟩ (rv hK hR hM1.mro (ci := 11) rfl rfl) rfl rfl hl.1 rfl (lv_room (Nat.le_of_ble_eq_true rfl)) dL_law_1112 ⟨(Nat.le_trans (show cells + 7 + 16 ≤ cells + 9300 from by omega) hC), (Nat.le_trans (show slots + 29 + 64 ≤ slots + 100000 from by omega) hSl)⟩) hR hS (fun b9 w2 H1 locs1 h hR _ hS => ?_)
  obtain ⟨e7, e9, h⟩ := h
  refine lv_istore (lv' := [(6, .int b9), (5, .int k9), (0, .ref b), (1, .ref (y.2 0 0)), (2, .ref (y.2 20 0)), (3, .ref oa), (4, .int (nI j))]) hx hb dL_law_1115 hl (by decide) rfl (fun ls hl => ?_)
  refine lv_aload_n hx hb dL_law_1117 rfl (lv_at hl 4 rfl) ?_
  rw [← hKp.a20]
  refine ce_qi (fw := fun u => u) (fy := fun _ => y1) (cr_V (n := 0) (As := []) (rest := []) ⟨hx, hb, hml, hown, hts⟩ hK hR (m_X8_thrown (post := fun r9 u9 => r9 = gv w2 20 0 0 ∧ u9 = w2) hM1 hM1.mro ⟨rfl, rfl⟩) q2012 q2013 q2014 q85 q2015 rfl rfl hd_X8_thrown ⟨Nat.le_of_ble_eq_true rfl, Nat.le_of_ble_eq_true rfl⟩ (rv hK hR hM1.mro (ci := 11) rfl rfl) rfl rfl hl.1 rfl (lv_room (Nat.le_of_ble_eq_true rfl)) dL_law_1118 ⟨(Nat.le_trans (show cells + 7 + 16 + 0 ≤ cells + 9300 from by omega) hC), (Nat.le_trans (show slots + 29 + 64 + 0 ≤ slots + 100000 from by omega) hSl)⟩) hR hS (fun t9 w3 H1 locs1 ht9 hR _ hS => ?_)
  obtain ⟨et9, rfl⟩ := ht9
  rw [et9, e7]
  refine lv_iload hx hb dL_law_1121 (lv_at hl 1 rfl) ?_
  refine lv_icmp_eq (tgt := 1128) hx hb dL_law_1123 (by decide) (fun _ => ?_) (fun c9 => absurd rfl c9)
  refine lv_iload hx hb dL_law_1128 (lv_at hl 1 rfl) ?_
  refine lv_if_ne (tgt := 1146) hx hb dL_law_1130 (by decide) (fun c9 => ?_) (fun c9 => ?_)
  · skip
    refine lv_goto (tgt := 3023) hx hb dL_law_1146 (by decide) ?_
    refine W.widen (k := cells + 9300) (n := slots + 100000) (by omega) (by omega) ?_
    exact kk _ _ _ _ _ _ _ _ h (Keeps.rf.tr hKp) hR hS (lv_sub (hl) [2, 3, 4, 5, 6] rfl)
  · have c9 : k9 = 0 := by first | exact c9 | exact Decidable.of_not_not c9
    have e9 := e9 c9
    refine lv_aload_n hx hb dL_law_1133 rfl (lv_at hl 5 rfl) ?_
    refine va_getN (host := "PublicanryLaw") (T := TX9) (N := 3) (v := .long n1) hx hb hts in_X9 hown hK.1 (va_P1 (hR.2.2.2.1 _ _ ⟨rfl, rfl⟩).1) 0 rfl rfl 0 (by decide) (va_Nw.use rfl (hK.2.1.2.1 _ (List.mem_of_getElem? (i := 1) rfl))) (fun _ h => h) rfl dL_law_1134 ?_
    refine lv_iload hx hb dL_law_1137 (lv_at hl 0 rfl) ?_
    refine lv_i2l hx hb dL_law_1139 rfl ?_
    refine W.lcmp hx hb dL_law_1140 ?_
    refine lv_if_eq (tgt := 1146) hx hb dL_law_1141 (by decide) (fun _ => ?_) (fun c9 => absurd (by rw [e9]; exact lg_cmp_self _) c9)
    refine lv_goto (tgt := 3023) hx hb dL_law_1146 (by decide) ?_
    refine W.widen (k := cells + 9300) (n := slots + 100000) (by omega) (by omega) ?_
    exact kk _ _ _ _ _ _ _ _ h (Keeps.rf.tr hKp) hR hS (lv_sub (hl) [2, 3, 4, 5, 6] rfl)
def sL_13 (κ : Kx) (y : Ly) (post : Wd → Ly → Prop) (n0 : Int64) (w : Wd) (x1 : Int32) (x2 : Int32) : Prop := sp_X0_force κ y (fun k9 n1 w1 => sp_X8_force κ y (fun b9 w2 => gv w2 20 0 0 = k9 ∧ (k9 = 0 → n1 = b9.toInt64) ∧ post w2 y) w1 x1 x2) n0 w x1 x2
set_option maxHeartbeats 4000000 in
theorem lc_13 {p : Program} {l : Launch} {e : Env} {s : State} {m : MethodId} {below : List Frame} {meth : Method} {c : Code} {b L : Nat} {xs : Nat → Int32} {κ : Kx} {Q : State → Prop} {w : Wd} {y : Ly} {oa : Nat} {n0 : Int64} {d0 : UInt64} {s0 : Value} {H : Heap} {locs : List Loc} {ls : Array Slot} {cells slots j : Nat} {post : Wd → Ly → Prop} (F : LF p l s m meth c b L xs κ) (hm : mon s.heap (y.2 3 0)) (hR : Rp κ w y (oX oa n0 d0 s0) [] H) (hS : va_S (Af κ) s.heap H locs) (hW : WFc κ y) (hM : WFm κ y) (hl : lv_has ls 8 [(0, .ref b), (1, .ref (y.2 0 0)), (2, .ref (y.2 20 0)), (3, .ref oa), (4, .int (nI j))]) (hj : j + 5 ≤ L) (hC : cells + 9300 ≤ rmL.cells) (hSl : slots + 100000 ≤ rmL.slots) (h : sL_13 κ y post n0 w (xs (j + 1)) (xs (j + 2))) (kk : ∀ (w2 : Wd) (y2 : Ly) (n1 : Int64) (d1 : UInt64) (s1 : Value) (H1 : Heap) (locs1 : List Loc) (ls1 : Array Slot), post w2 y2 → Keeps y y2 → Rp κ w2 y2 (oX oa n1 d1 s1) [] H1 → va_S (Af κ) s.heap H1 locs1 → lv_has ls1 8 [(0, .ref b), (1, .ref (y.2 0 0)), (2, .ref (y.2 20 0)), (3, .ref oa), (4, .int (nI j))] → W p l e rmL s m #[.ref b] below meth c H1 locs1 (cells + 9300) (slots + 100000) Q (F0 m 3023 ls1 [])) : W p l e rmL s m #[.ref b] below meth c H locs cells slots Q (F0 m 1149 ls []) := by
  obtain ⟨hx, hb, hr, hml, hlk, hown, hts, hfl, hK, hPx, hX9, hbl, hz9, hL9⟩ := F
  have hbA : ¬ Af κ b := fun h9 => Nat.lt_irrefl _ (Nat.lt_of_lt_of_le hbl h9)
  have hbs : b < s.heap.size := Nat.lt_of_lt_of_le hbl hz9
  have a1 : nI j + (1 : Int32) = nI (j + 1) := nI_add j 1
  have c1 : (nI (j + 1)).toNatClampNeg = j + 1 := nI_clamp (by omega)
  have v1 : vp_in (nI (j + 1)) L := vp_in_nI (by omega) (by omega)
  have a2 : nI j + (2 : Int32) = nI (j + 2) := nI_add j 2
  have c2 : (nI (j + 2)).toNatClampNeg = j + 2 := nI_clamp (by omega)
  have v2 : vp_in (nI (j + 2)) L := vp_in_nI (by omega) (by omega)
  unfold sL_13 at h
  refine lv_aload_n hx hb dL_law_1149 rfl (lv_at hl 1 rfl) ?_
  refine lv_aload_n hx hb dL_law_1150 rfl (lv_at hl 0 rfl) ?_
  refine lv_iload hx hb dL_law_1151 (lv_at hl 4 rfl) ?_
  refine lv_iconst (v := (1 : Int32)) hx hb dL_law_1153 (by decide) ?_
  refine lv_iadd hx hb dL_law_1154 ?_
  rw [a1]
  refine va_sld hx hb hX9 hbs hbA hS v1 dL_law_1155 ?_
  rw [c1]
  refine lv_aload_n hx hb dL_law_1156 rfl (lv_at hl 0 rfl) ?_
  refine lv_iload hx hb dL_law_1157 (lv_at hl 4 rfl) ?_
  refine lv_iconst (v := (2 : Int32)) hx hb dL_law_1159 (by decide) ?_
  refine lv_iadd hx hb dL_law_1160 ?_
  rw [a2]
  refine va_sld hx hb hX9 hbs hbA hS v2 dL_law_1161 ?_
  rw [c2]
  refine lv_aload_n hx hb dL_law_1162 rfl (lv_at hl 3 rfl) ?_
  refine vx_calli (crx_SW (n := 4) (As := [.ref (y.2 0 0), .int (xs (j + 1)), .int (xs (j + 2)), .ref oa]) (rest := []) ⟨hx, hb, hml, hown, hts⟩ hK hR (m_X0_force (X := xl (oX oa n0 d0 s0) []) hfl hW hW.pub (Or.inl ⟨rfl, rfl⟩) h) q1399 q1400 q73 q1401 rfl rfl hdL_force ⟨Nat.le_of_ble_eq_true rfl, Nat.le_of_ble_eq_true rfl⟩ rfl rfl hl.1 rfl (lv_room (Nat.le_of_ble_eq_true rfl)) dL_law_1163 ⟨(Nat.le_trans (show cells + 2 ≤ cells + 9300 from by omega) hC), (Nat.le_trans (show slots + 12 ≤ slots + 100000 from by omega) hSl)⟩) hS (fun _ _ h => h) (fun _ h => h) (fun _ _ h => h) (fun E9 ce9 q9 u t H1 locs1 e1 _ hu => hu.elim) (fun k9 u t H1 locs1 ht _ hp hB hz8 _ hS => ?_)
  obtain ⟨w1, n1⟩ := u
  dsimp only at hp hB
  replace h := hp
  have hR : Rp κ w1 y (oX oa n1 d0 s0) [] H1 := by rw [← ht]; exact hB.wk (fun _ _ h => by obtain ⟨rfl, rfl⟩ := h; exact Or.inl ⟨rfl, rfl⟩)
  refine lv_istore (lv' := [(5, .int k9), (0, .ref b), (1, .ref (y.2 0 0)), (2, .ref (y.2 20 0)), (3, .ref oa), (4, .int (nI j))]) hx hb dL_law_1166 hl (by decide) rfl (fun ls hl => ?_)
  refine lv_aload_n hx hb dL_law_1168 rfl (lv_at hl 3 rfl) ?_
  refine lv_aload_n hx hb dL_law_1169 rfl (lv_at hl 1 rfl) ?_
  refine lv_iload hx hb dL_law_1170 (lv_at hl 5 rfl) ?_
  refine lv_iconst (v := (1 : Int32)) hx hb dL_law_1172 (by decide) ?_
  refine lv_iadd hx hb dL_law_1173 ?_
  rw [a1]
  refine va_sld hx hb hX9 hbs hbA hS v1 dL_law_1174 ?_
  rw [c1]
  refine lv_aload_n hx hb dL_law_1175 rfl (lv_at hl 1 rfl) ?_
  refine lv_iload hx hb dL_law_1176 (lv_at hl 5 rfl) ?_
  refine lv_iconst (v := (2 : Int32)) hx hb dL_law_1178 (by decide) ?_
  refine lv_iadd hx hb dL_law_1179 ?_
  rw [a2]
  refine va_sld hx hb hX9 hbs hbA hS v2 dL_law_1180 ?_
  rw [c2]
  refine ce_qi (fw := fun u => u) (fy := fun _ => y) (cr_V (n := 2) (As := [.int (xs (j + 1)), .int (xs (j + 2))]) (rest := []) ⟨hx, hb, hml, hown, hts⟩ hK hR (m_X8_force hM hM.mro h) q2340 q2341 q2342 q85 q2343 rfl rfl hd_X8_force ⟨Nat.le_of_ble_eq_true rfl, Nat.le_of_ble_eq_true rfl⟩ (rv hK hR hM.mro (ci := 11) rfl rfl) rfl rfl hl.1 rfl (lv_room (Nat.le_of_ble_eq_true rfl)) dL_law_1181 ⟨(Nat.le_trans (show cells + 2 + 0 ≤ cells + 9300 from by omega) hC), (Nat.le_trans (show slots + 12 + 0 ≤ slots + 100000 from by omega) hSl)⟩) hR hS (fun b9 w2 H1 locs1 h hR _ hS => ?_)
  obtain ⟨e7, e9, h⟩ := h
  refine lv_istore (lv' := [(6, .int b9), (5, .int k9), (0, .ref b), (1, .ref (y.2 0 0)), (2, .ref (y.2 20 0)), (3, .ref oa), (4, .int (nI j))]) hx hb dL_law_1184 hl (by decide) rfl (fun ls hl => ?_)
  refine lv_aload_n hx hb dL_law_1186 rfl (lv_at hl 4 rfl) ?_
  refine ce_qi (fw := fun u => u) (fy := fun _ => y) (cr_V (n := 0) (As := []) (rest := []) ⟨hx, hb, hml, hown, hts⟩ hK hR (m_X8_thrown (post := fun r9 u9 => r9 = gv w2 20 0 0 ∧ u9 = w2) hM hM.mro ⟨rfl, rfl⟩) q2012 q2013 q2014 q85 q2015 rfl rfl hd_X8_thrown ⟨Nat.le_of_ble_eq_true rfl, Nat.le_of_ble_eq_true rfl⟩ (rv hK hR hM.mro (ci := 11) rfl rfl) rfl rfl hl.1 rfl (lv_room (Nat.le_of_ble_eq_true rfl)) dL_law_1187 ⟨(Nat.le_trans (show cells + 2 + 0 + 0 ≤ cells + 9300 from by omega) hC), (Nat.le_trans (show slots + 12 + 0 + 0 ≤ slots + 100000 from by omega) hSl)⟩) hR hS (fun t9 w3 H1 locs1 ht9 hR _ hS => ?_)
  obtain ⟨et9, rfl⟩ := ht9
  rw [et9, e7]
  refine lv_iload hx hb dL_law_1190 (lv_at hl 1 rfl) ?_
  refine lv_icmp_eq (tgt := 1197) hx hb dL_law_1192 (by decide) (fun _ => ?_) (fun c9 => absurd rfl c9)
  refine lv_iload hx hb dL_law_1197 (lv_at hl 1 rfl) ?_
  refine lv_if_ne (tgt := 1215) hx hb dL_law_1199 (by decide) (fun c9 => ?_) (fun c9 => ?_)
  · skip
    refine lv_goto (tgt := 3023) hx hb dL_law_1215 (by decide) ?_
    refine W.widen (k := cells + 9300) (n := slots + 100000) (by omega) (by omega) ?_
    exact kk _ _ _ _ _ _ _ _ h Keeps.rf hR hS (lv_sub (hl) [2, 3, 4, 5, 6] rfl)
  · have c9 : k9 = 0 := by first | exact c9 | exact Decidable.of_not_not c9
    have e9 := e9 c9
    refine lv_aload_n hx hb dL_law_1202 rfl (lv_at hl 5 rfl) ?_
    refine va_getN (host := "PublicanryLaw") (T := TX9) (N := 3) (v := .long n1) hx hb hts in_X9 hown hK.1 (va_P1 (hR.2.2.2.1 _ _ ⟨rfl, rfl⟩).1) 0 rfl rfl 0 (by decide) (va_Nw.use rfl (hK.2.1.2.1 _ (List.mem_of_getElem? (i := 1) rfl))) (fun _ h => h) rfl dL_law_1203 ?_
    refine lv_iload hx hb dL_law_1206 (lv_at hl 0 rfl) ?_
    refine lv_i2l hx hb dL_law_1208 rfl ?_
    refine W.lcmp hx hb dL_law_1209 ?_
    refine lv_if_eq (tgt := 1215) hx hb dL_law_1210 (by decide) (fun _ => ?_) (fun c9 => absurd (by rw [e9]; exact lg_cmp_self _) c9)
    refine lv_goto (tgt := 3023) hx hb dL_law_1215 (by decide) ?_
    refine W.widen (k := cells + 9300) (n := slots + 100000) (by omega) (by omega) ?_
    exact kk _ _ _ _ _ _ _ _ h Keeps.rf hR hS (lv_sub (hl) [2, 3, 4, 5, 6] rfl)
def sL_14 (κ : Kx) (y : Ly) (post : Wd → Ly → Prop) (n0 : Int64) (w : Wd) (x1 : Int32) (x2 : Int32) (x3 : Int32) : Prop := sp_X0_letOn κ y (fun k9 n1 w1 => sp_X8_letOn κ y (fun b9 w2 => gv w2 20 0 0 = k9 ∧ (k9 = 0 → n1 = b9.toInt64) ∧ post w2 y) w1 x1 x2 x3) n0 w x1 x2 x3
set_option maxHeartbeats 4000000 in
theorem lc_14 {p : Program} {l : Launch} {e : Env} {s : State} {m : MethodId} {below : List Frame} {meth : Method} {c : Code} {b L : Nat} {xs : Nat → Int32} {κ : Kx} {Q : State → Prop} {w : Wd} {y : Ly} {oa : Nat} {n0 : Int64} {d0 : UInt64} {s0 : Value} {H : Heap} {locs : List Loc} {ls : Array Slot} {cells slots j : Nat} {post : Wd → Ly → Prop} (F : LF p l s m meth c b L xs κ) (hm : mon s.heap (y.2 3 0)) (hR : Rp κ w y (oX oa n0 d0 s0) [] H) (hS : va_S (Af κ) s.heap H locs) (hW : WFc κ y) (hM : WFm κ y) (hl : lv_has ls 8 [(0, .ref b), (1, .ref (y.2 0 0)), (2, .ref (y.2 20 0)), (3, .ref oa), (4, .int (nI j))]) (hj : j + 5 ≤ L) (hC : cells + 9300 ≤ rmL.cells) (hSl : slots + 100000 ≤ rmL.slots) (h : sL_14 κ y post n0 w (xs (j + 1)) (xs (j + 2)) (xs (j + 3))) (kk : ∀ (w2 : Wd) (y2 : Ly) (n1 : Int64) (d1 : UInt64) (s1 : Value) (H1 : Heap) (locs1 : List Loc) (ls1 : Array Slot), post w2 y2 → Keeps y y2 → Rp κ w2 y2 (oX oa n1 d1 s1) [] H1 → va_S (Af κ) s.heap H1 locs1 → lv_has ls1 8 [(0, .ref b), (1, .ref (y.2 0 0)), (2, .ref (y.2 20 0)), (3, .ref oa), (4, .int (nI j))] → W p l e rmL s m #[.ref b] below meth c H1 locs1 (cells + 9300) (slots + 100000) Q (F0 m 3023 ls1 [])) : W p l e rmL s m #[.ref b] below meth c H locs cells slots Q (F0 m 1218 ls []) := by
  obtain ⟨hx, hb, hr, hml, hlk, hown, hts, hfl, hK, hPx, hX9, hbl, hz9, hL9⟩ := F
  have hbA : ¬ Af κ b := fun h9 => Nat.lt_irrefl _ (Nat.lt_of_lt_of_le hbl h9)
  have hbs : b < s.heap.size := Nat.lt_of_lt_of_le hbl hz9
  have a1 : nI j + (1 : Int32) = nI (j + 1) := nI_add j 1
  have c1 : (nI (j + 1)).toNatClampNeg = j + 1 := nI_clamp (by omega)
  have v1 : vp_in (nI (j + 1)) L := vp_in_nI (by omega) (by omega)
  have a2 : nI j + (2 : Int32) = nI (j + 2) := nI_add j 2
  have c2 : (nI (j + 2)).toNatClampNeg = j + 2 := nI_clamp (by omega)
  have v2 : vp_in (nI (j + 2)) L := vp_in_nI (by omega) (by omega)
  have a3 : nI j + (3 : Int32) = nI (j + 3) := nI_add j 3
  have c3 : (nI (j + 3)).toNatClampNeg = j + 3 := nI_clamp (by omega)
  have v3 : vp_in (nI (j + 3)) L := vp_in_nI (by omega) (by omega)
  unfold sL_14 at h
  refine lv_aload_n hx hb dL_law_1218 rfl (lv_at hl 1 rfl) ?_
  refine lv_aload_n hx hb dL_law_1219 rfl (lv_at hl 0 rfl) ?_
  refine lv_iload hx hb dL_law_1220 (lv_at hl 4 rfl) ?_
  refine lv_iconst (v := (1 : Int32)) hx hb dL_law_1222 (by decide) ?_
  refine lv_iadd hx hb dL_law_1223 ?_
  rw [a1]
  refine va_sld hx hb hX9 hbs hbA hS v1 dL_law_1224 ?_
  rw [c1]
  refine lv_aload_n hx hb dL_law_1225 rfl (lv_at hl 0 rfl) ?_
  refine lv_iload hx hb dL_law_1226 (lv_at hl 4 rfl) ?_
  refine lv_iconst (v := (2 : Int32)) hx hb dL_law_1228 (by decide) ?_
  refine lv_iadd hx hb dL_law_1229 ?_
  rw [a2]
  refine va_sld hx hb hX9 hbs hbA hS v2 dL_law_1230 ?_
  rw [c2]
  refine lv_aload_n hx hb dL_law_1231 rfl (lv_at hl 0 rfl) ?_
  refine lv_iload hx hb dL_law_1232 (lv_at hl 4 rfl) ?_
  refine lv_iconst (v := (3 : Int32)) hx hb dL_law_1234 (by decide) ?_
  refine lv_iadd hx hb dL_law_1235 ?_
  rw [a3]
  refine va_sld hx hb hX9 hbs hbA hS v3 dL_law_1236 ?_
  rw [c3]
  refine lv_aload_n hx hb dL_law_1237 rfl (lv_at hl 3 rfl) ?_
  refine vx_calli (crx_SW (n := 5) (As := [.ref (y.2 0 0), .int (xs (j + 1)), .int (xs (j + 2)), .int (xs (j + 3)), .ref oa]) (rest := []) ⟨hx, hb, hml, hown, hts⟩ hK hR (m_X0_letOn (X := xl (oX oa n0 d0 s0) []) hfl hW hW.pub (Or.inl ⟨rfl, rfl⟩) h) q1407 q1408 q73 q1409 rfl rfl hdL_letOn ⟨Nat.le_of_ble_eq_true rfl, Nat.le_of_ble_eq_true rfl⟩ rfl rfl hl.1 rfl (lv_room (Nat.le_of_ble_eq_true rfl)) dL_law_1238 ⟨(Nat.le_trans (show cells + 4 ≤ cells + 9300 from by omega) hC), (Nat.le_trans (show slots + 24 ≤ slots + 100000 from by omega) hSl)⟩) hS (fun _ _ h => h) (fun _ h => h) (fun _ _ h => h) (fun E9 ce9 q9 u t H1 locs1 e1 _ hu => hu.elim) (fun k9 u t H1 locs1 ht _ hp hB hz8 _ hS => ?_)
  obtain ⟨w1, n1⟩ := u
  dsimp only at hp hB
  replace h := hp
  have hR : Rp κ w1 y (oX oa n1 d0 s0) [] H1 := by rw [← ht]; exact hB.wk (fun _ _ h => by obtain ⟨rfl, rfl⟩ := h; exact Or.inl ⟨rfl, rfl⟩)
  refine lv_istore (lv' := [(5, .int k9), (0, .ref b), (1, .ref (y.2 0 0)), (2, .ref (y.2 20 0)), (3, .ref oa), (4, .int (nI j))]) hx hb dL_law_1241 hl (by decide) rfl (fun ls hl => ?_)
  refine lv_aload_n hx hb dL_law_1243 rfl (lv_at hl 3 rfl) ?_
  refine lv_aload_n hx hb dL_law_1244 rfl (lv_at hl 1 rfl) ?_
  refine lv_iload hx hb dL_law_1245 (lv_at hl 5 rfl) ?_
  refine lv_iconst (v := (1 : Int32)) hx hb dL_law_1247 (by decide) ?_
  refine lv_iadd hx hb dL_law_1248 ?_
  rw [a1]
  refine va_sld hx hb hX9 hbs hbA hS v1 dL_law_1249 ?_
  rw [c1]
  refine lv_aload_n hx hb dL_law_1250 rfl (lv_at hl 1 rfl) ?_
  refine lv_iload hx hb dL_law_1251 (lv_at hl 5 rfl) ?_
  refine lv_iconst (v := (2 : Int32)) hx hb dL_law_1253 (by decide) ?_
  refine lv_iadd hx hb dL_law_1254 ?_
  rw [a2]
  refine va_sld hx hb hX9 hbs hbA hS v2 dL_law_1255 ?_
  rw [c2]
  refine lv_aload_n hx hb dL_law_1256 rfl (lv_at hl 1 rfl) ?_
  refine lv_iload hx hb dL_law_1257 (lv_at hl 5 rfl) ?_
  refine lv_iconst (v := (3 : Int32)) hx hb dL_law_1259 (by decide) ?_
  refine lv_iadd hx hb dL_law_1260 ?_
  rw [a3]
  refine va_sld hx hb hX9 hbs hbA hS v3 dL_law_1261 ?_
  rw [c3]
  refine ce_qi (fw := fun u => u) (fy := fun _ => y) (cr_V (n := 3) (As := [.int (xs (j + 1)), .int (xs (j + 2)), .int (xs (j + 3))]) (rest := []) ⟨hx, hb, hml, hown, hts⟩ hK hR (m_X8_letOn hM hM.mro h) q2344 q2345 q2346 q85 q2347 rfl rfl hd_X8_letOn ⟨Nat.le_of_ble_eq_true rfl, Nat.le_of_ble_eq_true rfl⟩ (rv hK hR hM.mro (ci := 11) rfl rfl) rfl rfl hl.1 rfl (lv_room (Nat.le_of_ble_eq_true rfl)) dL_law_1262 ⟨(Nat.le_trans (show cells + 4 + 0 ≤ cells + 9300 from by omega) hC), (Nat.le_trans (show slots + 24 + 0 ≤ slots + 100000 from by omega) hSl)⟩) hR hS (fun b9 w2 H1 locs1 h hR _ hS => ?_)
  obtain ⟨e7, e9, h⟩ := h
  refine lv_istore (lv' := [(6, .int b9), (5, .int k9), (0, .ref b), (1, .ref (y.2 0 0)), (2, .ref (y.2 20 0)), (3, .ref oa), (4, .int (nI j))]) hx hb dL_law_1265 hl (by decide) rfl (fun ls hl => ?_)
  refine lv_aload_n hx hb dL_law_1267 rfl (lv_at hl 4 rfl) ?_
  refine ce_qi (fw := fun u => u) (fy := fun _ => y) (cr_V (n := 0) (As := []) (rest := []) ⟨hx, hb, hml, hown, hts⟩ hK hR (m_X8_thrown (post := fun r9 u9 => r9 = gv w2 20 0 0 ∧ u9 = w2) hM hM.mro ⟨rfl, rfl⟩) q2012 q2013 q2014 q85 q2015 rfl rfl hd_X8_thrown ⟨Nat.le_of_ble_eq_true rfl, Nat.le_of_ble_eq_true rfl⟩ (rv hK hR hM.mro (ci := 11) rfl rfl) rfl rfl hl.1 rfl (lv_room (Nat.le_of_ble_eq_true rfl)) dL_law_1268 ⟨(Nat.le_trans (show cells + 4 + 0 + 0 ≤ cells + 9300 from by omega) hC), (Nat.le_trans (show slots + 24 + 0 + 0 ≤ slots + 100000 from by omega) hSl)⟩) hR hS (fun t9 w3 H1 locs1 ht9 hR _ hS => ?_)
  obtain ⟨et9, rfl⟩ := ht9
  rw [et9, e7]
  refine lv_iload hx hb dL_law_1271 (lv_at hl 1 rfl) ?_
  refine lv_icmp_eq (tgt := 1278) hx hb dL_law_1273 (by decide) (fun _ => ?_) (fun c9 => absurd rfl c9)
  refine lv_iload hx hb dL_law_1278 (lv_at hl 1 rfl) ?_
  refine lv_if_ne (tgt := 1296) hx hb dL_law_1280 (by decide) (fun c9 => ?_) (fun c9 => ?_)
  · skip
    refine lv_goto (tgt := 3023) hx hb dL_law_1296 (by decide) ?_
    refine W.widen (k := cells + 9300) (n := slots + 100000) (by omega) (by omega) ?_
    exact kk _ _ _ _ _ _ _ _ h Keeps.rf hR hS (lv_sub (hl) [2, 3, 4, 5, 6] rfl)
  · have c9 : k9 = 0 := by first | exact c9 | exact Decidable.of_not_not c9
    have e9 := e9 c9
    refine lv_aload_n hx hb dL_law_1283 rfl (lv_at hl 5 rfl) ?_
    refine va_getN (host := "PublicanryLaw") (T := TX9) (N := 3) (v := .long n1) hx hb hts in_X9 hown hK.1 (va_P1 (hR.2.2.2.1 _ _ ⟨rfl, rfl⟩).1) 0 rfl rfl 0 (by decide) (va_Nw.use rfl (hK.2.1.2.1 _ (List.mem_of_getElem? (i := 1) rfl))) (fun _ h => h) rfl dL_law_1284 ?_
    refine lv_iload hx hb dL_law_1287 (lv_at hl 0 rfl) ?_
    refine lv_i2l hx hb dL_law_1289 rfl ?_
    refine W.lcmp hx hb dL_law_1290 ?_
    refine lv_if_eq (tgt := 1296) hx hb dL_law_1291 (by decide) (fun _ => ?_) (fun c9 => absurd (by rw [e9]; exact lg_cmp_self _) c9)
    refine lv_goto (tgt := 3023) hx hb dL_law_1296 (by decide) ?_
    refine W.widen (k := cells + 9300) (n := slots + 100000) (by omega) (by omega) ?_
    exact kk _ _ _ _ _ _ _ _ h Keeps.rf hR hS (lv_sub (hl) [2, 3, 4, 5, 6] rfl)
def sL_15 (κ : Kx) (y : Ly) (post : Wd → Ly → Prop) (n0 : Int64) (w : Wd) (x1 : Int32) (x2 : Int32) : Prop := sp_X0_deliver κ y (fun k9 n1 w1 => sp_X8_deliver κ y (fun b9 w2 => gv w2 20 0 0 = k9 ∧ (k9 = 0 → n1 = b9.toInt64) ∧ post w2 y) w1 x1 x2) n0 w x1 x2
set_option maxHeartbeats 4000000 in
theorem lc_15 {p : Program} {l : Launch} {e : Env} {s : State} {m : MethodId} {below : List Frame} {meth : Method} {c : Code} {b L : Nat} {xs : Nat → Int32} {κ : Kx} {Q : State → Prop} {w : Wd} {y : Ly} {oa : Nat} {n0 : Int64} {d0 : UInt64} {s0 : Value} {H : Heap} {locs : List Loc} {ls : Array Slot} {cells slots j : Nat} {post : Wd → Ly → Prop} (F : LF p l s m meth c b L xs κ) (hm : mon s.heap (y.2 3 0)) (hR : Rp κ w y (oX oa n0 d0 s0) [] H) (hS : va_S (Af κ) s.heap H locs) (hW : WFc κ y) (hM : WFm κ y) (hl : lv_has ls 8 [(0, .ref b), (1, .ref (y.2 0 0)), (2, .ref (y.2 20 0)), (3, .ref oa), (4, .int (nI j))]) (hj : j + 5 ≤ L) (hC : cells + 9300 ≤ rmL.cells) (hSl : slots + 100000 ≤ rmL.slots) (h : sL_15 κ y post n0 w (xs (j + 1)) (xs (j + 2))) (kk : ∀ (w2 : Wd) (y2 : Ly) (n1 : Int64) (d1 : UInt64) (s1 : Value) (H1 : Heap) (locs1 : List Loc) (ls1 : Array Slot), post w2 y2 → Keeps y y2 → Rp κ w2 y2 (oX oa n1 d1 s1) [] H1 → va_S (Af κ) s.heap H1 locs1 → lv_has ls1 8 [(0, .ref b), (1, .ref (y.2 0 0)), (2, .ref (y.2 20 0)), (3, .ref oa), (4, .int (nI j))] → W p l e rmL s m #[.ref b] below meth c H1 locs1 (cells + 9300) (slots + 100000) Q (F0 m 3023 ls1 [])) : W p l e rmL s m #[.ref b] below meth c H locs cells slots Q (F0 m 1299 ls []) := by
  obtain ⟨hx, hb, hr, hml, hlk, hown, hts, hfl, hK, hPx, hX9, hbl, hz9, hL9⟩ := F
  have hbA : ¬ Af κ b := fun h9 => Nat.lt_irrefl _ (Nat.lt_of_lt_of_le hbl h9)
  have hbs : b < s.heap.size := Nat.lt_of_lt_of_le hbl hz9
  have a1 : nI j + (1 : Int32) = nI (j + 1) := nI_add j 1
  have c1 : (nI (j + 1)).toNatClampNeg = j + 1 := nI_clamp (by omega)
  have v1 : vp_in (nI (j + 1)) L := vp_in_nI (by omega) (by omega)
  have a2 : nI j + (2 : Int32) = nI (j + 2) := nI_add j 2
  have c2 : (nI (j + 2)).toNatClampNeg = j + 2 := nI_clamp (by omega)
  have v2 : vp_in (nI (j + 2)) L := vp_in_nI (by omega) (by omega)
  unfold sL_15 at h
  refine lv_aload_n hx hb dL_law_1299 rfl (lv_at hl 1 rfl) ?_
  refine lv_aload_n hx hb dL_law_1300 rfl (lv_at hl 0 rfl) ?_
  refine lv_iload hx hb dL_law_1301 (lv_at hl 4 rfl) ?_
  refine lv_iconst (v := (1 : Int32)) hx hb dL_law_1303 (by decide) ?_
  refine lv_iadd hx hb dL_law_1304 ?_
  rw [a1]
  refine va_sld hx hb hX9 hbs hbA hS v1 dL_law_1305 ?_
  rw [c1]
  refine lv_aload_n hx hb dL_law_1306 rfl (lv_at hl 0 rfl) ?_
  refine lv_iload hx hb dL_law_1307 (lv_at hl 4 rfl) ?_
  refine lv_iconst (v := (2 : Int32)) hx hb dL_law_1309 (by decide) ?_
  refine lv_iadd hx hb dL_law_1310 ?_
  rw [a2]
  refine va_sld hx hb hX9 hbs hbA hS v2 dL_law_1311 ?_
  rw [c2]
  refine lv_aload_n hx hb dL_law_1312 rfl (lv_at hl 3 rfl) ?_
  refine vx_calli (crx_SW (n := 4) (As := [.ref (y.2 0 0), .int (xs (j + 1)), .int (xs (j + 2)), .ref oa]) (rest := []) ⟨hx, hb, hml, hown, hts⟩ hK hR (m_X0_deliver (X := xl (oX oa n0 d0 s0) []) hfl hW hW.pub (Or.inl ⟨rfl, rfl⟩) h) q1415 q1416 q73 q1417 rfl rfl hdL_deliver ⟨Nat.le_of_ble_eq_true rfl, Nat.le_of_ble_eq_true rfl⟩ rfl rfl hl.1 rfl (lv_room (Nat.le_of_ble_eq_true rfl)) dL_law_1313 ⟨(Nat.le_trans (show cells + 3 ≤ cells + 9300 from by omega) hC), (Nat.le_trans (show slots + 18 ≤ slots + 100000 from by omega) hSl)⟩) hS (fun _ _ h => h) (fun _ h => h) (fun _ _ h => h) (fun E9 ce9 q9 u t H1 locs1 e1 _ hu => hu.elim) (fun k9 u t H1 locs1 ht _ hp hB hz8 _ hS => ?_)
  obtain ⟨w1, n1⟩ := u
  dsimp only at hp hB
  replace h := hp
  have hR : Rp κ w1 y (oX oa n1 d0 s0) [] H1 := by rw [← ht]; exact hB.wk (fun _ _ h => by obtain ⟨rfl, rfl⟩ := h; exact Or.inl ⟨rfl, rfl⟩)
  refine lv_istore (lv' := [(5, .int k9), (0, .ref b), (1, .ref (y.2 0 0)), (2, .ref (y.2 20 0)), (3, .ref oa), (4, .int (nI j))]) hx hb dL_law_1316 hl (by decide) rfl (fun ls hl => ?_)
  refine lv_aload_n hx hb dL_law_1318 rfl (lv_at hl 3 rfl) ?_
  refine lv_aload_n hx hb dL_law_1319 rfl (lv_at hl 1 rfl) ?_
  refine lv_iload hx hb dL_law_1320 (lv_at hl 5 rfl) ?_
  refine lv_iconst (v := (1 : Int32)) hx hb dL_law_1322 (by decide) ?_
  refine lv_iadd hx hb dL_law_1323 ?_
  rw [a1]
  refine va_sld hx hb hX9 hbs hbA hS v1 dL_law_1324 ?_
  rw [c1]
  refine lv_aload_n hx hb dL_law_1325 rfl (lv_at hl 1 rfl) ?_
  refine lv_iload hx hb dL_law_1326 (lv_at hl 5 rfl) ?_
  refine lv_iconst (v := (2 : Int32)) hx hb dL_law_1328 (by decide) ?_
  refine lv_iadd hx hb dL_law_1329 ?_
  rw [a2]
  refine va_sld hx hb hX9 hbs hbA hS v2 dL_law_1330 ?_
  rw [c2]
  refine ce_qi (fw := fun u => u) (fy := fun _ => y) (cr_V (n := 2) (As := [.int (xs (j + 1)), .int (xs (j + 2))]) (rest := []) ⟨hx, hb, hml, hown, hts⟩ hK hR (m_X8_deliver hM hM.mro h) q2351 q2352 q2353 q85 q2354 rfl rfl hd_X8_deliver ⟨Nat.le_of_ble_eq_true rfl, Nat.le_of_ble_eq_true rfl⟩ (rv hK hR hM.mro (ci := 11) rfl rfl) rfl rfl hl.1 rfl (lv_room (Nat.le_of_ble_eq_true rfl)) dL_law_1331 ⟨(Nat.le_trans (show cells + 3 + 0 ≤ cells + 9300 from by omega) hC), (Nat.le_trans (show slots + 18 + 0 ≤ slots + 100000 from by omega) hSl)⟩) hR hS (fun b9 w2 H1 locs1 h hR _ hS => ?_)
  obtain ⟨e7, e9, h⟩ := h
  refine lv_istore (lv' := [(6, .int b9), (5, .int k9), (0, .ref b), (1, .ref (y.2 0 0)), (2, .ref (y.2 20 0)), (3, .ref oa), (4, .int (nI j))]) hx hb dL_law_1334 hl (by decide) rfl (fun ls hl => ?_)
  refine lv_aload_n hx hb dL_law_1336 rfl (lv_at hl 4 rfl) ?_
  refine ce_qi (fw := fun u => u) (fy := fun _ => y) (cr_V (n := 0) (As := []) (rest := []) ⟨hx, hb, hml, hown, hts⟩ hK hR (m_X8_thrown (post := fun r9 u9 => r9 = gv w2 20 0 0 ∧ u9 = w2) hM hM.mro ⟨rfl, rfl⟩) q2012 q2013 q2014 q85 q2015 rfl rfl hd_X8_thrown ⟨Nat.le_of_ble_eq_true rfl, Nat.le_of_ble_eq_true rfl⟩ (rv hK hR hM.mro (ci := 11) rfl rfl) rfl rfl hl.1 rfl (lv_room (Nat.le_of_ble_eq_true rfl)) dL_law_1337 ⟨(Nat.le_trans (show cells + 3 + 0 + 0 ≤ cells + 9300 from by omega) hC), (Nat.le_trans (show slots + 18 + 0 + 0 ≤ slots + 100000 from by omega) hSl)⟩) hR hS (fun t9 w3 H1 locs1 ht9 hR _ hS => ?_)
  obtain ⟨et9, rfl⟩ := ht9
  rw [et9, e7]
  refine lv_iload hx hb dL_law_1340 (lv_at hl 1 rfl) ?_
  refine lv_icmp_eq (tgt := 1347) hx hb dL_law_1342 (by decide) (fun _ => ?_) (fun c9 => absurd rfl c9)
  refine lv_iload hx hb dL_law_1347 (lv_at hl 1 rfl) ?_
  refine lv_if_ne (tgt := 1365) hx hb dL_law_1349 (by decide) (fun c9 => ?_) (fun c9 => ?_)
  · skip
    refine lv_goto (tgt := 3023) hx hb dL_law_1365 (by decide) ?_
    refine W.widen (k := cells + 9300) (n := slots + 100000) (by omega) (by omega) ?_
    exact kk _ _ _ _ _ _ _ _ h Keeps.rf hR hS (lv_sub (hl) [2, 3, 4, 5, 6] rfl)
  · have c9 : k9 = 0 := by first | exact c9 | exact Decidable.of_not_not c9
    have e9 := e9 c9
    refine lv_aload_n hx hb dL_law_1352 rfl (lv_at hl 5 rfl) ?_
    refine va_getN (host := "PublicanryLaw") (T := TX9) (N := 3) (v := .long n1) hx hb hts in_X9 hown hK.1 (va_P1 (hR.2.2.2.1 _ _ ⟨rfl, rfl⟩).1) 0 rfl rfl 0 (by decide) (va_Nw.use rfl (hK.2.1.2.1 _ (List.mem_of_getElem? (i := 1) rfl))) (fun _ h => h) rfl dL_law_1353 ?_
    refine lv_iload hx hb dL_law_1356 (lv_at hl 0 rfl) ?_
    refine lv_i2l hx hb dL_law_1358 rfl ?_
    refine W.lcmp hx hb dL_law_1359 ?_
    refine lv_if_eq (tgt := 1365) hx hb dL_law_1360 (by decide) (fun _ => ?_) (fun c9 => absurd (by rw [e9]; exact lg_cmp_self _) c9)
    refine lv_goto (tgt := 3023) hx hb dL_law_1365 (by decide) ?_
    refine W.widen (k := cells + 9300) (n := slots + 100000) (by omega) (by omega) ?_
    exact kk _ _ _ _ _ _ _ _ h Keeps.rf hR hS (lv_sub (hl) [2, 3, 4, 5, 6] rfl)
