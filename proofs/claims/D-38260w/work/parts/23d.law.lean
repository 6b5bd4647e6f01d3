/-! THE LAW's CASES (printed by wip gen/law.py) -/
set_option maxRecDepth 100000
def sL_24 (κ : Kx) (y : Ly) (post : Wd → Ly → Prop) (w : Wd) : Prop := sp_X1_call κ y (fun r9 w1 => sp_X8_call κ y (fun b9 w2 => r9 = b9 ∧ post w2 y) w1 ) w
set_option maxHeartbeats 4000000 in
theorem lc_24 {p : Program} {l : Launch} {e : Env} {s : State} {m : MethodId} {below : List Frame} {meth : Method} {c : Code} {b L : Nat} {xs : Nat → Int32} {κ : Kx} {Q : State → Prop} {w : Wd} {y : Ly} {oa : Nat} {n0 : Int64} {d0 : UInt64} {s0 : Value} {H : Heap} {locs : List Loc} {ls : Array Slot} {cells slots j : Nat} {post : Wd → Ly → Prop} (F : LF p l s m meth c b L xs κ) (hm : mon s.heap (y.2 3 0)) (hR : Rp κ w y (oX oa n0 d0 s0) [] H) (hS : va_S (Af κ) s.heap H locs) (hW : WFc κ y) (hM : WFm κ y) (hl : lv_has ls 8 [(0, .ref b), (1, .ref (y.2 0 0)), (2, .ref (y.2 20 0)), (3, .ref oa), (4, .int (nI j))]) (hj : j + 5 ≤ L) (hC : cells + 9300 ≤ rmL.cells) (hSl : slots + 100000 ≤ rmL.slots) (h : sL_24 κ y post w ) (kk : ∀ (w2 : Wd) (y2 : Ly) (n1 : Int64) (d1 : UInt64) (s1 : Value) (H1 : Heap) (locs1 : List Loc) (ls1 : Array Slot), post w2 y2 → Keeps y y2 → Rp κ w2 y2 (oX oa n1 d1 s1) [] H1 → va_S (Af κ) s.heap H1 locs1 → lv_has ls1 8 [(0, .ref b), (1, .ref (y.2 0 0)), (2, .ref (y.2 20 0)), (3, .ref oa), (4, .int (nI j))] → W p l e rmL s m #[.ref b] below meth c H1 locs1 (cells + 9300) (slots + 100000) Q (F0 m 3023 ls1 [])) : W p l e rmL s m #[.ref b] below meth c H locs cells slots Q (F0 m 1839 ls []) := by
  obtain ⟨hx, hb, hr, hml, hlk, hown, hts, hfl, hK, hPx, hX9, hbl, hz9, hL9⟩ := F
  have hbA : ¬ Af κ b := fun h9 => Nat.lt_irrefl _ (Nat.lt_of_lt_of_le hbl h9)
  have hbs : b < s.heap.size := Nat.lt_of_lt_of_le hbl hz9
  unfold sL_24 at h
  refine lv_aload_n hx hb dL_law_1839 rfl (lv_at hl 1 rfl) ?_
  refine W.mon hm (fun hm9 => ?_)
  refine ce_qi (fw := fun u => u) (fy := fun _ => y) (crm_V (n := 0) (As := []) (rest := []) ⟨hx, hb, hml, hown, hts⟩ hK hR hm9 (m_X1_call hfl hW hW.pub h) q372 q373 q374 q74 q375 rfl rfl hd_X1_call ⟨Nat.le_of_ble_eq_true rfl, Nat.le_of_ble_eq_true rfl⟩ (rv hK hR hW.pub (ci := 0) rfl rfl) rfl rfl hl.1 rfl (lv_room (Nat.le_of_ble_eq_true rfl)) dL_law_1840 ⟨(Nat.le_trans (show cells + 3 ≤ cells + 9300 from by omega) hC), (Nat.le_trans (show slots + 37 ≤ slots + 100000 from by omega) hSl)⟩) hR hS (fun r9 w1 H1 locs1 h hR _ hS => ?_)
  refine lv_aload_n hx hb dL_law_1843 rfl (lv_at hl 2 rfl) ?_
  refine ce_qi (fw := fun u => u) (fy := fun _ => y) (cr_V (n := 0) (As := []) (rest := [.int r9]) ⟨hx, hb, hml, hown, hts⟩ hK hR (m_X8_call hM hM.mro h) q2502 q2503 q2504 q85 q2505 rfl rfl hd_X8_call ⟨Nat.le_of_ble_eq_true rfl, Nat.le_of_ble_eq_true rfl⟩ (rv hK hR hM.mro (ci := 11) rfl rfl) rfl rfl hl.1 rfl (lv_room (Nat.le_of_ble_eq_true rfl)) dL_law_1844 ⟨(Nat.le_trans (show cells + 3 + 0 ≤ cells + 9300 from by omega) hC), (Nat.le_trans (show slots + 37 + 0 ≤ slots + 100000 from by omega) hSl)⟩) hR hS (fun b9 w2 H1 locs1 h hR _ hS => ?_)
  obtain ⟨e9, h⟩ := h
  refine lv_icmp_eq (tgt := 3023) hx hb dL_law_1847 (by decide) (fun _ => ?_) (fun c9 => absurd e9 c9)
  refine W.widen (k := cells + 9300) (n := slots + 100000) (by omega) (by omega) ?_
  exact kk _ _ _ _ _ _ _ _ h Keeps.rf hR hS (lv_sub (hl) [0, 1, 2, 3, 4] rfl)
def sL_25 (κ : Kx) (y : Ly) (post : Wd → Ly → Prop) (n0 : Int64) (w : Wd) (x1 : Int32) (x2 : Int32) : Prop := sp_X0_ofVillage κ y (fun k9 n1 w1 => sp_X8_ofVillage κ y (fun b9 w2 => gv w2 20 0 0 = k9 ∧ (k9 = 0 → n1 = b9.toInt64) ∧ post w2 y) w1 x1 x2) n0 w x1 x2
set_option maxHeartbeats 4000000 in
theorem lc_25 {p : Program} {l : Launch} {e : Env} {s : State} {m : MethodId} {below : List Frame} {meth : Method} {c : Code} {b L : Nat} {xs : Nat → Int32} {κ : Kx} {Q : State → Prop} {w : Wd} {y : Ly} {oa : Nat} {n0 : Int64} {d0 : UInt64} {s0 : Value} {H : Heap} {locs : List Loc} {ls : Array Slot} {cells slots j : Nat} {post : Wd → Ly → Prop} (F : LF p l s m meth c b L xs κ) (hm : mon s.heap (y.2 3 0)) (hR : Rp κ w y (oX oa n0 d0 s0) [] H) (hS : va_S (Af κ) s.heap H locs) (hW : WFc κ y) (hM : WFm κ y) (hl : lv_has ls 8 [(0, .ref b), (1, .ref (y.2 0 0)), (2, .ref (y.2 20 0)), (3, .ref oa), (4, .int (nI j))]) (hj : j + 5 ≤ L) (hC : cells + 9300 ≤ rmL.cells) (hSl : slots + 100000 ≤ rmL.slots) (h : sL_25 κ y post n0 w (xs (j + 1)) (xs (j + 2))) (kk : ∀ (w2 : Wd) (y2 : Ly) (n1 : Int64) (d1 : UInt64) (s1 : Value) (H1 : Heap) (locs1 : List Loc) (ls1 : Array Slot), post w2 y2 → Keeps y y2 → Rp κ w2 y2 (oX oa n1 d1 s1) [] H1 → va_S (Af κ) s.heap H1 locs1 → lv_has ls1 8 [(0, .ref b), (1, .ref (y.2 0 0)), (2, .ref (y.2 20 0)), (3, .ref oa), (4, .int (nI j))] → W p l e rmL s m #[.ref b] below meth c H1 locs1 (cells + 9300) (slots + 100000) Q (F0 m 3023 ls1 [])) : W p l e rmL s m #[.ref b] below meth c H locs cells slots Q (F0 m 1852 ls []) := by
  obtain ⟨hx, hb, hr, hml, hlk, hown, hts, hfl, hK, hPx, hX9, hbl, hz9, hL9⟩ := F
  have hbA : ¬ Af κ b := fun h9 => Nat.lt_irrefl _ (Nat.lt_of_lt_of_le hbl h9)
  have hbs : b < s.heap.size := Nat.lt_of_lt_of_le hbl hz9
  have a1 : nI j + (1 : Int32) = nI (j + 1) := nI_add j 1
  have c1 : (nI (j + 1)).toNatClampNeg = j + 1 := nI_clamp (by omega)
  have v1 : vp_in (nI (j + 1)) L := vp_in_nI (by omega) (by omega)
  have a2 : nI j + (2 : Int32) = nI (j + 2) := nI_add j 2
  have c2 : (nI (j + 2)).toNatClampNeg = j + 2 := nI_clamp (by omega)
  have v2 : vp_in (nI (j + 2)) L := vp_in_nI (by omega) (by omega)
  unfold sL_25 at h
  refine lv_aload_n hx hb dL_law_1852 rfl (lv_at hl 1 rfl) ?_
  refine lv_aload_n hx hb dL_law_1853 rfl (lv_at hl 0 rfl) ?_
  refine lv_iload hx hb dL_law_1854 (lv_at hl 4 rfl) ?_
  refine lv_iconst (v := (1 : Int32)) hx hb dL_law_1856 (by decide) ?_
  refine lv_iadd hx hb dL_law_1857 ?_
  rw [a1]
  refine va_sld hx hb hX9 hbs hbA hS v1 dL_law_1858 ?_
  rw [c1]
  refine lv_aload_n hx hb dL_law_1859 rfl (lv_at hl 0 rfl) ?_
  refine lv_iload hx hb dL_law_1860 (lv_at hl 4 rfl) ?_
  refine lv_iconst (v := (2 : Int32)) hx hb dL_law_1862 (by decide) ?_
  refine lv_iadd hx hb dL_law_1863 ?_
  rw [a2]
  refine va_sld hx hb hX9 hbs hbA hS v2 dL_law_1864 ?_
  rw [c2]
  refine lv_aload_n hx hb dL_law_1865 rfl (lv_at hl 3 rfl) ?_
  refine vx_calli (crx_SW (n := 4) (As := [.ref (y.2 0 0), .int (xs (j + 1)), .int (xs (j + 2)), .ref oa]) (rest := []) ⟨hx, hb, hml, hown, hts⟩ hK hR (m_X0_ofVillage (X := xl (oX oa n0 d0 s0) []) hfl hW hW.pub (Or.inl ⟨rfl, rfl⟩) h) q1589 q1590 q73 q1591 rfl rfl hdL_ofVillage ⟨Nat.le_of_ble_eq_true rfl, Nat.le_of_ble_eq_true rfl⟩ rfl rfl hl.1 rfl (lv_room (Nat.le_of_ble_eq_true rfl)) dL_law_1866 ⟨(Nat.le_trans (show cells + 2 ≤ cells + 9300 from by omega) hC), (Nat.le_trans (show slots + 12 ≤ slots + 100000 from by omega) hSl)⟩) hS (fun _ _ h => h) (fun _ h => h) (fun _ _ h => h) (fun E9 ce9 q9 u t H1 locs1 e1 _ hu => hu.elim) (fun k9 u t H1 locs1 ht _ hp hB hz8 _ hS => ?_)
  obtain ⟨w1, n1⟩ := u
  dsimp only at hp hB
  replace h := hp
  have hR : Rp κ w1 y (oX oa n1 d0 s0) [] H1 := by rw [← ht]; exact hB.wk (fun _ _ h => by obtain ⟨rfl, rfl⟩ := h; exact Or.inl ⟨rfl, rfl⟩)
  refine lv_istore (lv' := [(5, .int k9), (0, .ref b), (1, .ref (y.2 0 0)), (2, .ref (y.2 20 0)), (3, .ref oa), (4, .int (nI j))]) hx hb dL_law_1869 hl (by decide) rfl (fun ls hl => ?_)
  refine lv_aload_n hx hb dL_law_1871 rfl (lv_at hl 3 rfl) ?_
  refine lv_aload_n hx hb dL_law_1872 rfl (lv_at hl 1 rfl) ?_
  refine lv_iload hx hb dL_law_1873 (lv_at hl 5 rfl) ?_
  refine lv_iconst (v := (1 : Int32)) hx hb dL_law_1875 (by decide) ?_
  refine lv_iadd hx hb dL_law_1876 ?_
  rw [a1]
  refine va_sld hx hb hX9 hbs hbA hS v1 dL_law_1877 ?_
  rw [c1]
  refine lv_aload_n hx hb dL_law_1878 rfl (lv_at hl 1 rfl) ?_
  refine lv_iload hx hb dL_law_1879 (lv_at hl 5 rfl) ?_
  refine lv_iconst (v := (2 : Int32)) hx hb dL_law_1881 (by decide) ?_
  refine lv_iadd hx hb dL_law_1882 ?_
  rw [a2]
  refine va_sld hx hb hX9 hbs hbA hS v2 dL_law_1883 ?_
  rw [c2]
  refine ce_qi (fw := fun u => u) (fy := fun _ => y) (cr_V (n := 2) (As := [.int (xs (j + 1)), .int (xs (j + 2))]) (rest := []) ⟨hx, hb, hml, hown, hts⟩ hK hR (m_X8_ofVillage hM hM.mro h) q2506 q2507 q2508 q85 q2509 rfl rfl hd_X8_ofVillage ⟨Nat.le_of_ble_eq_true rfl, Nat.le_of_ble_eq_true rfl⟩ (rv hK hR hM.mro (ci := 11) rfl rfl) rfl rfl hl.1 rfl (lv_room (Nat.le_of_ble_eq_true rfl)) dL_law_1884 ⟨(Nat.le_trans (show cells + 2 + 1 ≤ cells + 9300 from by omega) hC), (Nat.le_trans (show slots + 12 + 14 ≤ slots + 100000 from by omega) hSl)⟩) hR hS (fun b9 w2 H1 locs1 h hR _ hS => ?_)
  obtain ⟨e7, e9, h⟩ := h
  refine lv_istore (lv' := [(6, .int b9), (5, .int k9), (0, .ref b), (1, .ref (y.2 0 0)), (2, .ref (y.2 20 0)), (3, .ref oa), (4, .int (nI j))]) hx hb dL_law_1887 hl (by decide) rfl (fun ls hl => ?_)
  refine lv_aload_n hx hb dL_law_1889 rfl (lv_at hl 4 rfl) ?_
  refine ce_qi (fw := fun u => u) (fy := fun _ => y) (cr_V (n := 0) (As := []) (rest := []) ⟨hx, hb, hml, hown, hts⟩ hK hR (m_X8_thrown (post := fun r9 u9 => r9 = gv w2 20 0 0 ∧ u9 = w2) hM hM.mro ⟨rfl, rfl⟩) q2012 q2013 q2014 q85 q2015 rfl rfl hd_X8_thrown ⟨Nat.le_of_ble_eq_true rfl, Nat.le_of_ble_eq_true rfl⟩ (rv hK hR hM.mro (ci := 11) rfl rfl) rfl rfl hl.1 rfl (lv_room (Nat.le_of_ble_eq_true rfl)) dL_law_1890 ⟨(Nat.le_trans (show cells + 2 + 1 + 0 ≤ cells + 9300 from by omega) hC), (Nat.le_trans (show slots + 12 + 14 + 0 ≤ slots + 100000 from by omega) hSl)⟩) hR hS (fun t9 w3 H1 locs1 ht9 hR _ hS => ?_)
  obtain ⟨et9, rfl⟩ := ht9
  rw [et9, e7]
  refine lv_iload hx hb dL_law_1893 (lv_at hl 1 rfl) ?_
  refine lv_icmp_eq (tgt := 1900) hx hb dL_law_1895 (by decide) (fun _ => ?_) (fun c9 => absurd rfl c9)
  refine lv_iload hx hb dL_law_1900 (lv_at hl 1 rfl) ?_
  refine lv_if_ne (tgt := 1918) hx hb dL_law_1902 (by decide) (fun c9 => ?_) (fun c9 => ?_)
  · skip
    refine lv_goto (tgt := 3023) hx hb dL_law_1918 (by decide) ?_
    refine W.widen (k := cells + 9300) (n := slots + 100000) (by omega) (by omega) ?_
    exact kk _ _ _ _ _ _ _ _ h Keeps.rf hR hS (lv_sub (hl) [2, 3, 4, 5, 6] rfl)
  · have c9 : k9 = 0 := by first | exact c9 | exact Decidable.of_not_not c9
    have e9 := e9 c9
    refine lv_aload_n hx hb dL_law_1905 rfl (lv_at hl 5 rfl) ?_
    refine va_getN (host := "PublicanryLaw") (T := TX9) (N := 3) (v := .long n1) hx hb hts in_X9 hown hK.1 (va_P1 (hR.2.2.2.1 _ _ ⟨rfl, rfl⟩).1) 0 rfl rfl 0 (by decide) (va_Nw.use rfl (hK.2.1.2.1 _ (List.mem_of_getElem? (i := 1) rfl))) (fun _ h => h) rfl dL_law_1906 ?_
    refine lv_iload hx hb dL_law_1909 (lv_at hl 0 rfl) ?_
    refine lv_i2l hx hb dL_law_1911 rfl ?_
    refine W.lcmp hx hb dL_law_1912 ?_
    refine lv_if_eq (tgt := 1918) hx hb dL_law_1913 (by decide) (fun _ => ?_) (fun c9 => absurd (by rw [e9]; exact lg_cmp_self _) c9)
    refine lv_goto (tgt := 3023) hx hb dL_law_1918 (by decide) ?_
    refine W.widen (k := cells + 9300) (n := slots + 100000) (by omega) (by omega) ?_
    exact kk _ _ _ _ _ _ _ _ h Keeps.rf hR hS (lv_sub (hl) [2, 3, 4, 5, 6] rfl)
def sL_26 (κ : Kx) (y : Ly) (post : Wd → Ly → Prop) (n0 : Int64) (w : Wd) (x1 : Int32) (x2 : Int32) (x3 : Int32) : Prop := sp_X0_due κ y (fun k9 n1 w1 => sp_X8_due_2 κ y (fun b9 w2 => gv w2 20 0 0 = k9 ∧ (k9 = 0 → n1 = b9.toInt64) ∧ post w2 y) w1 x1 x2 (bz x3)) n0 w x1 x2 (bz x3)
set_option maxHeartbeats 4000000 in
theorem lc_26 {p : Program} {l : Launch} {e : Env} {s : State} {m : MethodId} {below : List Frame} {meth : Method} {c : Code} {b L : Nat} {xs : Nat → Int32} {κ : Kx} {Q : State → Prop} {w : Wd} {y : Ly} {oa : Nat} {n0 : Int64} {d0 : UInt64} {s0 : Value} {H : Heap} {locs : List Loc} {ls : Array Slot} {cells slots j : Nat} {post : Wd → Ly → Prop} (F : LF p l s m meth c b L xs κ) (hm : mon s.heap (y.2 3 0)) (hR : Rp κ w y (oX oa n0 d0 s0) [] H) (hS : va_S (Af κ) s.heap H locs) (hW : WFc κ y) (hM : WFm κ y) (hl : lv_has ls 8 [(0, .ref b), (1, .ref (y.2 0 0)), (2, .ref (y.2 20 0)), (3, .ref oa), (4, .int (nI j))]) (hj : j + 5 ≤ L) (hC : cells + 9300 ≤ rmL.cells) (hSl : slots + 100000 ≤ rmL.slots) (h : sL_26 κ y post n0 w (xs (j + 1)) (xs (j + 2)) (xs (j + 3))) (kk : ∀ (w2 : Wd) (y2 : Ly) (n1 : Int64) (d1 : UInt64) (s1 : Value) (H1 : Heap) (locs1 : List Loc) (ls1 : Array Slot), post w2 y2 → Keeps y y2 → Rp κ w2 y2 (oX oa n1 d1 s1) [] H1 → va_S (Af κ) s.heap H1 locs1 → lv_has ls1 8 [(0, .ref b), (1, .ref (y.2 0 0)), (2, .ref (y.2 20 0)), (3, .ref oa), (4, .int (nI j))] → W p l e rmL s m #[.ref b] below meth c H1 locs1 (cells + 9300) (slots + 100000) Q (F0 m 3023 ls1 [])) : W p l e rmL s m #[.ref b] below meth c H locs cells slots Q (F0 m 1921 ls []) := by
  obtain ⟨hx, hb, hr, hml, hlk, hown, hts, hfl, hK, hPx, hX9, hbl, hz9, hL9⟩ := F
  have hbA : ¬ Af κ b := fun h9 => Nat.lt_irrefl _ (Nat.lt_of_lt_of_le hbl h9)
  have hbs : b < s.heap.size := Nat.lt_of_lt_of_le hbl hz9
  have a1 : nI j + (1 : Int32) = nI (j + 1) := nI_add j 1
  have c1 : (nI (j + 1)).toNatClampNeg = j + 1 := nI_clamp (by omega)
  have v1 : vp_in (nI (j + 1)) L := vp_in_nI (by omega) (by omega)
  have a2 : nI j + (2 : Int32) = nI (j + 2) := nI_add j 2
  have c2 : (nI (j + 2)).toNatClampNeg = j + 2 := nI_clamp (by omega)
  have v2 : vp_in (nI (j + 2)) L := vp_in_nI (by omega) (by omega)
  have a3 : nI j + (3 : Int32) = nI (j + 3) := nI_add j 3
  have c3 : (nI (j + 3)).toNatClampNeg = j + 3 := nI_clamp (by omega)
  have v3 : vp_in (nI (j + 3)) L := vp_in_nI (by omega) (by omega)
  unfold sL_26 at h
  refine lv_aload_n hx hb dL_law_1921 rfl (lv_at hl 1 rfl) ?_
  refine lv_aload_n hx hb dL_law_1922 rfl (lv_at hl 0 rfl) ?_
  refine lv_iload hx hb dL_law_1923 (lv_at hl 4 rfl) ?_
  refine lv_iconst (v := (1 : Int32)) hx hb dL_law_1925 (by decide) ?_
  refine lv_iadd hx hb dL_law_1926 ?_
  rw [a1]
  refine va_sld hx hb hX9 hbs hbA hS v1 dL_law_1927 ?_
  rw [c1]
  refine lv_aload_n hx hb dL_law_1928 rfl (lv_at hl 0 rfl) ?_
  refine lv_iload hx hb dL_law_1929 (lv_at hl 4 rfl) ?_
  refine lv_iconst (v := (2 : Int32)) hx hb dL_law_1931 (by decide) ?_
  refine lv_iadd hx hb dL_law_1932 ?_
  rw [a2]
  refine va_sld hx hb hX9 hbs hbA hS v2 dL_law_1933 ?_
  rw [c2]
  refine lv_aload_n hx hb dL_law_1934 rfl (lv_at hl 0 rfl) ?_
  refine lv_iload hx hb dL_law_1935 (lv_at hl 4 rfl) ?_
  refine lv_iconst (v := (3 : Int32)) hx hb dL_law_1937 (by decide) ?_
  refine lv_iadd hx hb dL_law_1938 ?_
  rw [a3]
  refine va_sld hx hb hX9 hbs hbA hS v3 dL_law_1939 ?_
  rw [c3]
  by_cases hb3 : xs (j + 3) = 0
  · rw [bz_0 hb3] at h
    refine lv_if_eq (tgt := 1947) hx hb dL_law_1940 (by decide) (fun _ => ?_) (fun c9 => absurd hb3 c9)
    refine lv_iconst (v := (0 : Int32)) hx hb dL_law_1947 (by decide) ?_
    refine lv_aload_n hx hb dL_law_1948 rfl (lv_at hl 3 rfl) ?_
    refine vx_calli (crx_SW (n := 5) (As := [.ref (y.2 0 0), .int (xs (j + 1)), .int (xs (j + 2)), .int (0 : Int32), .ref oa]) (rest := []) ⟨hx, hb, hml, hown, hts⟩ hK hR (m_X0_due (X := xl (oX oa n0 d0 s0) []) hfl hW hW.pub (Or.inl ⟨rfl, rfl⟩) h) q1597 q1598 q73 q1599 rfl rfl hdL_due ⟨Nat.le_of_ble_eq_true rfl, Nat.le_of_ble_eq_true rfl⟩ rfl rfl hl.1 rfl (lv_room (Nat.le_of_ble_eq_true rfl)) dL_law_1949 ⟨(Nat.le_trans (show cells + 3 ≤ cells + 9300 from by omega) hC), (Nat.le_trans (show slots + 15 ≤ slots + 100000 from by omega) hSl)⟩) hS (fun _ _ h => h) (fun _ h => h) (fun _ _ h => h) (fun E9 ce9 q9 u t H1 locs1 e1 _ hu => hu.elim) (fun k9 u t H1 locs1 ht _ hp hB hz8 _ hS => ?_)
    obtain ⟨w1, n1⟩ := u
    dsimp only at hp hB
    replace h := hp
    have hR : Rp κ w1 y (oX oa n1 d0 s0) [] H1 := by rw [← ht]; exact hB.wk (fun _ _ h => by obtain ⟨rfl, rfl⟩ := h; exact Or.inl ⟨rfl, rfl⟩)
    refine lv_istore (lv' := [(5, .int k9), (0, .ref b), (1, .ref (y.2 0 0)), (2, .ref (y.2 20 0)), (3, .ref oa), (4, .int (nI j))]) hx hb dL_law_1952 hl (by decide) rfl (fun ls hl => ?_)
    refine lv_aload_n hx hb dL_law_1954 rfl (lv_at hl 3 rfl) ?_
    refine lv_aload_n hx hb dL_law_1955 rfl (lv_at hl 1 rfl) ?_
    refine lv_iload hx hb dL_law_1956 (lv_at hl 5 rfl) ?_
    refine lv_iconst (v := (1 : Int32)) hx hb dL_law_1958 (by decide) ?_
    refine lv_iadd hx hb dL_law_1959 ?_
    rw [a1]
    refine va_sld hx hb hX9 hbs hbA hS v1 dL_law_1960 ?_
    rw [c1]
    refine lv_aload_n hx hb dL_law_1961 rfl (lv_at hl 1 rfl) ?_
    refine lv_iload hx hb dL_law_1962 (lv_at hl 5 rfl) ?_
    refine lv_iconst (v := (2 : Int32)) hx hb dL_law_1964 (by decide) ?_
    refine lv_iadd hx hb dL_law_1965 ?_
    rw [a2]
    refine va_sld hx hb hX9 hbs hbA hS v2 dL_law_1966 ?_
    rw [c2]
    refine lv_aload_n hx hb dL_law_1967 rfl (lv_at hl 1 rfl) ?_
    refine lv_iload hx hb dL_law_1968 (lv_at hl 5 rfl) ?_
    refine lv_iconst (v := (3 : Int32)) hx hb dL_law_1970 (by decide) ?_
    refine lv_iadd hx hb dL_law_1971 ?_
    rw [a3]
    refine va_sld hx hb hX9 hbs hbA hS v3 dL_law_1972 ?_
    rw [c3]
    refine lv_if_eq (tgt := 1980) hx hb dL_law_1973 (by decide) (fun _ => ?_) (fun c9 => absurd hb3 c9)
    refine lv_iconst (v := (0 : Int32)) hx hb dL_law_1980 (by decide) ?_
    refine ce_qi (fw := fun u => u) (fy := fun _ => y) (cr_V (n := 3) (As := [.int (xs (j + 1)), .int (xs (j + 2)), .int (0 : Int32)]) (rest := []) ⟨hx, hb, hml, hown, hts⟩ hK hR (m_X8_due_2 hM hM.mro h) q2514 q2515 q2516 q85 q2517 rfl rfl hd_X8_due_2 ⟨Nat.le_of_ble_eq_true rfl, Nat.le_of_ble_eq_true rfl⟩ (rv hK hR hM.mro (ci := 11) rfl rfl) rfl rfl hl.1 rfl (lv_room (Nat.le_of_ble_eq_true rfl)) dL_law_1981 ⟨(Nat.le_trans (show cells + 3 + 0 ≤ cells + 9300 from by omega) hC), (Nat.le_trans (show slots + 15 + 0 ≤ slots + 100000 from by omega) hSl)⟩) hR hS (fun b9 w2 H1 locs1 h hR _ hS => ?_)
    obtain ⟨e7, e9, h⟩ := h
    refine lv_istore (lv' := [(6, .int b9), (5, .int k9), (0, .ref b), (1, .ref (y.2 0 0)), (2, .ref (y.2 20 0)), (3, .ref oa), (4, .int (nI j))]) hx hb dL_law_1984 hl (by decide) rfl (fun ls hl => ?_)
    refine lv_aload_n hx hb dL_law_1986 rfl (lv_at hl 4 rfl) ?_
    refine ce_qi (fw := fun u => u) (fy := fun _ => y) (cr_V (n := 0) (As := []) (rest := []) ⟨hx, hb, hml, hown, hts⟩ hK hR (m_X8_thrown (post := fun r9 u9 => r9 = gv w2 20 0 0 ∧ u9 = w2) hM hM.mro ⟨rfl, rfl⟩) q2012 q2013 q2014 q85 q2015 rfl rfl hd_X8_thrown ⟨Nat.le_of_ble_eq_true rfl, Nat.le_of_ble_eq_true rfl⟩ (rv hK hR hM.mro (ci := 11) rfl rfl) rfl rfl hl.1 rfl (lv_room (Nat.le_of_ble_eq_true rfl)) dL_law_1987 ⟨(Nat.le_trans (show cells + 3 + 0 + 0 ≤ cells + 9300 from by omega) hC), (Nat.le_trans (show slots + 15 + 0 + 0 ≤ slots + 100000 from by omega) hSl)⟩) hR hS (fun t9 w3 H1 locs1 ht9 hR _ hS => ?_)
    obtain ⟨et9, rfl⟩ := ht9
    rw [et9, e7]
    refine lv_iload hx hb dL_law_1990 (lv_at hl 1 rfl) ?_
    refine lv_icmp_eq (tgt := 1997) hx hb dL_law_1992 (by decide) (fun _ => ?_) (fun c9 => absurd rfl c9)
    refine lv_iload hx hb dL_law_1997 (lv_at hl 1 rfl) ?_
    refine lv_if_ne (tgt := 2015) hx hb dL_law_1999 (by decide) (fun c9 => ?_) (fun c9 => ?_)
    · skip
      refine lv_goto (tgt := 3023) hx hb dL_law_2015 (by decide) ?_
      refine W.widen (k := cells + 9300) (n := slots + 100000) (by omega) (by omega) ?_
      exact kk _ _ _ _ _ _ _ _ h Keeps.rf hR hS (lv_sub (hl) [2, 3, 4, 5, 6] rfl)
    · have c9 : k9 = 0 := by first | exact c9 | exact Decidable.of_not_not c9
      have e9 := e9 c9
      refine lv_aload_n hx hb dL_law_2002 rfl (lv_at hl 5 rfl) ?_
      refine va_getN (host := "PublicanryLaw") (T := TX9) (N := 3) (v := .long n1) hx hb hts in_X9 hown hK.1 (va_P1 (hR.2.2.2.1 _ _ ⟨rfl, rfl⟩).1) 0 rfl rfl 0 (by decide) (va_Nw.use rfl (hK.2.1.2.1 _ (List.mem_of_getElem? (i := 1) rfl))) (fun _ h => h) rfl dL_law_2003 ?_
      refine lv_iload hx hb dL_law_2006 (lv_at hl 0 rfl) ?_
      refine lv_i2l hx hb dL_law_2008 rfl ?_
      refine W.lcmp hx hb dL_law_2009 ?_
      refine lv_if_eq (tgt := 2015) hx hb dL_law_2010 (by decide) (fun _ => ?_) (fun c9 => absurd (by rw [e9]; exact lg_cmp_self _) c9)
      refine lv_goto (tgt := 3023) hx hb dL_law_2015 (by decide) ?_
      refine W.widen (k := cells + 9300) (n := slots + 100000) (by omega) (by omega) ?_
      exact kk _ _ _ _ _ _ _ _ h Keeps.rf hR hS (lv_sub (hl) [2, 3, 4, 5, 6] rfl)
  · rw [bz_1 hb3] at h
    refine lv_if_eq (tgt := 1947) hx hb dL_law_1940 (by decide) (fun c9 => absurd c9 hb3) (fun _ => ?_)
    refine lv_iconst (v := (1 : Int32)) hx hb dL_law_1943 (by decide) ?_
    refine lv_goto (tgt := 1948) hx hb dL_law_1944 (by decide) ?_
    refine lv_aload_n hx hb dL_law_1948 rfl (lv_at hl 3 rfl) ?_
    refine vx_calli (crx_SW (n := 5) (As := [.ref (y.2 0 0), .int (xs (j + 1)), .int (xs (j + 2)), .int (1 : Int32), .ref oa]) (rest := []) ⟨hx, hb, hml, hown, hts⟩ hK hR (m_X0_due (X := xl (oX oa n0 d0 s0) []) hfl hW hW.pub (Or.inl ⟨rfl, rfl⟩) h) q1597 q1598 q73 q1599 rfl rfl hdL_due ⟨Nat.le_of_ble_eq_true rfl, Nat.le_of_ble_eq_true rfl⟩ rfl rfl hl.1 rfl (lv_room (Nat.le_of_ble_eq_true rfl)) dL_law_1949 ⟨(Nat.le_trans (show cells + 3 ≤ cells + 9300 from by omega) hC), (Nat.le_trans (show slots + 15 ≤ slots + 100000 from by omega) hSl)⟩) hS (fun _ _ h => h) (fun _ h => h) (fun _ _ h => h) (fun E9 ce9 q9 u t H1 locs1 e1 _ hu => hu.elim) (fun k9 u t H1 locs1 ht _ hp hB hz8 _ hS => ?_)
    obtain ⟨w1, n1⟩ := u
    dsimp only at hp hB
    replace h := hp
    have hR : Rp κ w1 y (oX oa n1 d0 s0) [] H1 := by rw [← ht]; exact hB.wk (fun _ _ h => by obtain ⟨rfl, rfl⟩ := h; exact Or.inl ⟨rfl, rfl⟩)
    refine lv_istore (lv' := [(5, .int k9), (0, .ref b), (1, .ref (y.2 0 0)), (2, .ref (y.2 20 0)), (3, .ref oa), (4, .int (nI j))]) hx hb dL_law_1952 hl (by decide) rfl (fun ls hl => ?_)
    refine lv_aload_n hx hb dL_law_1954 rfl (lv_at hl 3 rfl) ?_
    refine lv_aload_n hx hb dL_law_1955 rfl (lv_at hl 1 rfl) ?_
    refine lv_iload hx hb dL_law_1956 (lv_at hl 5 rfl) ?_
    refine lv_iconst (v := (1 : Int32)) hx hb dL_law_1958 (by decide) ?_
    refine lv_iadd hx hb dL_law_1959 ?_
    rw [a1]
    refine va_sld hx hb hX9 hbs hbA hS v1 dL_law_1960 ?_
    rw [c1]
    refine lv_aload_n hx hb dL_law_1961 rfl (lv_at hl 1 rfl) ?_
    refine lv_iload hx hb dL_law_1962 (lv_at hl 5 rfl) ?_
    refine lv_iconst (v := (2 : Int32)) hx hb dL_law_1964 (by decide) ?_
    refine lv_iadd hx hb dL_law_1965 ?_
    rw [a2]
    refine va_sld hx hb hX9 hbs hbA hS v2 dL_law_1966 ?_
    rw [c2]
    refine lv_aload_n hx hb dL_law_1967 rfl (lv_at hl 1 rfl) ?_
    refine lv_iload hx hb dL_law_1968 (lv_at hl 5 rfl) ?_
    refine lv_iconst (v := (3 : Int32)) hx hb dL_law_1970 (by decide) ?_
    refine lv_iadd hx hb dL_law_1971 ?_
    rw [a3]
    refine va_sld hx hb hX9 hbs hbA hS v3 dL_law_1972 ?_
    rw [c3]
    refine lv_if_eq (tgt := 1980) hx hb dL_law_1973 (by decide) (fun c9 => absurd c9 hb3) (fun _ => ?_)
    refine lv_iconst (v := (1 : Int32)) hx hb dL_law_1976 (by decide) ?_
    refine lv_goto (tgt := 1981) hx hb dL_law_1977 (by decide) ?_
    refine ce_qi (fw := fun u => u) (fy := fun _ => y) (cr_V (n := 3) (As := [.int (xs (j + 1)), .int (xs (j + 2)), .int (1 : Int32)]) (rest := []) ⟨hx, hb, hml, hown, hts⟩ hK hR (m_X8_due_2 hM hM.mro h) q2514 q2515 q2516 q85 q2517 rfl rfl hd_X8_due_2 ⟨Nat.le_of_ble_eq_true rfl, Nat.le_of_ble_eq_true rfl⟩ (rv hK hR hM.mro (ci := 11) rfl rfl) rfl rfl hl.1 rfl (lv_room (Nat.le_of_ble_eq_true rfl)) dL_law_1981 ⟨(Nat.le_trans (show cells + 3 + 0 ≤ cells + 9300 from by omega) hC), (Nat.le_trans (show slots + 15 + 0 ≤ slots + 100000 from by omega) hSl)⟩) hR hS (fun b9 w2 H1 locs1 h hR _ hS => ?_)
    obtain ⟨e7, e9, h⟩ := h
    refine lv_istore (lv' := [(6, .int b9), (5, .int k9), (0, .ref b), (1, .ref (y.2 0 0)), (2, .ref (y.2 20 0)), (3, .ref oa), (4, .int (nI j))]) hx hb dL_law_1984 hl (by decide) rfl (fun ls hl => ?_)
    refine lv_aload_n hx hb dL_law_1986 rfl (lv_at hl 4 rfl) ?_
    refine ce_qi (fw := fun u => u) (fy := fun _ => y) (cr_V (n := 0) (As := []) (rest := []) ⟨hx, hb, hml, hown, hts⟩ hK hR (m_X8_thrown (post := fun r9 u9 => r9 = gv w2 20 0 0 ∧ u9 = w2) hM hM.mro ⟨rfl, rfl⟩) q2012 q2013 q2014 q85 q2015 rfl rfl hd_X8_thrown ⟨Nat.le_of_ble_eq_true rfl, Nat.le_of_ble_eq_true rfl⟩ (rv hK hR hM.mro (ci := 11) rfl rfl) rfl rfl hl.1 rfl (lv_room (Nat.le_of_ble_eq_true rfl)) dL_law_1987 ⟨(Nat.le_trans (show cells + 3 + 0 + 0 ≤ cells + 9300 from by omega) hC), (Nat.le_trans (show slots + 15 + 0 + 0 ≤ slots + 100000 from by omega) hSl)⟩) hR hS (fun t9 w3 H1 locs1 ht9 hR _ hS => ?_)
    obtain ⟨et9, rfl⟩ := ht9
    rw [et9, e7]
    refine lv_iload hx hb dL_law_1990 (lv_at hl 1 rfl) ?_
    refine lv_icmp_eq (tgt := 1997) hx hb dL_law_1992 (by decide) (fun _ => ?_) (fun c9 => absurd rfl c9)
    refine lv_iload hx hb dL_law_1997 (lv_at hl 1 rfl) ?_
    refine lv_if_ne (tgt := 2015) hx hb dL_law_1999 (by decide) (fun c9 => ?_) (fun c9 => ?_)
    · skip
      refine lv_goto (tgt := 3023) hx hb dL_law_2015 (by decide) ?_
      refine W.widen (k := cells + 9300) (n := slots + 100000) (by omega) (by omega) ?_
      exact kk _ _ _ _ _ _ _ _ h Keeps.rf hR hS (lv_sub (hl) [2, 3, 4, 5, 6] rfl)
    · have c9 : k9 = 0 := by first | exact c9 | exact Decidable.of_not_not c9
      have e9 := e9 c9
      refine lv_aload_n hx hb dL_law_2002 rfl (lv_at hl 5 rfl) ?_
      refine va_getN (host := "PublicanryLaw") (T := TX9) (N := 3) (v := .long n1) hx hb hts in_X9 hown hK.1 (va_P1 (hR.2.2.2.1 _ _ ⟨rfl, rfl⟩).1) 0 rfl rfl 0 (by decide) (va_Nw.use rfl (hK.2.1.2.1 _ (List.mem_of_getElem? (i := 1) rfl))) (fun _ h => h) rfl dL_law_2003 ?_
      refine lv_iload hx hb dL_law_2006 (lv_at hl 0 rfl) ?_
      refine lv_i2l hx hb dL_law_2008 rfl ?_
      refine W.lcmp hx hb dL_law_2009 ?_
      refine lv_if_eq (tgt := 2015) hx hb dL_law_2010 (by decide) (fun _ => ?_) (fun c9 => absurd (by rw [e9]; exact lg_cmp_self _) c9)
      refine lv_goto (tgt := 3023) hx hb dL_law_2015 (by decide) ?_
      refine W.widen (k := cells + 9300) (n := slots + 100000) (by omega) (by omega) ?_
      exact kk _ _ _ _ _ _ _ _ h Keeps.rf hR hS (lv_sub (hl) [2, 3, 4, 5, 6] rfl)
def sL_27 (κ : Kx) (y : Ly) (post : Wd → Ly → Prop) (n0 : Int64) (w : Wd) (x1 : Int32) (x2 : Int32) (x3 : Int32) : Prop := sp_X0_levy κ y (fun k9 n1 w1 => sp_X8_levy κ y (fun b9 w2 => gv w2 20 0 0 = k9 ∧ (k9 = 0 → n1 = b9.toInt64) ∧ post w2 y) w1 x1 x2 x3) n0 w x1 x2 x3
set_option maxHeartbeats 4000000 in
theorem lc_27 {p : Program} {l : Launch} {e : Env} {s : State} {m : MethodId} {below : List Frame} {meth : Method} {c : Code} {b L : Nat} {xs : Nat → Int32} {κ : Kx} {Q : State → Prop} {w : Wd} {y : Ly} {oa : Nat} {n0 : Int64} {d0 : UInt64} {s0 : Value} {H : Heap} {locs : List Loc} {ls : Array Slot} {cells slots j : Nat} {post : Wd → Ly → Prop} (F : LF p l s m meth c b L xs κ) (hm : mon s.heap (y.2 3 0)) (hR : Rp κ w y (oX oa n0 d0 s0) [] H) (hS : va_S (Af κ) s.heap H locs) (hW : WFc κ y) (hM : WFm κ y) (hl : lv_has ls 8 [(0, .ref b), (1, .ref (y.2 0 0)), (2, .ref (y.2 20 0)), (3, .ref oa), (4, .int (nI j))]) (hj : j + 5 ≤ L) (hC : cells + 9300 ≤ rmL.cells) (hSl : slots + 100000 ≤ rmL.slots) (h : sL_27 κ y post n0 w (xs (j + 1)) (xs (j + 2)) (xs (j + 3))) (kk : ∀ (w2 : Wd) (y2 : Ly) (n1 : Int64) (d1 : UInt64) (s1 : Value) (H1 : Heap) (locs1 : List Loc) (ls1 : Array Slot), post w2 y2 → Keeps y y2 → Rp κ w2 y2 (oX oa n1 d1 s1) [] H1 → va_S (Af κ) s.heap H1 locs1 → lv_has ls1 8 [(0, .ref b), (1, .ref (y.2 0 0)), (2, .ref (y.2 20 0)), (3, .ref oa), (4, .int (nI j))] → W p l e rmL s m #[.ref b] below meth c H1 locs1 (cells + 9300) (slots + 100000) Q (F0 m 3023 ls1 [])) : W p l e rmL s m #[.ref b] below meth c H locs cells slots Q (F0 m 2018 ls []) := by
  obtain ⟨hx, hb, hr, hml, hlk, hown, hts, hfl, hK, hPx, hX9, hbl, hz9, hL9⟩ := F
  have hbA : ¬ Af κ b := fun h9 => Nat.lt_irrefl _ (Nat.lt_of_lt_of_le hbl h9)
  have hbs : b < s.heap.size := Nat.lt_of_lt_of_le hbl hz9
  have a1 : nI j + (1 : Int32) = nI (j + 1) := nI_add j 1
  have c1 : (nI (j + 1)).toNatClampNeg = j + 1 := nI_clamp (by omega)
  have v1 : vp_in (nI (j + 1)) L := vp_in_nI (by omega) (by omega)
  have a2 : nI j + (2 : Int32) = nI (j + 2) := nI_add j 2
  have c2 : (nI (j + 2)).toNatClampNeg = j + 2 := nI_clamp (by omega)
  have v2 : vp_in (nI (j + 2)) L := vp_in_nI (by omega) (by omega)
  have a3 : nI j + (3 : Int32) = nI (j + 3) := nI_add j 3
  have c3 : (nI (j + 3)).toNatClampNeg = j + 3 := nI_clamp (by omega)
  have v3 : vp_in (nI (j + 3)) L := vp_in_nI (by omega) (by omega)
  unfold sL_27 at h
  refine lv_aload_n hx hb dL_law_2018 rfl (lv_at hl 1 rfl) ?_
  refine lv_aload_n hx hb dL_law_2019 rfl (lv_at hl 0 rfl) ?_
  refine lv_iload hx hb dL_law_2020 (lv_at hl 4 rfl) ?_
  refine lv_iconst (v := (1 : Int32)) hx hb dL_law_2022 (by decide) ?_
  refine lv_iadd hx hb dL_law_2023 ?_
  rw [a1]
  refine va_sld hx hb hX9 hbs hbA hS v1 dL_law_2024 ?_
  rw [c1]
  refine lv_aload_n hx hb dL_law_2025 rfl (lv_at hl 0 rfl) ?_
  refine lv_iload hx hb dL_law_2026 (lv_at hl 4 rfl) ?_
  refine lv_iconst (v := (2 : Int32)) hx hb dL_law_2028 (by decide) ?_
  refine lv_iadd hx hb dL_law_2029 ?_
  rw [a2]
  refine va_sld hx hb hX9 hbs hbA hS v2 dL_law_2030 ?_
  rw [c2]
  refine lv_aload_n hx hb dL_law_2031 rfl (lv_at hl 0 rfl) ?_
  refine lv_iload hx hb dL_law_2032 (lv_at hl 4 rfl) ?_
  refine lv_iconst (v := (3 : Int32)) hx hb dL_law_2034 (by decide) ?_
  refine lv_iadd hx hb dL_law_2035 ?_
  rw [a3]
  refine va_sld hx hb hX9 hbs hbA hS v3 dL_law_2036 ?_
  rw [c3]
  refine lv_aload_n hx hb dL_law_2037 rfl (lv_at hl 3 rfl) ?_
  refine vx_calli (crx_SW (n := 5) (As := [.ref (y.2 0 0), .int (xs (j + 1)), .int (xs (j + 2)), .int (xs (j + 3)), .ref oa]) (rest := []) ⟨hx, hb, hml, hown, hts⟩ hK hR (m_X0_levy (X := xl (oX oa n0 d0 s0) []) hfl hW hW.pub (Or.inl ⟨rfl, rfl⟩) h) q1608 q1609 q73 q1610 rfl rfl hdL_levy ⟨Nat.le_of_ble_eq_true rfl, Nat.le_of_ble_eq_true rfl⟩ rfl rfl hl.1 rfl (lv_room (Nat.le_of_ble_eq_true rfl)) dL_law_2038 ⟨(Nat.le_trans (show cells + 4 ≤ cells + 9300 from by omega) hC), (Nat.le_trans (show slots + 21 ≤ slots + 100000 from by omega) hSl)⟩) hS (fun _ _ h => h) (fun _ h => h) (fun _ _ h => h) (fun E9 ce9 q9 u t H1 locs1 e1 _ hu => hu.elim) (fun k9 u t H1 locs1 ht _ hp hB hz8 _ hS => ?_)
  obtain ⟨w1, n1⟩ := u
  dsimp only at hp hB
  replace h := hp
  have hR : Rp κ w1 y (oX oa n1 d0 s0) [] H1 := by rw [← ht]; exact hB.wk (fun _ _ h => by obtain ⟨rfl, rfl⟩ := h; exact Or.inl ⟨rfl, rfl⟩)
  refine lv_istore (lv' := [(5, .int k9), (0, .ref b), (1, .ref (y.2 0 0)), (2, .ref (y.2 20 0)), (3, .ref oa), (4, .int (nI j))]) hx hb dL_law_2041 hl (by decide) rfl (fun ls hl => ?_)
  refine lv_aload_n hx hb dL_law_2043 rfl (lv_at hl 3 rfl) ?_
  refine lv_aload_n hx hb dL_law_2044 rfl (lv_at hl 1 rfl) ?_
  refine lv_iload hx hb dL_law_2045 (lv_at hl 5 rfl) ?_
  refine lv_iconst (v := (1 : Int32)) hx hb dL_law_2047 (by decide) ?_
  refine lv_iadd hx hb dL_law_2048 ?_
  rw [a1]
  refine va_sld hx hb hX9 hbs hbA hS v1 dL_law_2049 ?_
  rw [c1]
  refine lv_aload_n hx hb dL_law_2050 rfl (lv_at hl 1 rfl) ?_
  refine lv_iload hx hb dL_law_2051 (lv_at hl 5 rfl) ?_
  refine lv_iconst (v := (2 : Int32)) hx hb dL_law_2053 (by decide) ?_
  refine lv_iadd hx hb dL_law_2054 ?_
  rw [a2]
  refine va_sld hx hb hX9 hbs hbA hS v2 dL_law_2055 ?_
  rw [c2]
  refine lv_aload_n hx hb dL_law_2056 rfl (lv_at hl 1 rfl) ?_
  refine lv_iload hx hb dL_law_2057 (lv_at hl 5 rfl) ?_
  refine lv_iconst (v := (3 : Int32)) hx hb dL_law_2059 (by decide) ?_
  refine lv_iadd hx hb dL_law_2060 ?_
  rw [a3]
  refine va_sld hx hb hX9 hbs hbA hS v3 dL_law_2061 ?_
  rw [c3]
  refine ce_qi (fw := fun u => u) (fy := fun _ => y) (cr_V (n := 3) (As := [.int (xs (j + 1)), .int (xs (j + 2)), .int (xs (j + 3))]) (rest := []) ⟨hx, hb, hml, hown, hts⟩ hK hR (m_X8_levy hM hM.mro h) q2518 q2519 q2520 q85 q2521 rfl rfl hd_X8_levy ⟨Nat.le_of_ble_eq_true rfl, Nat.le_of_ble_eq_true rfl⟩ (rv hK hR hM.mro (ci := 11) rfl rfl) rfl rfl hl.1 rfl (lv_room (Nat.le_of_ble_eq_true rfl)) dL_law_2062 ⟨(Nat.le_trans (show cells + 4 + 0 ≤ cells + 9300 from by omega) hC), (Nat.le_trans (show slots + 21 + 0 ≤ slots + 100000 from by omega) hSl)⟩) hR hS (fun b9 w2 H1 locs1 h hR _ hS => ?_)
  obtain ⟨e7, e9, h⟩ := h
  refine lv_istore (lv' := [(6, .int b9), (5, .int k9), (0, .ref b), (1, .ref (y.2 0 0)), (2, .ref (y.2 20 0)), (3, .ref oa), (4, .int (nI j))]) hx hb dL_law_2065 hl (by decide) rfl (fun ls hl => ?_)
  refine lv_aload_n hx hb dL_law_2067 rfl (lv_at hl 4 rfl) ?_
  refine ce_qi (fw := fun u => u) (fy := fun _ => y) (cr_V (n := 0) (As := []) (rest := []) ⟨hx, hb, hml, hown, hts⟩ hK hR (m_X8_thrown (post := fun r9 u9 => r9 = gv w2 20 0 0 ∧ u9 = w2) hM hM.mro ⟨rfl, rfl⟩) q2012 q2013 q2014 q85 q2015 rfl rfl hd_X8_thrown ⟨Nat.le_of_ble_eq_true rfl, Nat.le_of_ble_eq_true rfl⟩ (rv hK hR hM.mro (ci := 11) rfl rfl) rfl rfl hl.1 rfl (lv_room (Nat.le_of_ble_eq_true rfl)) dL_law_2068 ⟨(Nat.le_trans (show cells + 4 + 0 + 0 ≤ cells + 9300 from by omega) hC), (Nat.le_trans (show slots + 21 + 0 + 0 ≤ slots + 100000 from by omega) hSl)⟩) hR hS (fun t9 w3 H1 locs1 ht9 hR _ hS => ?_)
  obtain ⟨et9, rfl⟩ := ht9
  rw [et9, e7]
  refine lv_iload hx hb dL_law_2071 (lv_at hl 1 rfl) ?_
  refine lv_icmp_eq (tgt := 2078) hx hb dL_law_2073 (by decide) (fun _ => ?_) (fun c9 => absurd rfl c9)
  refine lv_iload hx hb dL_law_2078 (lv_at hl 1 rfl) ?_
  refine lv_if_ne (tgt := 2096) hx hb dL_law_2080 (by decide) (fun c9 => ?_) (fun c9 => ?_)
  · skip
    refine lv_goto (tgt := 3023) hx hb dL_law_2096 (by decide) ?_
    refine W.widen (k := cells + 9300) (n := slots + 100000) (by omega) (by omega) ?_
    exact kk _ _ _ _ _ _ _ _ h Keeps.rf hR hS (lv_sub (hl) [2, 3, 4, 5, 6] rfl)
  · have c9 : k9 = 0 := by first | exact c9 | exact Decidable.of_not_not c9
    have e9 := e9 c9
    refine lv_aload_n hx hb dL_law_2083 rfl (lv_at hl 5 rfl) ?_
    refine va_getN (host := "PublicanryLaw") (T := TX9) (N := 3) (v := .long n1) hx hb hts in_X9 hown hK.1 (va_P1 (hR.2.2.2.1 _ _ ⟨rfl, rfl⟩).1) 0 rfl rfl 0 (by decide) (va_Nw.use rfl (hK.2.1.2.1 _ (List.mem_of_getElem? (i := 1) rfl))) (fun _ h => h) rfl dL_law_2084 ?_
    refine lv_iload hx hb dL_law_2087 (lv_at hl 0 rfl) ?_
    refine lv_i2l hx hb dL_law_2089 rfl ?_
    refine W.lcmp hx hb dL_law_2090 ?_
    refine lv_if_eq (tgt := 2096) hx hb dL_law_2091 (by decide) (fun _ => ?_) (fun c9 => absurd (by rw [e9]; exact lg_cmp_self _) c9)
    refine lv_goto (tgt := 3023) hx hb dL_law_2096 (by decide) ?_
    refine W.widen (k := cells + 9300) (n := slots + 100000) (by omega) (by omega) ?_
    exact kk _ _ _ _ _ _ _ _ h Keeps.rf hR hS (lv_sub (hl) [2, 3, 4, 5, 6] rfl)
def sL_28 (κ : Kx) (y : Ly) (post : Wd → Ly → Prop) (n0 : Int64) (w : Wd) (x1 : Int32) (x2 : Int32) : Prop := sp_X0_law κ y (fun k9 n1 w1 => sp_X8_law κ y (fun b9 w2 => gv w2 20 0 0 = k9 ∧ (k9 = 0 → n1 = b9.toInt64) ∧ post w2 y) w1 x1 x2) n0 w x1 x2
set_option maxHeartbeats 4000000 in
theorem lc_28 {p : Program} {l : Launch} {e : Env} {s : State} {m : MethodId} {below : List Frame} {meth : Method} {c : Code} {b L : Nat} {xs : Nat → Int32} {κ : Kx} {Q : State → Prop} {w : Wd} {y : Ly} {oa : Nat} {n0 : Int64} {d0 : UInt64} {s0 : Value} {H : Heap} {locs : List Loc} {ls : Array Slot} {cells slots j : Nat} {post : Wd → Ly → Prop} (F : LF p l s m meth c b L xs κ) (hm : mon s.heap (y.2 3 0)) (hR : Rp κ w y (oX oa n0 d0 s0) [] H) (hS : va_S (Af κ) s.heap H locs) (hW : WFc κ y) (hM : WFm κ y) (hl : lv_has ls 8 [(0, .ref b), (1, .ref (y.2 0 0)), (2, .ref (y.2 20 0)), (3, .ref oa), (4, .int (nI j))]) (hj : j + 5 ≤ L) (hC : cells + 9300 ≤ rmL.cells) (hSl : slots + 100000 ≤ rmL.slots) (h : sL_28 κ y post n0 w (xs (j + 1)) (xs (j + 2))) (kk : ∀ (w2 : Wd) (y2 : Ly) (n1 : Int64) (d1 : UInt64) (s1 : Value) (H1 : Heap) (locs1 : List Loc) (ls1 : Array Slot), post w2 y2 → Keeps y y2 → Rp κ w2 y2 (oX oa n1 d1 s1) [] H1 → va_S (Af κ) s.heap H1 locs1 → lv_has ls1 8 [(0, .ref b), (1, .ref (y.2 0 0)), (2, .ref (y.2 20 0)), (3, .ref oa), (4, .int (nI j))] → W p l e rmL s m #[.ref b] below meth c H1 locs1 (cells + 9300) (slots + 100000) Q (F0 m 3023 ls1 [])) : W p l e rmL s m #[.ref b] below meth c H locs cells slots Q (F0 m 2099 ls []) := by
  obtain ⟨hx, hb, hr, hml, hlk, hown, hts, hfl, hK, hPx, hX9, hbl, hz9, hL9⟩ := F
  have hbA : ¬ Af κ b := fun h9 => Nat.lt_irrefl _ (Nat.lt_of_lt_of_le hbl h9)
  have hbs : b < s.heap.size := Nat.lt_of_lt_of_le hbl hz9
  have a1 : nI j + (1 : Int32) = nI (j + 1) := nI_add j 1
  have c1 : (nI (j + 1)).toNatClampNeg = j + 1 := nI_clamp (by omega)
  have v1 : vp_in (nI (j + 1)) L := vp_in_nI (by omega) (by omega)
  have a2 : nI j + (2 : Int32) = nI (j + 2) := nI_add j 2
  have c2 : (nI (j + 2)).toNatClampNeg = j + 2 := nI_clamp (by omega)
  have v2 : vp_in (nI (j + 2)) L := vp_in_nI (by omega) (by omega)
  unfold sL_28 at h
  refine lv_aload_n hx hb dL_law_2099 rfl (lv_at hl 1 rfl) ?_
  refine lv_aload_n hx hb dL_law_2100 rfl (lv_at hl 0 rfl) ?_
  refine lv_iload hx hb dL_law_2101 (lv_at hl 4 rfl) ?_
  refine lv_iconst (v := (1 : Int32)) hx hb dL_law_2103 (by decide) ?_
  refine lv_iadd hx hb dL_law_2104 ?_
  rw [a1]
  refine va_sld hx hb hX9 hbs hbA hS v1 dL_law_2105 ?_
  rw [c1]
  refine lv_aload_n hx hb dL_law_2106 rfl (lv_at hl 0 rfl) ?_
  refine lv_iload hx hb dL_law_2107 (lv_at hl 4 rfl) ?_
  refine lv_iconst (v := (2 : Int32)) hx hb dL_law_2109 (by decide) ?_
  refine lv_iadd hx hb dL_law_2110 ?_
  rw [a2]
  refine va_sld hx hb hX9 hbs hbA hS v2 dL_law_2111 ?_
  rw [c2]
  refine lv_aload_n hx hb dL_law_2112 rfl (lv_at hl 3 rfl) ?_
  refine vx_calli (crx_SW (n := 4) (As := [.ref (y.2 0 0), .int (xs (j + 1)), .int (xs (j + 2)), .ref oa]) (rest := []) ⟨hx, hb, hml, hown, hts⟩ hK hR (m_X0_law (X := xl (oX oa n0 d0 s0) []) hfl hW hW.pub (Or.inl ⟨rfl, rfl⟩) h) q1615 q1616 q73 q1617 rfl rfl hdL_law ⟨Nat.le_of_ble_eq_true rfl, Nat.le_of_ble_eq_true rfl⟩ rfl rfl hl.1 rfl (lv_room (Nat.le_of_ble_eq_true rfl)) dL_law_2113 ⟨(Nat.le_trans (show cells + 3 ≤ cells + 9300 from by omega) hC), (Nat.le_trans (show slots + 15 ≤ slots + 100000 from by omega) hSl)⟩) hS (fun _ _ h => h) (fun _ h => h) (fun _ _ h => h) (fun E9 ce9 q9 u t H1 locs1 e1 _ hu => hu.elim) (fun k9 u t H1 locs1 ht _ hp hB hz8 _ hS => ?_)
  obtain ⟨w1, n1⟩ := u
  dsimp only at hp hB
  replace h := hp
  have hR : Rp κ w1 y (oX oa n1 d0 s0) [] H1 := by rw [← ht]; exact hB.wk (fun _ _ h => by obtain ⟨rfl, rfl⟩ := h; exact Or.inl ⟨rfl, rfl⟩)
  refine lv_istore (lv' := [(5, .int k9), (0, .ref b), (1, .ref (y.2 0 0)), (2, .ref (y.2 20 0)), (3, .ref oa), (4, .int (nI j))]) hx hb dL_law_2116 hl (by decide) rfl (fun ls hl => ?_)
  refine lv_aload_n hx hb dL_law_2118 rfl (lv_at hl 3 rfl) ?_
  refine lv_aload_n hx hb dL_law_2119 rfl (lv_at hl 1 rfl) ?_
  refine lv_iload hx hb dL_law_2120 (lv_at hl 5 rfl) ?_
  refine lv_iconst (v := (1 : Int32)) hx hb dL_law_2122 (by decide) ?_
  refine lv_iadd hx hb dL_law_2123 ?_
  rw [a1]
  refine va_sld hx hb hX9 hbs hbA hS v1 dL_law_2124 ?_
  rw [c1]
  refine lv_aload_n hx hb dL_law_2125 rfl (lv_at hl 1 rfl) ?_
  refine lv_iload hx hb dL_law_2126 (lv_at hl 5 rfl) ?_
  refine lv_iconst (v := (2 : Int32)) hx hb dL_law_2128 (by decide) ?_
  refine lv_iadd hx hb dL_law_2129 ?_
  rw [a2]
  refine va_sld hx hb hX9 hbs hbA hS v2 dL_law_2130 ?_
  rw [c2]
  refine ce_qi (fw := fun u => u) (fy := fun _ => y) (cr_V (n := 2) (As := [.int (xs (j + 1)), .int (xs (j + 2))]) (rest := []) ⟨hx, hb, hml, hown, hts⟩ hK hR (m_X8_law hM hM.mro h) q2526 q2527 q2528 q85 q2529 rfl rfl hd_X8_law ⟨Nat.le_of_ble_eq_true rfl, Nat.le_of_ble_eq_true rfl⟩ (rv hK hR hM.mro (ci := 11) rfl rfl) rfl rfl hl.1 rfl (lv_room (Nat.le_of_ble_eq_true rfl)) dL_law_2131 ⟨(Nat.le_trans (show cells + 3 + 1 ≤ cells + 9300 from by omega) hC), (Nat.le_trans (show slots + 15 + 5 ≤ slots + 100000 from by omega) hSl)⟩) hR hS (fun b9 w2 H1 locs1 h hR _ hS => ?_)
  obtain ⟨e7, e9, h⟩ := h
  refine lv_istore (lv' := [(6, .int b9), (5, .int k9), (0, .ref b), (1, .ref (y.2 0 0)), (2, .ref (y.2 20 0)), (3, .ref oa), (4, .int (nI j))]) hx hb dL_law_2134 hl (by decide) rfl (fun ls hl => ?_)
  refine lv_aload_n hx hb dL_law_2136 rfl (lv_at hl 4 rfl) ?_
  refine ce_qi (fw := fun u => u) (fy := fun _ => y) (cr_V (n := 0) (As := []) (rest := []) ⟨hx, hb, hml, hown, hts⟩ hK hR (m_X8_thrown (post := fun r9 u9 => r9 = gv w2 20 0 0 ∧ u9 = w2) hM hM.mro ⟨rfl, rfl⟩) q2012 q2013 q2014 q85 q2015 rfl rfl hd_X8_thrown ⟨Nat.le_of_ble_eq_true rfl, Nat.le_of_ble_eq_true rfl⟩ (rv hK hR hM.mro (ci := 11) rfl rfl) rfl rfl hl.1 rfl (lv_room (Nat.le_of_ble_eq_true rfl)) dL_law_2137 ⟨(Nat.le_trans (show cells + 3 + 1 + 0 ≤ cells + 9300 from by omega) hC), (Nat.le_trans (show slots + 15 + 5 + 0 ≤ slots + 100000 from by omega) hSl)⟩) hR hS (fun t9 w3 H1 locs1 ht9 hR _ hS => ?_)
  obtain ⟨et9, rfl⟩ := ht9
  rw [et9, e7]
  refine lv_iload hx hb dL_law_2140 (lv_at hl 1 rfl) ?_
  refine lv_icmp_eq (tgt := 2147) hx hb dL_law_2142 (by decide) (fun _ => ?_) (fun c9 => absurd rfl c9)
  refine lv_iload hx hb dL_law_2147 (lv_at hl 1 rfl) ?_
  refine lv_if_ne (tgt := 2165) hx hb dL_law_2149 (by decide) (fun c9 => ?_) (fun c9 => ?_)
  · skip
    refine lv_goto (tgt := 3023) hx hb dL_law_2165 (by decide) ?_
    refine W.widen (k := cells + 9300) (n := slots + 100000) (by omega) (by omega) ?_
    exact kk _ _ _ _ _ _ _ _ h Keeps.rf hR hS (lv_sub (hl) [2, 3, 4, 5, 6] rfl)
  · have c9 : k9 = 0 := by first | exact c9 | exact Decidable.of_not_not c9
    have e9 := e9 c9
    refine lv_aload_n hx hb dL_law_2152 rfl (lv_at hl 5 rfl) ?_
    refine va_getN (host := "PublicanryLaw") (T := TX9) (N := 3) (v := .long n1) hx hb hts in_X9 hown hK.1 (va_P1 (hR.2.2.2.1 _ _ ⟨rfl, rfl⟩).1) 0 rfl rfl 0 (by decide) (va_Nw.use rfl (hK.2.1.2.1 _ (List.mem_of_getElem? (i := 1) rfl))) (fun _ h => h) rfl dL_law_2153 ?_
    refine lv_iload hx hb dL_law_2156 (lv_at hl 0 rfl) ?_
    refine lv_i2l hx hb dL_law_2158 rfl ?_
    refine W.lcmp hx hb dL_law_2159 ?_
    refine lv_if_eq (tgt := 2165) hx hb dL_law_2160 (by decide) (fun _ => ?_) (fun c9 => absurd (by rw [e9]; exact lg_cmp_self _) c9)
    refine lv_goto (tgt := 3023) hx hb dL_law_2165 (by decide) ?_
    refine W.widen (k := cells + 9300) (n := slots + 100000) (by omega) (by omega) ?_
    exact kk _ _ _ _ _ _ _ _ h Keeps.rf hR hS (lv_sub (hl) [2, 3, 4, 5, 6] rfl)
def sL_29 (κ : Kx) (y : Ly) (post : Wd → Ly → Prop) (n0 : Int64) (w : Wd) (x1 : Int32) (x2 : Int32) : Prop := sp_X0_ofCompany κ y (fun k9 n1 w1 => sp_X8_ofCompany κ y (fun b9 w2 => gv w2 20 0 0 = k9 ∧ (k9 = 0 → n1 = b9.toInt64) ∧ post w2 y) w1 x1 x2) n0 w x1 x2
set_option maxHeartbeats 4000000 in
theorem lc_29 {p : Program} {l : Launch} {e : Env} {s : State} {m : MethodId} {below : List Frame} {meth : Method} {c : Code} {b L : Nat} {xs : Nat → Int32} {κ : Kx} {Q : State → Prop} {w : Wd} {y : Ly} {oa : Nat} {n0 : Int64} {d0 : UInt64} {s0 : Value} {H : Heap} {locs : List Loc} {ls : Array Slot} {cells slots j : Nat} {post : Wd → Ly → Prop} (F : LF p l s m meth c b L xs κ) (hm : mon s.heap (y.2 3 0)) (hR : Rp κ w y (oX oa n0 d0 s0) [] H) (hS : va_S (Af κ) s.heap H locs) (hW : WFc κ y) (hM : WFm κ y) (hl : lv_has ls 8 [(0, .ref b), (1, .ref (y.2 0 0)), (2, .ref (y.2 20 0)), (3, .ref oa), (4, .int (nI j))]) (hj : j + 5 ≤ L) (hC : cells + 9300 ≤ rmL.cells) (hSl : slots + 100000 ≤ rmL.slots) (h : sL_29 κ y post n0 w (xs (j + 1)) (xs (j + 2))) (kk : ∀ (w2 : Wd) (y2 : Ly) (n1 : Int64) (d1 : UInt64) (s1 : Value) (H1 : Heap) (locs1 : List Loc) (ls1 : Array Slot), post w2 y2 → Keeps y y2 → Rp κ w2 y2 (oX oa n1 d1 s1) [] H1 → va_S (Af κ) s.heap H1 locs1 → lv_has ls1 8 [(0, .ref b), (1, .ref (y.2 0 0)), (2, .ref (y.2 20 0)), (3, .ref oa), (4, .int (nI j))] → W p l e rmL s m #[.ref b] below meth c H1 locs1 (cells + 9300) (slots + 100000) Q (F0 m 3023 ls1 [])) : W p l e rmL s m #[.ref b] below meth c H locs cells slots Q (F0 m 2168 ls []) := by
  obtain ⟨hx, hb, hr, hml, hlk, hown, hts, hfl, hK, hPx, hX9, hbl, hz9, hL9⟩ := F
  have hbA : ¬ Af κ b := fun h9 => Nat.lt_irrefl _ (Nat.lt_of_lt_of_le hbl h9)
  have hbs : b < s.heap.size := Nat.lt_of_lt_of_le hbl hz9
  have a1 : nI j + (1 : Int32) = nI (j + 1) := nI_add j 1
  have c1 : (nI (j + 1)).toNatClampNeg = j + 1 := nI_clamp (by omega)
  have v1 : vp_in (nI (j + 1)) L := vp_in_nI (by omega) (by omega)
  have a2 : nI j + (2 : Int32) = nI (j + 2) := nI_add j 2
  have c2 : (nI (j + 2)).toNatClampNeg = j + 2 := nI_clamp (by omega)
  have v2 : vp_in (nI (j + 2)) L := vp_in_nI (by omega) (by omega)
  unfold sL_29 at h
  refine lv_aload_n hx hb dL_law_2168 rfl (lv_at hl 1 rfl) ?_
  refine lv_aload_n hx hb dL_law_2169 rfl (lv_at hl 0 rfl) ?_
  refine lv_iload hx hb dL_law_2170 (lv_at hl 4 rfl) ?_
  refine lv_iconst (v := (1 : Int32)) hx hb dL_law_2172 (by decide) ?_
  refine lv_iadd hx hb dL_law_2173 ?_
  rw [a1]
  refine va_sld hx hb hX9 hbs hbA hS v1 dL_law_2174 ?_
  rw [c1]
  refine lv_aload_n hx hb dL_law_2175 rfl (lv_at hl 0 rfl) ?_
  refine lv_iload hx hb dL_law_2176 (lv_at hl 4 rfl) ?_
  refine lv_iconst (v := (2 : Int32)) hx hb dL_law_2178 (by decide) ?_
  refine lv_iadd hx hb dL_law_2179 ?_
  rw [a2]
  refine va_sld hx hb hX9 hbs hbA hS v2 dL_law_2180 ?_
  rw [c2]
  refine lv_aload_n hx hb dL_law_2181 rfl (lv_at hl 3 rfl) ?_
  refine vx_calli (crx_SW (n := 4) (As := [.ref (y.2 0 0), .int (xs (j + 1)), .int (xs (j + 2)), .ref oa]) (rest := []) ⟨hx, hb, hml, hown, hts⟩ hK hR (m_X0_ofCompany (X := xl (oX oa n0 d0 s0) []) hfl hW hW.pub (Or.inl ⟨rfl, rfl⟩) h) q1622 q1623 q73 q1624 rfl rfl hdL_ofCompany ⟨Nat.le_of_ble_eq_true rfl, Nat.le_of_ble_eq_true rfl⟩ rfl rfl hl.1 rfl (lv_room (Nat.le_of_ble_eq_true rfl)) dL_law_2182 ⟨(Nat.le_trans (show cells + 3 ≤ cells + 9300 from by omega) hC), (Nat.le_trans (show slots + 16 ≤ slots + 100000 from by omega) hSl)⟩) hS (fun _ _ h => h) (fun _ h => h) (fun _ _ h => h) (fun E9 ce9 q9 u t H1 locs1 e1 _ hu => hu.elim) (fun k9 u t H1 locs1 ht _ hp hB hz8 _ hS => ?_)
  obtain ⟨w1, n1⟩ := u
  dsimp only at hp hB
  replace h := hp
  have hR : Rp κ w1 y (oX oa n1 d0 s0) [] H1 := by rw [← ht]; exact hB.wk (fun _ _ h => by obtain ⟨rfl, rfl⟩ := h; exact Or.inl ⟨rfl, rfl⟩)
  refine lv_istore (lv' := [(5, .int k9), (0, .ref b), (1, .ref (y.2 0 0)), (2, .ref (y.2 20 0)), (3, .ref oa), (4, .int (nI j))]) hx hb dL_law_2185 hl (by decide) rfl (fun ls hl => ?_)
  refine lv_aload_n hx hb dL_law_2187 rfl (lv_at hl 3 rfl) ?_
  refine lv_aload_n hx hb dL_law_2188 rfl (lv_at hl 1 rfl) ?_
  refine lv_iload hx hb dL_law_2189 (lv_at hl 5 rfl) ?_
  refine lv_iconst (v := (1 : Int32)) hx hb dL_law_2191 (by decide) ?_
  refine lv_iadd hx hb dL_law_2192 ?_
  rw [a1]
  refine va_sld hx hb hX9 hbs hbA hS v1 dL_law_2193 ?_
  rw [c1]
  refine lv_aload_n hx hb dL_law_2194 rfl (lv_at hl 1 rfl) ?_
  refine lv_iload hx hb dL_law_2195 (lv_at hl 5 rfl) ?_
  refine lv_iconst (v := (2 : Int32)) hx hb dL_law_2197 (by decide) ?_
  refine lv_iadd hx hb dL_law_2198 ?_
  rw [a2]
  refine va_sld hx hb hX9 hbs hbA hS v2 dL_law_2199 ?_
  rw [c2]
  refine ce_qi (fw := fun u => u) (fy := fun _ => y) (cr_V (n := 2) (As := [.int (xs (j + 1)), .int (xs (j + 2))]) (rest := []) ⟨hx, hb, hml, hown, hts⟩ hK hR (m_X8_ofCompany hM hM.mro h) q2534 q2535 q2536 q85 q2537 rfl rfl hd_X8_ofCompany ⟨Nat.le_of_ble_eq_true rfl, Nat.le_of_ble_eq_true rfl⟩ (rv hK hR hM.mro (ci := 11) rfl rfl) rfl rfl hl.1 rfl (lv_room (Nat.le_of_ble_eq_true rfl)) dL_law_2200 ⟨(Nat.le_trans (show cells + 3 + 4 ≤ cells + 9300 from by omega) hC), (Nat.le_trans (show slots + 16 + 25 ≤ slots + 100000 from by omega) hSl)⟩) hR hS (fun b9 w2 H1 locs1 h hR _ hS => ?_)
  obtain ⟨e7, e9, h⟩ := h
  refine lv_istore (lv' := [(6, .int b9), (5, .int k9), (0, .ref b), (1, .ref (y.2 0 0)), (2, .ref (y.2 20 0)), (3, .ref oa), (4, .int (nI j))]) hx hb dL_law_2203 hl (by decide) rfl (fun ls hl => ?_)
  refine lv_aload_n hx hb dL_law_2205 rfl (lv_at hl 4 rfl) ?_
  refine ce_qi (fw := fun u => u) (fy := fun _ => y) (cr_V (n := 0) (As := []) (rest := []) ⟨hx, hb, hml, hown, hts⟩ hK hR (m_X8_thrown (post := fun r9 u9 => r9 = gv w2 20 0 0 ∧ u9 = w2) hM hM.mro ⟨rfl, rfl⟩) q2012 q2013 q2014 q85 q2015 rfl rfl hd_X8_thrown ⟨Nat.le_of_ble_eq_true rfl, Nat.le_of_ble_eq_true rfl⟩ (rv hK hR hM.mro (ci := 11) rfl rfl) rfl rfl hl.1 rfl (lv_room (Nat.le_of_ble_eq_true rfl)) dL_law_2206 ⟨(Nat.le_trans (show cells + 3 + 4 + 0 ≤ cells + 9300 from by omega) hC), (Nat.le_trans (show slots + 16 + 25 + 0 ≤ slots + 100000 from by omega) hSl)⟩) hR hS (fun t9 w3 H1 locs1 ht9 hR _ hS => ?_)
  obtain ⟨et9, rfl⟩ := ht9
  rw [et9, e7]
  refine lv_iload hx hb dL_law_2209 (lv_at hl 1 rfl) ?_
  refine lv_icmp_eq (tgt := 2216) hx hb dL_law_2211 (by decide) (fun _ => ?_) (fun c9 => absurd rfl c9)
  refine lv_iload hx hb dL_law_2216 (lv_at hl 1 rfl) ?_
  refine lv_if_ne (tgt := 2234) hx hb dL_law_2218 (by decide) (fun c9 => ?_) (fun c9 => ?_)
  · skip
    refine lv_goto (tgt := 3023) hx hb dL_law_2234 (by decide) ?_
    refine W.widen (k := cells + 9300) (n := slots + 100000) (by omega) (by omega) ?_
    exact kk _ _ _ _ _ _ _ _ h Keeps.rf hR hS (lv_sub (hl) [2, 3, 4, 5, 6] rfl)
  · have c9 : k9 = 0 := by first | exact c9 | exact Decidable.of_not_not c9
    have e9 := e9 c9
    refine lv_aload_n hx hb dL_law_2221 rfl (lv_at hl 5 rfl) ?_
    refine va_getN (host := "PublicanryLaw") (T := TX9) (N := 3) (v := .long n1) hx hb hts in_X9 hown hK.1 (va_P1 (hR.2.2.2.1 _ _ ⟨rfl, rfl⟩).1) 0 rfl rfl 0 (by decide) (va_Nw.use rfl (hK.2.1.2.1 _ (List.mem_of_getElem? (i := 1) rfl))) (fun _ h => h) rfl dL_law_2222 ?_
    refine lv_iload hx hb dL_law_2225 (lv_at hl 0 rfl) ?_
    refine lv_i2l hx hb dL_law_2227 rfl ?_
    refine W.lcmp hx hb dL_law_2228 ?_
    refine lv_if_eq (tgt := 2234) hx hb dL_law_2229 (by decide) (fun _ => ?_) (fun c9 => absurd (by rw [e9]; exact lg_cmp_self _) c9)
    refine lv_goto (tgt := 3023) hx hb dL_law_2234 (by decide) ?_
    refine W.widen (k := cells + 9300) (n := slots + 100000) (by omega) (by omega) ?_
    exact kk _ _ _ _ _ _ _ _ h Keeps.rf hR hS (lv_sub (hl) [2, 3, 4, 5, 6] rfl)
def sL_30 (κ : Kx) (y : Ly) (post : Wd → Ly → Prop) (n0 : Int64) (w : Wd) (x1 : Int32) (x2 : Int32) (x3 : Int32) : Prop := sp_X0_partner κ y (fun k9 n1 w1 => sp_X8_partner κ y (fun b9 w2 => gv w2 20 0 0 = k9 ∧ (k9 = 0 → n1 = b9.toInt64) ∧ post w2 y) w1 x1 x2 (bz x3)) n0 w x1 x2 (bz x3)
set_option maxHeartbeats 4000000 in
theorem lc_30 {p : Program} {l : Launch} {e : Env} {s : State} {m : MethodId} {below : List Frame} {meth : Method} {c : Code} {b L : Nat} {xs : Nat → Int32} {κ : Kx} {Q : State → Prop} {w : Wd} {y : Ly} {oa : Nat} {n0 : Int64} {d0 : UInt64} {s0 : Value} {H : Heap} {locs : List Loc} {ls : Array Slot} {cells slots j : Nat} {post : Wd → Ly → Prop} (F : LF p l s m meth c b L xs κ) (hm : mon s.heap (y.2 3 0)) (hR : Rp κ w y (oX oa n0 d0 s0) [] H) (hS : va_S (Af κ) s.heap H locs) (hW : WFc κ y) (hM : WFm κ y) (hl : lv_has ls 8 [(0, .ref b), (1, .ref (y.2 0 0)), (2, .ref (y.2 20 0)), (3, .ref oa), (4, .int (nI j))]) (hj : j + 5 ≤ L) (hC : cells + 9300 ≤ rmL.cells) (hSl : slots + 100000 ≤ rmL.slots) (h : sL_30 κ y post n0 w (xs (j + 1)) (xs (j + 2)) (xs (j + 3))) (kk : ∀ (w2 : Wd) (y2 : Ly) (n1 : Int64) (d1 : UInt64) (s1 : Value) (H1 : Heap) (locs1 : List Loc) (ls1 : Array Slot), post w2 y2 → Keeps y y2 → Rp κ w2 y2 (oX oa n1 d1 s1) [] H1 → va_S (Af κ) s.heap H1 locs1 → lv_has ls1 8 [(0, .ref b), (1, .ref (y.2 0 0)), (2, .ref (y.2 20 0)), (3, .ref oa), (4, .int (nI j))] → W p l e rmL s m #[.ref b] below meth c H1 locs1 (cells + 9300) (slots + 100000) Q (F0 m 3023 ls1 [])) : W p l e rmL s m #[.ref b] below meth c H locs cells slots Q (F0 m 2237 ls []) := by
  obtain ⟨hx, hb, hr, hml, hlk, hown, hts, hfl, hK, hPx, hX9, hbl, hz9, hL9⟩ := F
  have hbA : ¬ Af κ b := fun h9 => Nat.lt_irrefl _ (Nat.lt_of_lt_of_le hbl h9)
  have hbs : b < s.heap.size := Nat.lt_of_lt_of_le hbl hz9
  have a1 : nI j + (1 : Int32) = nI (j + 1) := nI_add j 1
  have c1 : (nI (j + 1)).toNatClampNeg = j + 1 := nI_clamp (by omega)
  have v1 : vp_in (nI (j + 1)) L := vp_in_nI (by omega) (by omega)
  have a2 : nI j + (2 : Int32) = nI (j + 2) := nI_add j 2
  have c2 : (nI (j + 2)).toNatClampNeg = j + 2 := nI_clamp (by omega)
  have v2 : vp_in (nI (j + 2)) L := vp_in_nI (by omega) (by omega)
  have a3 : nI j + (3 : Int32) = nI (j + 3) := nI_add j 3
  have c3 : (nI (j + 3)).toNatClampNeg = j + 3 := nI_clamp (by omega)
  have v3 : vp_in (nI (j + 3)) L := vp_in_nI (by omega) (by omega)
  unfold sL_30 at h
  refine lv_aload_n hx hb dL_law_2237 rfl (lv_at hl 1 rfl) ?_
  refine lv_aload_n hx hb dL_law_2238 rfl (lv_at hl 0 rfl) ?_
  refine lv_iload hx hb dL_law_2239 (lv_at hl 4 rfl) ?_
  refine lv_iconst (v := (1 : Int32)) hx hb dL_law_2241 (by decide) ?_
  refine lv_iadd hx hb dL_law_2242 ?_
  rw [a1]
  refine va_sld hx hb hX9 hbs hbA hS v1 dL_law_2243 ?_
  rw [c1]
  refine lv_aload_n hx hb dL_law_2244 rfl (lv_at hl 0 rfl) ?_
  refine lv_iload hx hb dL_law_2245 (lv_at hl 4 rfl) ?_
  refine lv_iconst (v := (2 : Int32)) hx hb dL_law_2247 (by decide) ?_
  refine lv_iadd hx hb dL_law_2248 ?_
  rw [a2]
  refine va_sld hx hb hX9 hbs hbA hS v2 dL_law_2249 ?_
  rw [c2]
  refine lv_aload_n hx hb dL_law_2250 rfl (lv_at hl 0 rfl) ?_
  refine lv_iload hx hb dL_law_2251 (lv_at hl 4 rfl) ?_
  refine lv_iconst (v := (3 : Int32)) hx hb dL_law_2253 (by decide) ?_
  refine lv_iadd hx hb dL_law_2254 ?_
  rw [a3]
  refine va_sld hx hb hX9 hbs hbA hS v3 dL_law_2255 ?_
  rw [c3]
  by_cases hb3 : xs (j + 3) = 0
  · rw [bz_0 hb3] at h
    refine lv_if_eq (tgt := 2263) hx hb dL_law_2256 (by decide) (fun _ => ?_) (fun c9 => absurd hb3 c9)
    refine lv_iconst (v := (0 : Int32)) hx hb dL_law_2263 (by decide) ?_
    refine lv_aload_n hx hb dL_law_2264 rfl (lv_at hl 3 rfl) ?_
    refine vx_calli (crx_SW (n := 5) (As := [.ref (y.2 0 0), .int (xs (j + 1)), .int (xs (j + 2)), .int (0 : Int32), .ref oa]) (rest := []) ⟨hx, hb, hml, hown, hts⟩ hK hR (m_X0_partner (X := xl (oX oa n0 d0 s0) []) hfl hW hW.pub (Or.inl ⟨rfl, rfl⟩) h) q1629 q1630 q73 q1631 rfl rfl hdL_partner ⟨Nat.le_of_ble_eq_true rfl, Nat.le_of_ble_eq_true rfl⟩ rfl rfl hl.1 rfl (lv_room (Nat.le_of_ble_eq_true rfl)) dL_law_2265 ⟨(Nat.le_trans (show cells + 2 ≤ cells + 9300 from by omega) hC), (Nat.le_trans (show slots + 12 ≤ slots + 100000 from by omega) hSl)⟩) hS (fun _ _ h => h) (fun _ h => h) (fun _ _ h => h) (fun E9 ce9 q9 u t H1 locs1 e1 _ hu => hu.elim) (fun k9 u t H1 locs1 ht _ hp hB hz8 _ hS => ?_)
    obtain ⟨w1, n1⟩ := u
    dsimp only at hp hB
    replace h := hp
    have hR : Rp κ w1 y (oX oa n1 d0 s0) [] H1 := by rw [← ht]; exact hB.wk (fun _ _ h => by obtain ⟨rfl, rfl⟩ := h; exact Or.inl ⟨rfl, rfl⟩)
    refine lv_istore (lv' := [(5, .int k9), (0, .ref b), (1, .ref (y.2 0 0)), (2, .ref (y.2 20 0)), (3, .ref oa), (4, .int (nI j))]) hx hb dL_law_2268 hl (by decide) rfl (fun ls hl => ?_)
    refine lv_aload_n hx hb dL_law_2270 rfl (lv_at hl 3 rfl) ?_
    refine lv_aload_n hx hb dL_law_2271 rfl (lv_at hl 1 rfl) ?_
    refine lv_iload hx hb dL_law_2272 (lv_at hl 5 rfl) ?_
    refine lv_iconst (v := (1 : Int32)) hx hb dL_law_2274 (by decide) ?_
    refine lv_iadd hx hb dL_law_2275 ?_
    rw [a1]
    refine va_sld hx hb hX9 hbs hbA hS v1 dL_law_2276 ?_
    rw [c1]
    refine lv_aload_n hx hb dL_law_2277 rfl (lv_at hl 1 rfl) ?_
    refine lv_iload hx hb dL_law_2278 (lv_at hl 5 rfl) ?_
    refine lv_iconst (v := (2 : Int32)) hx hb dL_law_2280 (by decide) ?_
    refine lv_iadd hx hb dL_law_2281 ?_
    rw [a2]
    refine va_sld hx hb hX9 hbs hbA hS v2 dL_law_2282 ?_
    rw [c2]
    refine lv_aload_n hx hb dL_law_2283 rfl (lv_at hl 1 rfl) ?_
    refine lv_iload hx hb dL_law_2284 (lv_at hl 5 rfl) ?_
    refine lv_iconst (v := (3 : Int32)) hx hb dL_law_2286 (by decide) ?_
    refine lv_iadd hx hb dL_law_2287 ?_
    rw [a3]
    refine va_sld hx hb hX9 hbs hbA hS v3 dL_law_2288 ?_
    rw [c3]
    refine lv_if_eq (tgt := 2296) hx hb dL_law_2289 (by decide) (fun _ => ?_) (fun c9 => absurd hb3 c9)
    refine lv_iconst (v := (0 : Int32)) hx hb dL_law_2296 (by decide) ?_
    refine ce_qi (fw := fun u => u) (fy := fun _ => y) (cr_V (n := 3) (As := [.int (xs (j + 1)), .int (xs (j + 2)), .int (0 : Int32)]) (rest := []) ⟨hx, hb, hml, hown, hts⟩ hK hR (m_X8_partner hM hM.mro h) q2542 q2543 q2544 q85 q2545 rfl rfl hd_X8_partner ⟨Nat.le_of_ble_eq_true rfl, Nat.le_of_ble_eq_true rfl⟩ (rv hK hR hM.mro (ci := 11) rfl rfl) rfl rfl hl.1 rfl (lv_room (Nat.le_of_ble_eq_true rfl)) dL_law_2297 ⟨(Nat.le_trans (show cells + 2 + 0 ≤ cells + 9300 from by omega) hC), (Nat.le_trans (show slots + 12 + 0 ≤ slots + 100000 from by omega) hSl)⟩) hR hS (fun b9 w2 H1 locs1 h hR _ hS => ?_)
    obtain ⟨e7, e9, h⟩ := h
    refine lv_istore (lv' := [(6, .int b9), (5, .int k9), (0, .ref b), (1, .ref (y.2 0 0)), (2, .ref (y.2 20 0)), (3, .ref oa), (4, .int (nI j))]) hx hb dL_law_2300 hl (by decide) rfl (fun ls hl => ?_)
    refine lv_aload_n hx hb dL_law_2302 rfl (lv_at hl 4 rfl) ?_
    refine ce_qi (fw := fun u => u) (fy := fun _ => y) (cr_V (n := 0) (As := []) (rest := []) ⟨hx, hb, hml, hown, hts⟩ hK hR (m_X8_thrown (post := fun r9 u9 => r9 = gv w2 20 0 0 ∧ u9 = w2) hM hM.mro ⟨rfl, rfl⟩) q2012 q2013 q2014 q85 q2015 rfl rfl hd_X8_thrown ⟨Nat.le_of_ble_eq_true rfl, Nat.le_of_ble_eq_true rfl⟩ (rv hK hR hM.mro (ci := 11) rfl rfl) rfl rfl hl.1 rfl (lv_room (Nat.le_of_ble_eq_true rfl)) dL_law_2303 ⟨(Nat.le_trans (show cells + 2 + 0 + 0 ≤ cells + 9300 from by omega) hC), (Nat.le_trans (show slots + 12 + 0 + 0 ≤ slots + 100000 from by omega) hSl)⟩) hR hS (fun t9 w3 H1 locs1 ht9 hR _ hS => ?_)
    obtain ⟨et9, rfl⟩ := ht9
    rw [et9, e7]
    refine lv_iload hx hb dL_law_2306 (lv_at hl 1 rfl) ?_
    refine lv_icmp_eq (tgt := 2313) hx hb dL_law_2308 (by decide) (fun _ => ?_) (fun c9 => absurd rfl c9)
    refine lv_iload hx hb dL_law_2313 (lv_at hl 1 rfl) ?_
    refine lv_if_ne (tgt := 2331) hx hb dL_law_2315 (by decide) (fun c9 => ?_) (fun c9 => ?_)
    · skip
      refine lv_goto (tgt := 3023) hx hb dL_law_2331 (by decide) ?_
      refine W.widen (k := cells + 9300) (n := slots + 100000) (by omega) (by omega) ?_
      exact kk _ _ _ _ _ _ _ _ h Keeps.rf hR hS (lv_sub (hl) [2, 3, 4, 5, 6] rfl)
    · have c9 : k9 = 0 := by first | exact c9 | exact Decidable.of_not_not c9
      have e9 := e9 c9
      refine lv_aload_n hx hb dL_law_2318 rfl (lv_at hl 5 rfl) ?_
      refine va_getN (host := "PublicanryLaw") (T := TX9) (N := 3) (v := .long n1) hx hb hts in_X9 hown hK.1 (va_P1 (hR.2.2.2.1 _ _ ⟨rfl, rfl⟩).1) 0 rfl rfl 0 (by decide) (va_Nw.use rfl (hK.2.1.2.1 _ (List.mem_of_getElem? (i := 1) rfl))) (fun _ h => h) rfl dL_law_2319 ?_
      refine lv_iload hx hb dL_law_2322 (lv_at hl 0 rfl) ?_
      refine lv_i2l hx hb dL_law_2324 rfl ?_
      refine W.lcmp hx hb dL_law_2325 ?_
      refine lv_if_eq (tgt := 2331) hx hb dL_law_2326 (by decide) (fun _ => ?_) (fun c9 => absurd (by rw [e9]; exact lg_cmp_self _) c9)
      refine lv_goto (tgt := 3023) hx hb dL_law_2331 (by decide) ?_
      refine W.widen (k := cells + 9300) (n := slots + 100000) (by omega) (by omega) ?_
      exact kk _ _ _ _ _ _ _ _ h Keeps.rf hR hS (lv_sub (hl) [2, 3, 4, 5, 6] rfl)
  · rw [bz_1 hb3] at h
    refine lv_if_eq (tgt := 2263) hx hb dL_law_2256 (by decide) (fun c9 => absurd c9 hb3) (fun _ => ?_)
    refine lv_iconst (v := (1 : Int32)) hx hb dL_law_2259 (by decide) ?_
    refine lv_goto (tgt := 2264) hx hb dL_law_2260 (by decide) ?_
    refine lv_aload_n hx hb dL_law_2264 rfl (lv_at hl 3 rfl) ?_
    refine vx_calli (crx_SW (n := 5) (As := [.ref (y.2 0 0), .int (xs (j + 1)), .int (xs (j + 2)), .int (1 : Int32), .ref oa]) (rest := []) ⟨hx, hb, hml, hown, hts⟩ hK hR (m_X0_partner (X := xl (oX oa n0 d0 s0) []) hfl hW hW.pub (Or.inl ⟨rfl, rfl⟩) h) q1629 q1630 q73 q1631 rfl rfl hdL_partner ⟨Nat.le_of_ble_eq_true rfl, Nat.le_of_ble_eq_true rfl⟩ rfl rfl hl.1 rfl (lv_room (Nat.le_of_ble_eq_true rfl)) dL_law_2265 ⟨(Nat.le_trans (show cells + 2 ≤ cells + 9300 from by omega) hC), (Nat.le_trans (show slots + 12 ≤ slots + 100000 from by omega) hSl)⟩) hS (fun _ _ h => h) (fun _ h => h) (fun _ _ h => h) (fun E9 ce9 q9 u t H1 locs1 e1 _ hu => hu.elim) (fun k9 u t H1 locs1 ht _ hp hB hz8 _ hS => ?_)
    obtain ⟨w1, n1⟩ := u
    dsimp only at hp hB
    replace h := hp
    have hR : Rp κ w1 y (oX oa n1 d0 s0) [] H1 := by rw [← ht]; exact hB.wk (fun _ _ h => by obtain ⟨rfl, rfl⟩ := h; exact Or.inl ⟨rfl, rfl⟩)
    refine lv_istore (lv' := [(5, .int k9), (0, .ref b), (1, .ref (y.2 0 0)), (2, .ref (y.2 20 0)), (3, .ref oa), (4, .int (nI j))]) hx hb dL_law_2268 hl (by decide) rfl (fun ls hl => ?_)
    refine lv_aload_n hx hb dL_law_2270 rfl (lv_at hl 3 rfl) ?_
    refine lv_aload_n hx hb dL_law_2271 rfl (lv_at hl 1 rfl) ?_
    refine lv_iload hx hb dL_law_2272 (lv_at hl 5 rfl) ?_
    refine lv_iconst (v := (1 : Int32)) hx hb dL_law_2274 (by decide) ?_
    refine lv_iadd hx hb dL_law_2275 ?_
    rw [a1]
    refine va_sld hx hb hX9 hbs hbA hS v1 dL_law_2276 ?_
    rw [c1]
    refine lv_aload_n hx hb dL_law_2277 rfl (lv_at hl 1 rfl) ?_
    refine lv_iload hx hb dL_law_2278 (lv_at hl 5 rfl) ?_
    refine lv_iconst (v := (2 : Int32)) hx hb dL_law_2280 (by decide) ?_
    refine lv_iadd hx hb dL_law_2281 ?_
    rw [a2]
    refine va_sld hx hb hX9 hbs hbA hS v2 dL_law_2282 ?_
    rw [c2]
    refine lv_aload_n hx hb dL_law_2283 rfl (lv_at hl 1 rfl) ?_
    refine lv_iload hx hb dL_law_2284 (lv_at hl 5 rfl) ?_
    refine lv_iconst (v := (3 : Int32)) hx hb dL_law_2286 (by decide) ?_
    refine lv_iadd hx hb dL_law_2287 ?_
    rw [a3]
    refine va_sld hx hb hX9 hbs hbA hS v3 dL_law_2288 ?_
    rw [c3]
    refine lv_if_eq (tgt := 2296) hx hb dL_law_2289 (by decide) (fun c9 => absurd c9 hb3) (fun _ => ?_)
    refine lv_iconst (v := (1 : Int32)) hx hb dL_law_2292 (by decide) ?_
    refine lv_goto (tgt := 2297) hx hb dL_law_2293 (by decide) ?_
    refine ce_qi (fw := fun u => u) (fy := fun _ => y) (cr_V (n := 3) (As := [.int (xs (j + 1)), .int (xs (j + 2)), .int (1 : Int32)]) (rest := []) ⟨hx, hb, hml, hown, hts⟩ hK hR (m_X8_partner hM hM.mro h) q2542 q2543 q2544 q85 q2545 rfl rfl hd_X8_partner ⟨Nat.le_of_ble_eq_true rfl, Nat.le_of_ble_eq_true rfl⟩ (rv hK hR hM.mro (ci := 11) rfl rfl) rfl rfl hl.1 rfl (lv_room (Nat.le_of_ble_eq_true rfl)) dL_law_2297 ⟨(Nat.le_trans (show cells + 2 + 0 ≤ cells + 9300 from by omega) hC), (Nat.le_trans (show slots + 12 + 0 ≤ slots + 100000 from by omega) hSl)⟩) hR hS (fun b9 w2 H1 locs1 h hR _ hS => ?_)
    obtain ⟨e7, e9, h⟩ := h
    refine lv_istore (lv' := [(6, .int b9), (5, .int k9), (0, .ref b), (1, .ref (y.2 0 0)), (2, .ref (y.2 20 0)), (3, .ref oa), (4, .int (nI j))]) hx hb dL_law_2300 hl (by decide) rfl (fun ls hl => ?_)
    refine lv_aload_n hx hb dL_law_2302 rfl (lv_at hl 4 rfl) ?_
    refine ce_qi (fw := fun u => u) (fy := fun _ => y) (cr_V (n := 0) (As := []) (rest := []) ⟨hx, hb, hml, hown, hts⟩ hK hR (m_X8_thrown (post := fun r9 u9 => r9 = gv w2 20 0 0 ∧ u9 = w2) hM hM.mro ⟨rfl, rfl⟩) q2012 q2013 q2014 q85 q2015 rfl rfl hd_X8_thrown ⟨Nat.le_of_ble_eq_true rfl, Nat.le_of_ble_eq_true rfl⟩ (rv hK hR hM.mro (ci := 11) rfl rfl) rfl rfl hl.1 rfl (lv_room (Nat.le_of_ble_eq_true rfl)) dL_law_2303 ⟨(Nat.le_trans (show cells + 2 + 0 + 0 ≤ cells + 9300 from by omega) hC), (Nat.le_trans (show slots + 12 + 0 + 0 ≤ slots + 100000 from by omega) hSl)⟩) hR hS (fun t9 w3 H1 locs1 ht9 hR _ hS => ?_)
    obtain ⟨et9, rfl⟩ := ht9
    rw [et9, e7]
    refine lv_iload hx hb dL_law_2306 (lv_at hl 1 rfl) ?_
    refine lv_icmp_eq (tgt := 2313) hx hb dL_law_2308 (by decide) (fun _ => ?_) (fun c9 => absurd rfl c9)
    refine lv_iload hx hb dL_law_2313 (lv_at hl 1 rfl) ?_
    refine lv_if_ne (tgt := 2331) hx hb dL_law_2315 (by decide) (fun c9 => ?_) (fun c9 => ?_)
    · skip
      refine lv_goto (tgt := 3023) hx hb dL_law_2331 (by decide) ?_
      refine W.widen (k := cells + 9300) (n := slots + 100000) (by omega) (by omega) ?_
      exact kk _ _ _ _ _ _ _ _ h Keeps.rf hR hS (lv_sub (hl) [2, 3, 4, 5, 6] rfl)
    · have c9 : k9 = 0 := by first | exact c9 | exact Decidable.of_not_not c9
      have e9 := e9 c9
      refine lv_aload_n hx hb dL_law_2318 rfl (lv_at hl 5 rfl) ?_
      refine va_getN (host := "PublicanryLaw") (T := TX9) (N := 3) (v := .long n1) hx hb hts in_X9 hown hK.1 (va_P1 (hR.2.2.2.1 _ _ ⟨rfl, rfl⟩).1) 0 rfl rfl 0 (by decide) (va_Nw.use rfl (hK.2.1.2.1 _ (List.mem_of_getElem? (i := 1) rfl))) (fun _ h => h) rfl dL_law_2319 ?_
      refine lv_iload hx hb dL_law_2322 (lv_at hl 0 rfl) ?_
      refine lv_i2l hx hb dL_law_2324 rfl ?_
      refine W.lcmp hx hb dL_law_2325 ?_
      refine lv_if_eq (tgt := 2331) hx hb dL_law_2326 (by decide) (fun _ => ?_) (fun c9 => absurd (by rw [e9]; exact lg_cmp_self _) c9)
      refine lv_goto (tgt := 3023) hx hb dL_law_2331 (by decide) ?_
      refine W.widen (k := cells + 9300) (n := slots + 100000) (by omega) (by omega) ?_
      exact kk _ _ _ _ _ _ _ _ h Keeps.rf hR hS (lv_sub (hl) [2, 3, 4, 5, 6] rfl)
def sL_31 (κ : Kx) (y : Ly) (post : Wd → Ly → Prop) (n0 : Int64) (w : Wd) (x1 : Int32) (x2 : Int32) : Prop := sp_X0_ofLot κ y (fun k9 n1 w1 => sp_X8_ofLot κ y (fun b9 w2 => gv w2 20 0 0 = k9 ∧ (k9 = 0 → n1 = b9.toInt64) ∧ post w2 y) w1 x1 x2) n0 w x1 x2
set_option maxHeartbeats 4000000 in
theorem lc_31 {p : Program} {l : Launch} {e : Env} {s : State} {m : MethodId} {below : List Frame} {meth : Method} {c : Code} {b L : Nat} {xs : Nat → Int32} {κ : Kx} {Q : State → Prop} {w : Wd} {y : Ly} {oa : Nat} {n0 : Int64} {d0 : UInt64} {s0 : Value} {H : Heap} {locs : List Loc} {ls : Array Slot} {cells slots j : Nat} {post : Wd → Ly → Prop} (F : LF p l s m meth c b L xs κ) (hm : mon s.heap (y.2 3 0)) (hR : Rp κ w y (oX oa n0 d0 s0) [] H) (hS : va_S (Af κ) s.heap H locs) (hW : WFc κ y) (hM : WFm κ y) (hl : lv_has ls 8 [(0, .ref b), (1, .ref (y.2 0 0)), (2, .ref (y.2 20 0)), (3, .ref oa), (4, .int (nI j))]) (hj : j + 5 ≤ L) (hC : cells + 9300 ≤ rmL.cells) (hSl : slots + 100000 ≤ rmL.slots) (h : sL_31 κ y post n0 w (xs (j + 1)) (xs (j + 2))) (kk : ∀ (w2 : Wd) (y2 : Ly) (n1 : Int64) (d1 : UInt64) (s1 : Value) (H1 : Heap) (locs1 : List Loc) (ls1 : Array Slot), post w2 y2 → Keeps y y2 → Rp κ w2 y2 (oX oa n1 d1 s1) [] H1 → va_S (Af κ) s.heap H1 locs1 → lv_has ls1 8 [(0, .ref b), (1, .ref (y.2 0 0)), (2, .ref (y.2 20 0)), (3, .ref oa), (4, .int (nI j))] → W p l e rmL s m #[.ref b] below meth c H1 locs1 (cells + 9300) (slots + 100000) Q (F0 m 3023 ls1 [])) : W p l e rmL s m #[.ref b] below meth c H locs cells slots Q (F0 m 2334 ls []) := by
  obtain ⟨hx, hb, hr, hml, hlk, hown, hts, hfl, hK, hPx, hX9, hbl, hz9, hL9⟩ := F
  have hbA : ¬ Af κ b := fun h9 => Nat.lt_irrefl _ (Nat.lt_of_lt_of_le hbl h9)
  have hbs : b < s.heap.size := Nat.lt_of_lt_of_le hbl hz9
  have a1 : nI j + (1 : Int32) = nI (j + 1) := nI_add j 1
  have c1 : (nI (j + 1)).toNatClampNeg = j + 1 := nI_clamp (by omega)
  have v1 : vp_in (nI (j + 1)) L := vp_in_nI (by omega) (by omega)
  have a2 : nI j + (2 : Int32) = nI (j + 2) := nI_add j 2
  have c2 : (nI (j + 2)).toNatClampNeg = j + 2 := nI_clamp (by omega)
  have v2 : vp_in (nI (j + 2)) L := vp_in_nI (by omega) (by omega)
  unfold sL_31 at h
  refine lv_aload_n hx hb dL_law_2334 rfl (lv_at hl 1 rfl) ?_
  refine lv_aload_n hx hb dL_law_2335 rfl (lv_at hl 0 rfl) ?_
  refine lv_iload hx hb dL_law_2336 (lv_at hl 4 rfl) ?_
  refine lv_iconst (v := (1 : Int32)) hx hb dL_law_2338 (by decide) ?_
  refine lv_iadd hx hb dL_law_2339 ?_
  rw [a1]
  refine va_sld hx hb hX9 hbs hbA hS v1 dL_law_2340 ?_
  rw [c1]
  refine lv_aload_n hx hb dL_law_2341 rfl (lv_at hl 0 rfl) ?_
  refine lv_iload hx hb dL_law_2342 (lv_at hl 4 rfl) ?_
  refine lv_iconst (v := (2 : Int32)) hx hb dL_law_2344 (by decide) ?_
  refine lv_iadd hx hb dL_law_2345 ?_
  rw [a2]
  refine va_sld hx hb hX9 hbs hbA hS v2 dL_law_2346 ?_
  rw [c2]
  refine lv_aload_n hx hb dL_law_2347 rfl (lv_at hl 3 rfl) ?_
  refine vx_calli (crx_SW (n := 4) (As := [.ref (y.2 0 0), .int (xs (j + 1)), .int (xs (j + 2)), .ref oa]) (rest := []) ⟨hx, hb, hml, hown, hts⟩ hK hR (m_X0_ofLot (X := xl (oX oa n0 d0 s0) []) hfl hW hW.pub (Or.inl ⟨rfl, rfl⟩) h) q1637 q1638 q73 q1639 rfl rfl hdL_ofLot ⟨Nat.le_of_ble_eq_true rfl, Nat.le_of_ble_eq_true rfl⟩ rfl rfl hl.1 rfl (lv_room (Nat.le_of_ble_eq_true rfl)) dL_law_2348 ⟨(Nat.le_trans (show cells + 2 ≤ cells + 9300 from by omega) hC), (Nat.le_trans (show slots + 12 ≤ slots + 100000 from by omega) hSl)⟩) hS (fun _ _ h => h) (fun _ h => h) (fun _ _ h => h) (fun E9 ce9 q9 u t H1 locs1 e1 _ hu => hu.elim) (fun k9 u t H1 locs1 ht _ hp hB hz8 _ hS => ?_)
  obtain ⟨w1, n1⟩ := u
  dsimp only at hp hB
  replace h := hp
  have hR : Rp κ w1 y (oX oa n1 d0 s0) [] H1 := by rw [← ht]; exact hB.wk (fun _ _ h => by obtain ⟨rfl, rfl⟩ := h; exact Or.inl ⟨rfl, rfl⟩)
  refine lv_istore (lv' := [(5, .int k9), (0, .ref b), (1, .ref (y.2 0 0)), (2, .ref (y.2 20 0)), (3, .ref oa), (4, .int (nI j))]) hx hb dL_law_2351 hl (by decide) rfl (fun ls hl => ?_)
  refine lv_aload_n hx hb dL_law_2353 rfl (lv_at hl 3 rfl) ?_
  refine lv_aload_n hx hb dL_law_2354 rfl (lv_at hl 1 rfl) ?_
  refine lv_iload hx hb dL_law_2355 (lv_at hl 5 rfl) ?_
  refine lv_iconst (v := (1 : Int32)) hx hb dL_law_2357 (by decide) ?_
  refine lv_iadd hx hb dL_law_2358 ?_
  rw [a1]
  refine va_sld hx hb hX9 hbs hbA hS v1 dL_law_2359 ?_
  rw [c1]
  refine lv_aload_n hx hb dL_law_2360 rfl (lv_at hl 1 rfl) ?_
  refine lv_iload hx hb dL_law_2361 (lv_at hl 5 rfl) ?_
  refine lv_iconst (v := (2 : Int32)) hx hb dL_law_2363 (by decide) ?_
  refine lv_iadd hx hb dL_law_2364 ?_
  rw [a2]
  refine va_sld hx hb hX9 hbs hbA hS v2 dL_law_2365 ?_
  rw [c2]
  refine ce_qi (fw := fun u => u) (fy := fun _ => y) (cr_V (n := 2) (As := [.int (xs (j + 1)), .int (xs (j + 2))]) (rest := []) ⟨hx, hb, hml, hown, hts⟩ hK hR (m_X8_ofLot hM hM.mro h) q2546 q2547 q2548 q85 q2549 rfl rfl hd_X8_ofLot ⟨Nat.le_of_ble_eq_true rfl, Nat.le_of_ble_eq_true rfl⟩ (rv hK hR hM.mro (ci := 11) rfl rfl) rfl rfl hl.1 rfl (lv_room (Nat.le_of_ble_eq_true rfl)) dL_law_2366 ⟨(Nat.le_trans (show cells + 2 + 1 ≤ cells + 9300 from by omega) hC), (Nat.le_trans (show slots + 12 + 12 ≤ slots + 100000 from by omega) hSl)⟩) hR hS (fun b9 w2 H1 locs1 h hR _ hS => ?_)
  obtain ⟨e7, e9, h⟩ := h
  refine lv_istore (lv' := [(6, .int b9), (5, .int k9), (0, .ref b), (1, .ref (y.2 0 0)), (2, .ref (y.2 20 0)), (3, .ref oa), (4, .int (nI j))]) hx hb dL_law_2369 hl (by decide) rfl (fun ls hl => ?_)
  refine lv_aload_n hx hb dL_law_2371 rfl (lv_at hl 4 rfl) ?_
  refine ce_qi (fw := fun u => u) (fy := fun _ => y) (cr_V (n := 0) (As := []) (rest := []) ⟨hx, hb, hml, hown, hts⟩ hK hR (m_X8_thrown (post := fun r9 u9 => r9 = gv w2 20 0 0 ∧ u9 = w2) hM hM.mro ⟨rfl, rfl⟩) q2012 q2013 q2014 q85 q2015 rfl rfl hd_X8_thrown ⟨Nat.le_of_ble_eq_true rfl, Nat.le_of_ble_eq_true rfl⟩ (rv hK hR hM.mro (ci := 11) rfl rfl) rfl rfl hl.1 rfl (lv_room (Nat.le_of_ble_eq_true rfl)) dL_law_2372 ⟨(Nat.le_trans (show cells + 2 + 1 + 0 ≤ cells + 9300 from by omega) hC), (Nat.le_trans (show slots + 12 + 12 + 0 ≤ slots + 100000 from by omega) hSl)⟩) hR hS (fun t9 w3 H1 locs1 ht9 hR _ hS => ?_)
  obtain ⟨et9, rfl⟩ := ht9
  rw [et9, e7]
  refine lv_iload hx hb dL_law_2375 (lv_at hl 1 rfl) ?_
  refine lv_icmp_eq (tgt := 2382) hx hb dL_law_2377 (by decide) (fun _ => ?_) (fun c9 => absurd rfl c9)
  refine lv_iload hx hb dL_law_2382 (lv_at hl 1 rfl) ?_
  refine lv_if_ne (tgt := 2400) hx hb dL_law_2384 (by decide) (fun c9 => ?_) (fun c9 => ?_)
  · skip
    refine lv_goto (tgt := 3023) hx hb dL_law_2400 (by decide) ?_
    refine W.widen (k := cells + 9300) (n := slots + 100000) (by omega) (by omega) ?_
    exact kk _ _ _ _ _ _ _ _ h Keeps.rf hR hS (lv_sub (hl) [2, 3, 4, 5, 6] rfl)
  · have c9 : k9 = 0 := by first | exact c9 | exact Decidable.of_not_not c9
    have e9 := e9 c9
    refine lv_aload_n hx hb dL_law_2387 rfl (lv_at hl 5 rfl) ?_
    refine va_getN (host := "PublicanryLaw") (T := TX9) (N := 3) (v := .long n1) hx hb hts in_X9 hown hK.1 (va_P1 (hR.2.2.2.1 _ _ ⟨rfl, rfl⟩).1) 0 rfl rfl 0 (by decide) (va_Nw.use rfl (hK.2.1.2.1 _ (List.mem_of_getElem? (i := 1) rfl))) (fun _ h => h) rfl dL_law_2388 ?_
    refine lv_iload hx hb dL_law_2391 (lv_at hl 0 rfl) ?_
    refine lv_i2l hx hb dL_law_2393 rfl ?_
    refine W.lcmp hx hb dL_law_2394 ?_
    refine lv_if_eq (tgt := 2400) hx hb dL_law_2395 (by decide) (fun _ => ?_) (fun c9 => absurd (by rw [e9]; exact lg_cmp_self _) c9)
    refine lv_goto (tgt := 3023) hx hb dL_law_2400 (by decide) ?_
    refine W.widen (k := cells + 9300) (n := slots + 100000) (by omega) (by omega) ?_
    exact kk _ _ _ _ _ _ _ _ h Keeps.rf hR hS (lv_sub (hl) [2, 3, 4, 5, 6] rfl)
