/-! THE LAW's CASES (printed by wip gen/law.py) -/
set_option maxRecDepth 100000
def sL_16 (κ : Kx) (y : Ly) (post : Wd → Ly → Prop) (n0 : Int64) (w : Wd) (x1 : Int32) (x2 : Int32) : Prop := sp_X0_sue κ y (fun k9 n1 w1 => sp_X8_sue κ y (fun b9 w2 => gv w2 20 0 0 = k9 ∧ (k9 = 0 → n1 = b9.toInt64) ∧ post w2 y) w1 x1 x2) n0 w x1 x2
set_option maxHeartbeats 4000000 in
theorem lc_16 {p : Program} {l : Launch} {e : Env} {s : State} {m : MethodId} {below : List Frame} {meth : Method} {c : Code} {b L : Nat} {xs : Nat → Int32} {κ : Kx} {Q : State → Prop} {w : Wd} {y : Ly} {oa : Nat} {n0 : Int64} {d0 : UInt64} {s0 : Value} {H : Heap} {locs : List Loc} {ls : Array Slot} {cells slots j : Nat} {post : Wd → Ly → Prop} (F : LF p l s m meth c b L xs κ) (hm : mon s.heap (y.2 3 0)) (hR : Rp κ w y (oX oa n0 d0 s0) [] H) (hS : va_S (Af κ) s.heap H locs) (hW : WFc κ y) (hM : WFm κ y) (hl : lv_has ls 8 [(0, .ref b), (1, .ref (y.2 0 0)), (2, .ref (y.2 20 0)), (3, .ref oa), (4, .int (nI j))]) (hj : j + 5 ≤ L) (hC : cells + 9300 ≤ rmL.cells) (hSl : slots + 100000 ≤ rmL.slots) (h : sL_16 κ y post n0 w (xs (j + 1)) (xs (j + 2))) (kk : ∀ (w2 : Wd) (y2 : Ly) (n1 : Int64) (d1 : UInt64) (s1 : Value) (H1 : Heap) (locs1 : List Loc) (ls1 : Array Slot), post w2 y2 → Keeps y y2 → Rp κ w2 y2 (oX oa n1 d1 s1) [] H1 → va_S (Af κ) s.heap H1 locs1 → lv_has ls1 8 [(0, .ref b), (1, .ref (y.2 0 0)), (2, .ref (y.2 20 0)), (3, .ref oa), (4, .int (nI j))] → W p l e rmL s m #[.ref b] below meth c H1 locs1 (cells + 9300) (slots + 100000) Q (F0 m 3023 ls1 [])) : W p l e rmL s m #[.ref b] below meth c H locs cells slots Q (F0 m 1368 ls []) := by
  obtain ⟨hx, hb, hr, hml, hlk, hown, hts, hfl, hK, hPx, hX9, hbl, hz9, hL9⟩ := F
  have hbA : ¬ Af κ b := fun h9 => Nat.lt_irrefl _ (Nat.lt_of_lt_of_le hbl h9)
  have hbs : b < s.heap.size := Nat.lt_of_lt_of_le hbl hz9
  have a1 : nI j + (1 : Int32) = nI (j + 1) := nI_add j 1
  have c1 : (nI (j + 1)).toNatClampNeg = j + 1 := nI_clamp (by omega)
  have v1 : vp_in (nI (j + 1)) L := vp_in_nI (by omega) (by omega)
  have a2 : nI j + (2 : Int32) = nI (j + 2) := nI_add j 2
  have c2 : (nI (j + 2)).toNatClampNeg = j + 2 := nI_clamp (by omega)
  have v2 : vp_in (nI (j + 2)) L := vp_in_nI (by omega) (by omega)
  unfold sL_16 at h
  refine lv_aload_n hx hb dL_law_1368 rfl (lv_at hl 1 rfl) ?_
  refine lv_aload_n hx hb dL_law_1369 rfl (lv_at hl 0 rfl) ?_
  refine lv_iload hx hb dL_law_1370 (lv_at hl 4 rfl) ?_
  refine lv_iconst (v := (1 : Int32)) hx hb dL_law_1372 (by decide) ?_
  refine lv_iadd hx hb dL_law_1373 ?_
  rw [a1]
  refine va_sld hx hb hX9 hbs hbA hS v1 dL_law_1374 ?_
  rw [c1]
  refine lv_aload_n hx hb dL_law_1375 rfl (lv_at hl 0 rfl) ?_
  refine lv_iload hx hb dL_law_1376 (lv_at hl 4 rfl) ?_
  refine lv_iconst (v := (2 : Int32)) hx hb dL_law_1378 (by decide) ?_
  refine lv_iadd hx hb dL_law_1379 ?_
  rw [a2]
  refine va_sld hx hb hX9 hbs hbA hS v2 dL_law_1380 ?_
  rw [c2]
  refine lv_aload_n hx hb dL_law_1381 rfl (lv_at hl 3 rfl) ?_
  refine vx_calli (crx_SW (n := 4) (As := [.ref (y.2 0 0), .int (xs (j + 1)), .int (xs (j + 2)), .ref oa]) (rest := []) ⟨hx, hb, hml, hown, hts⟩ hK hR (m_X0_sue (X := xl (oX oa n0 d0 s0) []) hfl hW hW.pub (Or.inl ⟨rfl, rfl⟩) h) q1423 q1424 q73 q1425 rfl rfl hdL_sue ⟨Nat.le_of_ble_eq_true rfl, Nat.le_of_ble_eq_true rfl⟩ rfl rfl hl.1 rfl (lv_room (Nat.le_of_ble_eq_true rfl)) dL_law_1382 ⟨(Nat.le_trans (show cells + 4 ≤ cells + 9300 from by omega) hC), (Nat.le_trans (show slots + 21 ≤ slots + 100000 from by omega) hSl)⟩) hS (fun _ _ h => h) (fun _ h => h) (fun _ _ h => h) (fun E9 ce9 q9 u t H1 locs1 e1 _ hu => hu.elim) (fun k9 u t H1 locs1 ht _ hp hB hz8 _ hS => ?_)
  obtain ⟨w1, n1⟩ := u
  dsimp only at hp hB
  replace h := hp
  have hR : Rp κ w1 y (oX oa n1 d0 s0) [] H1 := by rw [← ht]; exact hB.wk (fun _ _ h => by obtain ⟨rfl, rfl⟩ := h; exact Or.inl ⟨rfl, rfl⟩)
  refine lv_istore (lv' := [(5, .int k9), (0, .ref b), (1, .ref (y.2 0 0)), (2, .ref (y.2 20 0)), (3, .ref oa), (4, .int (nI j))]) hx hb dL_law_1385 hl (by decide) rfl (fun ls hl => ?_)
  refine lv_aload_n hx hb dL_law_1387 rfl (lv_at hl 3 rfl) ?_
  refine lv_aload_n hx hb dL_law_1388 rfl (lv_at hl 1 rfl) ?_
  refine lv_iload hx hb dL_law_1389 (lv_at hl 5 rfl) ?_
  refine lv_iconst (v := (1 : Int32)) hx hb dL_law_1391 (by decide) ?_
  refine lv_iadd hx hb dL_law_1392 ?_
  rw [a1]
  refine va_sld hx hb hX9 hbs hbA hS v1 dL_law_1393 ?_
  rw [c1]
  refine lv_aload_n hx hb dL_law_1394 rfl (lv_at hl 1 rfl) ?_
  refine lv_iload hx hb dL_law_1395 (lv_at hl 5 rfl) ?_
  refine lv_iconst (v := (2 : Int32)) hx hb dL_law_1397 (by decide) ?_
  refine lv_iadd hx hb dL_law_1398 ?_
  rw [a2]
  refine va_sld hx hb hX9 hbs hbA hS v2 dL_law_1399 ?_
  rw [c2]
  refine ce_qi (fw := fun u => u) (fy := fun _ => y) (cr_V (n := 2) (As := [.int (xs (j + 1)), .int (xs (j + 2))]) (rest := []) ⟨hx, hb, hml, hown, hts⟩ hK hR (m_X8_sue hM hM.mro h) q2355 q2356 q2357 q85 q2358 rfl rfl hd_X8_sue ⟨Nat.le_of_ble_eq_true rfl, Nat.le_of_ble_eq_true rfl⟩ (rv hK hR hM.mro (ci := 11) rfl rfl) rfl rfl hl.1 rfl (lv_room (Nat.le_of_ble_eq_true rfl)) dL_law_1400 ⟨(Nat.le_trans (show cells + 4 + 0 ≤ cells + 9300 from by omega) hC), (Nat.le_trans (show slots + 21 + 0 ≤ slots + 100000 from by omega) hSl)⟩) hR hS (fun b9 w2 H1 locs1 h hR _ hS => ?_)
  obtain ⟨e7, e9, h⟩ := h
  refine lv_istore (lv' := [(6, .int b9), (5, .int k9), (0, .ref b), (1, .ref (y.2 0 0)), (2, .ref (y.2 20 0)), (3, .ref oa), (4, .int (nI j))]) hx hb dL_law_1403 hl (by decide) rfl (fun ls hl => ?_)
  refine lv_aload_n hx hb dL_law_1405 rfl (lv_at hl 4 rfl) ?_
  refine ce_qi (fw := fun u => u) (fy := fun _ => y) (cr_V (n := 0) (As := []) (rest := []) ⟨hx, hb, hml, hown, hts⟩ hK hR (m_X8_thrown (post := fun r9 u9 => r9 = gv w2 20 0 0 ∧ u9 = w2) hM hM.mro ⟨rfl, rfl⟩) q2012 q2013 q2014 q85 q2015 rfl rfl hd_X8_thrown ⟨Nat.le_of_ble_eq_true rfl, Nat.le_of_ble_eq_true rfl⟩ (rv hK hR hM.mro (ci := 11) rfl rfl) rfl rfl hl.1 rfl (lv_room (Nat.le_of_ble_eq_true rfl)) dL_law_1406 ⟨(Nat.le_trans (show cells + 4 + 0 + 0 ≤ cells + 9300 from by omega) hC), (Nat.le_trans (show slots + 21 + 0 + 0 ≤ slots + 100000 from by omega) hSl)⟩) hR hS (fun t9 w3 H1 locs1 ht9 hR _ hS => ?_)
  obtain ⟨et9, rfl⟩ := ht9
  rw [et9, e7]
  refine lv_iload hx hb dL_law_1409 (lv_at hl 1 rfl) ?_
  refine lv_icmp_eq (tgt := 1416) hx hb dL_law_1411 (by decide) (fun _ => ?_) (fun c9 => absurd rfl c9)
  refine lv_iload hx hb dL_law_1416 (lv_at hl 1 rfl) ?_
  refine lv_if_ne (tgt := 1434) hx hb dL_law_1418 (by decide) (fun c9 => ?_) (fun c9 => ?_)
  · skip
    refine lv_goto (tgt := 3023) hx hb dL_law_1434 (by decide) ?_
    refine W.widen (k := cells + 9300) (n := slots + 100000) (by omega) (by omega) ?_
    exact kk _ _ _ _ _ _ _ _ h Keeps.rf hR hS (lv_sub (hl) [2, 3, 4, 5, 6] rfl)
  · have c9 : k9 = 0 := by first | exact c9 | exact Decidable.of_not_not c9
    have e9 := e9 c9
    refine lv_aload_n hx hb dL_law_1421 rfl (lv_at hl 5 rfl) ?_
    refine va_getN (host := "PublicanryLaw") (T := TX9) (N := 3) (v := .long n1) hx hb hts in_X9 hown hK.1 (va_P1 (hR.2.2.2.1 _ _ ⟨rfl, rfl⟩).1) 0 rfl rfl 0 (by decide) (va_Nw.use rfl (hK.2.1.2.1 _ (List.mem_of_getElem? (i := 1) rfl))) (fun _ h => h) rfl dL_law_1422 ?_
    refine lv_iload hx hb dL_law_1425 (lv_at hl 0 rfl) ?_
    refine lv_i2l hx hb dL_law_1427 rfl ?_
    refine W.lcmp hx hb dL_law_1428 ?_
    refine lv_if_eq (tgt := 1434) hx hb dL_law_1429 (by decide) (fun _ => ?_) (fun c9 => absurd (by rw [e9]; exact lg_cmp_self _) c9)
    refine lv_goto (tgt := 3023) hx hb dL_law_1434 (by decide) ?_
    refine W.widen (k := cells + 9300) (n := slots + 100000) (by omega) (by omega) ?_
    exact kk _ _ _ _ _ _ _ _ h Keeps.rf hR hS (lv_sub (hl) [2, 3, 4, 5, 6] rfl)
def sL_17 (κ : Kx) (y : Ly) (post : Wd → Ly → Prop) (n0 : Int64) (w : Wd) (x1 : Int32) : Prop := sp_X0_bench κ y (fun k9 n1 w1 => sp_X8_bench κ y (fun b9 w2 => gv w2 20 0 0 = k9 ∧ (k9 = 0 → n1 = b9.toInt64) ∧ post w2 y) w1 x1) n0 w x1
set_option maxHeartbeats 4000000 in
theorem lc_17 {p : Program} {l : Launch} {e : Env} {s : State} {m : MethodId} {below : List Frame} {meth : Method} {c : Code} {b L : Nat} {xs : Nat → Int32} {κ : Kx} {Q : State → Prop} {w : Wd} {y : Ly} {oa : Nat} {n0 : Int64} {d0 : UInt64} {s0 : Value} {H : Heap} {locs : List Loc} {ls : Array Slot} {cells slots j : Nat} {post : Wd → Ly → Prop} (F : LF p l s m meth c b L xs κ) (hm : mon s.heap (y.2 3 0)) (hR : Rp κ w y (oX oa n0 d0 s0) [] H) (hS : va_S (Af κ) s.heap H locs) (hW : WFc κ y) (hM : WFm κ y) (hl : lv_has ls 8 [(0, .ref b), (1, .ref (y.2 0 0)), (2, .ref (y.2 20 0)), (3, .ref oa), (4, .int (nI j))]) (hj : j + 5 ≤ L) (hC : cells + 9300 ≤ rmL.cells) (hSl : slots + 100000 ≤ rmL.slots) (h : sL_17 κ y post n0 w (xs (j + 1))) (kk : ∀ (w2 : Wd) (y2 : Ly) (n1 : Int64) (d1 : UInt64) (s1 : Value) (H1 : Heap) (locs1 : List Loc) (ls1 : Array Slot), post w2 y2 → Keeps y y2 → Rp κ w2 y2 (oX oa n1 d1 s1) [] H1 → va_S (Af κ) s.heap H1 locs1 → lv_has ls1 8 [(0, .ref b), (1, .ref (y.2 0 0)), (2, .ref (y.2 20 0)), (3, .ref oa), (4, .int (nI j))] → W p l e rmL s m #[.ref b] below meth c H1 locs1 (cells + 9300) (slots + 100000) Q (F0 m 3023 ls1 [])) : W p l e rmL s m #[.ref b] below meth c H locs cells slots Q (F0 m 1437 ls []) := by
  obtain ⟨hx, hb, hr, hml, hlk, hown, hts, hfl, hK, hPx, hX9, hbl, hz9, hL9⟩ := F
  have hbA : ¬ Af κ b := fun h9 => Nat.lt_irrefl _ (Nat.lt_of_lt_of_le hbl h9)
  have hbs : b < s.heap.size := Nat.lt_of_lt_of_le hbl hz9
  have a1 : nI j + (1 : Int32) = nI (j + 1) := nI_add j 1
  have c1 : (nI (j + 1)).toNatClampNeg = j + 1 := nI_clamp (by omega)
  have v1 : vp_in (nI (j + 1)) L := vp_in_nI (by omega) (by omega)
  unfold sL_17 at h
  refine lv_aload_n hx hb dL_law_1437 rfl (lv_at hl 1 rfl) ?_
  refine lv_aload_n hx hb dL_law_1438 rfl (lv_at hl 0 rfl) ?_
  refine lv_iload hx hb dL_law_1439 (lv_at hl 4 rfl) ?_
  refine lv_iconst (v := (1 : Int32)) hx hb dL_law_1441 (by decide) ?_
  refine lv_iadd hx hb dL_law_1442 ?_
  rw [a1]
  refine va_sld hx hb hX9 hbs hbA hS v1 dL_law_1443 ?_
  rw [c1]
  refine lv_aload_n hx hb dL_law_1444 rfl (lv_at hl 3 rfl) ?_
  refine vx_calli (crx_SW (n := 3) (As := [.ref (y.2 0 0), .int (xs (j + 1)), .ref oa]) (rest := []) ⟨hx, hb, hml, hown, hts⟩ hK hR (m_X0_bench (X := xl (oX oa n0 d0 s0) []) hfl hW hW.pub (Or.inl ⟨rfl, rfl⟩) h) q1450 q1451 q73 q1452 rfl rfl hdL_bench ⟨Nat.le_of_ble_eq_true rfl, Nat.le_of_ble_eq_true rfl⟩ rfl rfl hl.1 rfl (lv_room (Nat.le_of_ble_eq_true rfl)) dL_law_1445 ⟨(Nat.le_trans (show cells + 1 ≤ cells + 9300 from by omega) hC), (Nat.le_trans (show slots + 6 ≤ slots + 100000 from by omega) hSl)⟩) hS (fun _ _ h => h) (fun _ h => h) (fun _ _ h => h) (fun E9 ce9 q9 u t H1 locs1 e1 _ hu => hu.elim) (fun k9 u t H1 locs1 ht _ hp hB hz8 _ hS => ?_)
  obtain ⟨w1, n1⟩ := u
  dsimp only at hp hB
  replace h := hp
  have hR : Rp κ w1 y (oX oa n1 d0 s0) [] H1 := by rw [← ht]; exact hB.wk (fun _ _ h => by obtain ⟨rfl, rfl⟩ := h; exact Or.inl ⟨rfl, rfl⟩)
  refine lv_istore (lv' := [(5, .int k9), (0, .ref b), (1, .ref (y.2 0 0)), (2, .ref (y.2 20 0)), (3, .ref oa), (4, .int (nI j))]) hx hb dL_law_1448 hl (by decide) rfl (fun ls hl => ?_)
  refine lv_aload_n hx hb dL_law_1450 rfl (lv_at hl 3 rfl) ?_
  refine lv_aload_n hx hb dL_law_1451 rfl (lv_at hl 1 rfl) ?_
  refine lv_iload hx hb dL_law_1452 (lv_at hl 5 rfl) ?_
  refine lv_iconst (v := (1 : Int32)) hx hb dL_law_1454 (by decide) ?_
  refine lv_iadd hx hb dL_law_1455 ?_
  rw [a1]
  refine va_sld hx hb hX9 hbs hbA hS v1 dL_law_1456 ?_
  rw [c1]
  refine ce_qi (fw := fun u => u) (fy := fun _ => y) (cr_V (n := 1) (As := [.int (xs (j + 1))]) (rest := []) ⟨hx, hb, hml, hown, hts⟩ hK hR (m_X8_bench hM hM.mro h) q2373 q2374 q2375 q85 q2376 rfl rfl hd_X8_bench ⟨Nat.le_of_ble_eq_true rfl, Nat.le_of_ble_eq_true rfl⟩ (rv hK hR hM.mro (ci := 11) rfl rfl) rfl rfl hl.1 rfl (lv_room (Nat.le_of_ble_eq_true rfl)) dL_law_1457 ⟨(Nat.le_trans (show cells + 1 + 0 ≤ cells + 9300 from by omega) hC), (Nat.le_trans (show slots + 6 + 0 ≤ slots + 100000 from by omega) hSl)⟩) hR hS (fun b9 w2 H1 locs1 h hR _ hS => ?_)
  obtain ⟨e7, e9, h⟩ := h
  refine lv_istore (lv' := [(6, .int b9), (5, .int k9), (0, .ref b), (1, .ref (y.2 0 0)), (2, .ref (y.2 20 0)), (3, .ref oa), (4, .int (nI j))]) hx hb dL_law_1460 hl (by decide) rfl (fun ls hl => ?_)
  refine lv_aload_n hx hb dL_law_1462 rfl (lv_at hl 4 rfl) ?_
  refine ce_qi (fw := fun u => u) (fy := fun _ => y) (cr_V (n := 0) (As := []) (rest := []) ⟨hx, hb, hml, hown, hts⟩ hK hR (m_X8_thrown (post := fun r9 u9 => r9 = gv w2 20 0 0 ∧ u9 = w2) hM hM.mro ⟨rfl, rfl⟩) q2012 q2013 q2014 q85 q2015 rfl rfl hd_X8_thrown ⟨Nat.le_of_ble_eq_true rfl, Nat.le_of_ble_eq_true rfl⟩ (rv hK hR hM.mro (ci := 11) rfl rfl) rfl rfl hl.1 rfl (lv_room (Nat.le_of_ble_eq_true rfl)) dL_law_1463 ⟨(Nat.le_trans (show cells + 1 + 0 + 0 ≤ cells + 9300 from by omega) hC), (Nat.le_trans (show slots + 6 + 0 + 0 ≤ slots + 100000 from by omega) hSl)⟩) hR hS (fun t9 w3 H1 locs1 ht9 hR _ hS => ?_)
  obtain ⟨et9, rfl⟩ := ht9
  rw [et9, e7]
  refine lv_iload hx hb dL_law_1466 (lv_at hl 1 rfl) ?_
  refine lv_icmp_eq (tgt := 1473) hx hb dL_law_1468 (by decide) (fun _ => ?_) (fun c9 => absurd rfl c9)
  refine lv_iload hx hb dL_law_1473 (lv_at hl 1 rfl) ?_
  refine lv_if_ne (tgt := 1491) hx hb dL_law_1475 (by decide) (fun c9 => ?_) (fun c9 => ?_)
  · skip
    refine lv_goto (tgt := 3023) hx hb dL_law_1491 (by decide) ?_
    refine W.widen (k := cells + 9300) (n := slots + 100000) (by omega) (by omega) ?_
    exact kk _ _ _ _ _ _ _ _ h Keeps.rf hR hS (lv_sub (hl) [2, 3, 4, 5, 6] rfl)
  · have c9 : k9 = 0 := by first | exact c9 | exact Decidable.of_not_not c9
    have e9 := e9 c9
    refine lv_aload_n hx hb dL_law_1478 rfl (lv_at hl 5 rfl) ?_
    refine va_getN (host := "PublicanryLaw") (T := TX9) (N := 3) (v := .long n1) hx hb hts in_X9 hown hK.1 (va_P1 (hR.2.2.2.1 _ _ ⟨rfl, rfl⟩).1) 0 rfl rfl 0 (by decide) (va_Nw.use rfl (hK.2.1.2.1 _ (List.mem_of_getElem? (i := 1) rfl))) (fun _ h => h) rfl dL_law_1479 ?_
    refine lv_iload hx hb dL_law_1482 (lv_at hl 0 rfl) ?_
    refine lv_i2l hx hb dL_law_1484 rfl ?_
    refine W.lcmp hx hb dL_law_1485 ?_
    refine lv_if_eq (tgt := 1491) hx hb dL_law_1486 (by decide) (fun _ => ?_) (fun c9 => absurd (by rw [e9]; exact lg_cmp_self _) c9)
    refine lv_goto (tgt := 3023) hx hb dL_law_1491 (by decide) ?_
    refine W.widen (k := cells + 9300) (n := slots + 100000) (by omega) (by omega) ?_
    exact kk _ _ _ _ _ _ _ _ h Keeps.rf hR hS (lv_sub (hl) [2, 3, 4, 5, 6] rfl)
def sL_18 (κ : Kx) (y : Ly) (post : Wd → Ly → Prop) (n0 : Int64) (w : Wd) (x1 : Int32) (x2 : Int32) : Prop := sp_X0_gift κ y (fun k9 n1 w1 => sp_X8_gift κ y (fun b9 w2 => gv w2 20 0 0 = k9 ∧ (k9 = 0 → n1 = b9.toInt64) ∧ post w2 y) w1 x1 x2) n0 w x1 x2
set_option maxHeartbeats 4000000 in
theorem lc_18 {p : Program} {l : Launch} {e : Env} {s : State} {m : MethodId} {below : List Frame} {meth : Method} {c : Code} {b L : Nat} {xs : Nat → Int32} {κ : Kx} {Q : State → Prop} {w : Wd} {y : Ly} {oa : Nat} {n0 : Int64} {d0 : UInt64} {s0 : Value} {H : Heap} {locs : List Loc} {ls : Array Slot} {cells slots j : Nat} {post : Wd → Ly → Prop} (F : LF p l s m meth c b L xs κ) (hm : mon s.heap (y.2 3 0)) (hR : Rp κ w y (oX oa n0 d0 s0) [] H) (hS : va_S (Af κ) s.heap H locs) (hW : WFc κ y) (hM : WFm κ y) (hl : lv_has ls 8 [(0, .ref b), (1, .ref (y.2 0 0)), (2, .ref (y.2 20 0)), (3, .ref oa), (4, .int (nI j))]) (hj : j + 5 ≤ L) (hC : cells + 9300 ≤ rmL.cells) (hSl : slots + 100000 ≤ rmL.slots) (h : sL_18 κ y post n0 w (xs (j + 1)) (xs (j + 2))) (kk : ∀ (w2 : Wd) (y2 : Ly) (n1 : Int64) (d1 : UInt64) (s1 : Value) (H1 : Heap) (locs1 : List Loc) (ls1 : Array Slot), post w2 y2 → Keeps y y2 → Rp κ w2 y2 (oX oa n1 d1 s1) [] H1 → va_S (Af κ) s.heap H1 locs1 → lv_has ls1 8 [(0, .ref b), (1, .ref (y.2 0 0)), (2, .ref (y.2 20 0)), (3, .ref oa), (4, .int (nI j))] → W p l e rmL s m #[.ref b] below meth c H1 locs1 (cells + 9300) (slots + 100000) Q (F0 m 3023 ls1 [])) : W p l e rmL s m #[.ref b] below meth c H locs cells slots Q (F0 m 1494 ls []) := by
  obtain ⟨hx, hb, hr, hml, hlk, hown, hts, hfl, hK, hPx, hX9, hbl, hz9, hL9⟩ := F
  have hbA : ¬ Af κ b := fun h9 => Nat.lt_irrefl _ (Nat.lt_of_lt_of_le hbl h9)
  have hbs : b < s.heap.size := Nat.lt_of_lt_of_le hbl hz9
  have a1 : nI j + (1 : Int32) = nI (j + 1) := nI_add j 1
  have c1 : (nI (j + 1)).toNatClampNeg = j + 1 := nI_clamp (by omega)
  have v1 : vp_in (nI (j + 1)) L := vp_in_nI (by omega) (by omega)
  have a2 : nI j + (2 : Int32) = nI (j + 2) := nI_add j 2
  have c2 : (nI (j + 2)).toNatClampNeg = j + 2 := nI_clamp (by omega)
  have v2 : vp_in (nI (j + 2)) L := vp_in_nI (by omega) (by omega)
  unfold sL_18 at h
  refine lv_aload_n hx hb dL_law_1494 rfl (lv_at hl 1 rfl) ?_
  refine lv_aload_n hx hb dL_law_1495 rfl (lv_at hl 0 rfl) ?_
  refine lv_iload hx hb dL_law_1496 (lv_at hl 4 rfl) ?_
  refine lv_iconst (v := (1 : Int32)) hx hb dL_law_1498 (by decide) ?_
  refine lv_iadd hx hb dL_law_1499 ?_
  rw [a1]
  refine va_sld hx hb hX9 hbs hbA hS v1 dL_law_1500 ?_
  rw [c1]
  refine lv_aload_n hx hb dL_law_1501 rfl (lv_at hl 0 rfl) ?_
  refine lv_iload hx hb dL_law_1502 (lv_at hl 4 rfl) ?_
  refine lv_iconst (v := (2 : Int32)) hx hb dL_law_1504 (by decide) ?_
  refine lv_iadd hx hb dL_law_1505 ?_
  rw [a2]
  refine va_sld hx hb hX9 hbs hbA hS v2 dL_law_1506 ?_
  rw [c2]
  refine lv_aload_n hx hb dL_law_1507 rfl (lv_at hl 3 rfl) ?_
  refine vx_calli (crx_SW (n := 4) (As := [.ref (y.2 0 0), .int (xs (j + 1)), .int (xs (j + 2)), .ref oa]) (rest := []) ⟨hx, hb, hml, hown, hts⟩ hK hR (m_X0_gift (X := xl (oX oa n0 d0 s0) []) hfl hW hW.pub (Or.inl ⟨rfl, rfl⟩) h) q1458 q1459 q73 q1460 rfl rfl hdL_gift ⟨Nat.le_of_ble_eq_true rfl, Nat.le_of_ble_eq_true rfl⟩ rfl rfl hl.1 rfl (lv_room (Nat.le_of_ble_eq_true rfl)) dL_law_1508 ⟨(Nat.le_trans (show cells + 3 ≤ cells + 9300 from by omega) hC), (Nat.le_trans (show slots + 18 ≤ slots + 100000 from by omega) hSl)⟩) hS (fun _ _ h => h) (fun _ h => h) (fun _ _ h => h) (fun E9 ce9 q9 u t H1 locs1 e1 _ hu => hu.elim) (fun k9 u t H1 locs1 ht _ hp hB hz8 _ hS => ?_)
  obtain ⟨w1, n1⟩ := u
  dsimp only at hp hB
  replace h := hp
  have hR : Rp κ w1 y (oX oa n1 d0 s0) [] H1 := by rw [← ht]; exact hB.wk (fun _ _ h => by obtain ⟨rfl, rfl⟩ := h; exact Or.inl ⟨rfl, rfl⟩)
  refine lv_istore (lv' := [(5, .int k9), (0, .ref b), (1, .ref (y.2 0 0)), (2, .ref (y.2 20 0)), (3, .ref oa), (4, .int (nI j))]) hx hb dL_law_1511 hl (by decide) rfl (fun ls hl => ?_)
  refine lv_aload_n hx hb dL_law_1513 rfl (lv_at hl 3 rfl) ?_
  refine lv_aload_n hx hb dL_law_1514 rfl (lv_at hl 1 rfl) ?_
  refine lv_iload hx hb dL_law_1515 (lv_at hl 5 rfl) ?_
  refine lv_iconst (v := (1 : Int32)) hx hb dL_law_1517 (by decide) ?_
  refine lv_iadd hx hb dL_law_1518 ?_
  rw [a1]
  refine va_sld hx hb hX9 hbs hbA hS v1 dL_law_1519 ?_
  rw [c1]
  refine lv_aload_n hx hb dL_law_1520 rfl (lv_at hl 1 rfl) ?_
  refine lv_iload hx hb dL_law_1521 (lv_at hl 5 rfl) ?_
  refine lv_iconst (v := (2 : Int32)) hx hb dL_law_1523 (by decide) ?_
  refine lv_iadd hx hb dL_law_1524 ?_
  rw [a2]
  refine va_sld hx hb hX9 hbs hbA hS v2 dL_law_1525 ?_
  rw [c2]
  refine ce_qi (fw := fun u => u) (fy := fun _ => y) (cr_V (n := 2) (As := [.int (xs (j + 1)), .int (xs (j + 2))]) (rest := []) ⟨hx, hb, hml, hown, hts⟩ hK hR (m_X8_gift hM hM.mro h) q2377 q2378 q2379 q85 q2380 rfl rfl hd_X8_gift ⟨Nat.le_of_ble_eq_true rfl, Nat.le_of_ble_eq_true rfl⟩ (rv hK hR hM.mro (ci := 11) rfl rfl) rfl rfl hl.1 rfl (lv_room (Nat.le_of_ble_eq_true rfl)) dL_law_1526 ⟨(Nat.le_trans (show cells + 3 + 0 ≤ cells + 9300 from by omega) hC), (Nat.le_trans (show slots + 18 + 0 ≤ slots + 100000 from by omega) hSl)⟩) hR hS (fun b9 w2 H1 locs1 h hR _ hS => ?_)
  obtain ⟨e7, e9, h⟩ := h
  refine lv_istore (lv' := [(6, .int b9), (5, .int k9), (0, .ref b), (1, .ref (y.2 0 0)), (2, .ref (y.2 20 0)), (3, .ref oa), (4, .int (nI j))]) hx hb dL_law_1529 hl (by decide) rfl (fun ls hl => ?_)
  refine lv_aload_n hx hb dL_law_1531 rfl (lv_at hl 4 rfl) ?_
  refine ce_qi (fw := fun u => u) (fy := fun _ => y) (cr_V (n := 0) (As := []) (rest := []) ⟨hx, hb, hml, hown, hts⟩ hK hR (m_X8_thrown (post := fun r9 u9 => r9 = gv w2 20 0 0 ∧ u9 = w2) hM hM.mro ⟨rfl, rfl⟩) q2012 q2013 q2014 q85 q2015 rfl rfl hd_X8_thrown ⟨Nat.le_of_ble_eq_true rfl, Nat.le_of_ble_eq_true rfl⟩ (rv hK hR hM.mro (ci := 11) rfl rfl) rfl rfl hl.1 rfl (lv_room (Nat.le_of_ble_eq_true rfl)) dL_law_1532 ⟨(Nat.le_trans (show cells + 3 + 0 + 0 ≤ cells + 9300 from by omega) hC), (Nat.le_trans (show slots + 18 + 0 + 0 ≤ slots + 100000 from by omega) hSl)⟩) hR hS (fun t9 w3 H1 locs1 ht9 hR _ hS => ?_)
  obtain ⟨et9, rfl⟩ := ht9
  rw [et9, e7]
  refine lv_iload hx hb dL_law_1535 (lv_at hl 1 rfl) ?_
  refine lv_icmp_eq (tgt := 1542) hx hb dL_law_1537 (by decide) (fun _ => ?_) (fun c9 => absurd rfl c9)
  refine lv_iload hx hb dL_law_1542 (lv_at hl 1 rfl) ?_
  refine lv_if_ne (tgt := 1560) hx hb dL_law_1544 (by decide) (fun c9 => ?_) (fun c9 => ?_)
  · skip
    refine lv_goto (tgt := 3023) hx hb dL_law_1560 (by decide) ?_
    refine W.widen (k := cells + 9300) (n := slots + 100000) (by omega) (by omega) ?_
    exact kk _ _ _ _ _ _ _ _ h Keeps.rf hR hS (lv_sub (hl) [2, 3, 4, 5, 6] rfl)
  · have c9 : k9 = 0 := by first | exact c9 | exact Decidable.of_not_not c9
    have e9 := e9 c9
    refine lv_aload_n hx hb dL_law_1547 rfl (lv_at hl 5 rfl) ?_
    refine va_getN (host := "PublicanryLaw") (T := TX9) (N := 3) (v := .long n1) hx hb hts in_X9 hown hK.1 (va_P1 (hR.2.2.2.1 _ _ ⟨rfl, rfl⟩).1) 0 rfl rfl 0 (by decide) (va_Nw.use rfl (hK.2.1.2.1 _ (List.mem_of_getElem? (i := 1) rfl))) (fun _ h => h) rfl dL_law_1548 ?_
    refine lv_iload hx hb dL_law_1551 (lv_at hl 0 rfl) ?_
    refine lv_i2l hx hb dL_law_1553 rfl ?_
    refine W.lcmp hx hb dL_law_1554 ?_
    refine lv_if_eq (tgt := 1560) hx hb dL_law_1555 (by decide) (fun _ => ?_) (fun c9 => absurd (by rw [e9]; exact lg_cmp_self _) c9)
    refine lv_goto (tgt := 3023) hx hb dL_law_1560 (by decide) ?_
    refine W.widen (k := cells + 9300) (n := slots + 100000) (by omega) (by omega) ?_
    exact kk _ _ _ _ _ _ _ _ h Keeps.rf hR hS (lv_sub (hl) [2, 3, 4, 5, 6] rfl)
def sL_19 (κ : Kx) (y : Ly) (post : Wd → Ly → Prop) (n0 : Int64) (w : Wd) (x1 : Int32) : Prop := sp_X0_quarter κ y (fun k9 n1 w1 => sp_X8_quarter κ y (fun b9 w2 => gv w2 20 0 0 = k9 ∧ (k9 = 0 → n1 = b9.toInt64) ∧ post w2 y) w1 x1) n0 w x1
set_option maxHeartbeats 4000000 in
theorem lc_19 {p : Program} {l : Launch} {e : Env} {s : State} {m : MethodId} {below : List Frame} {meth : Method} {c : Code} {b L : Nat} {xs : Nat → Int32} {κ : Kx} {Q : State → Prop} {w : Wd} {y : Ly} {oa : Nat} {n0 : Int64} {d0 : UInt64} {s0 : Value} {H : Heap} {locs : List Loc} {ls : Array Slot} {cells slots j : Nat} {post : Wd → Ly → Prop} (F : LF p l s m meth c b L xs κ) (hm : mon s.heap (y.2 3 0)) (hR : Rp κ w y (oX oa n0 d0 s0) [] H) (hS : va_S (Af κ) s.heap H locs) (hW : WFc κ y) (hM : WFm κ y) (hl : lv_has ls 8 [(0, .ref b), (1, .ref (y.2 0 0)), (2, .ref (y.2 20 0)), (3, .ref oa), (4, .int (nI j))]) (hj : j + 5 ≤ L) (hC : cells + 9300 ≤ rmL.cells) (hSl : slots + 100000 ≤ rmL.slots) (h : sL_19 κ y post n0 w (xs (j + 1))) (kk : ∀ (w2 : Wd) (y2 : Ly) (n1 : Int64) (d1 : UInt64) (s1 : Value) (H1 : Heap) (locs1 : List Loc) (ls1 : Array Slot), post w2 y2 → Keeps y y2 → Rp κ w2 y2 (oX oa n1 d1 s1) [] H1 → va_S (Af κ) s.heap H1 locs1 → lv_has ls1 8 [(0, .ref b), (1, .ref (y.2 0 0)), (2, .ref (y.2 20 0)), (3, .ref oa), (4, .int (nI j))] → W p l e rmL s m #[.ref b] below meth c H1 locs1 (cells + 9300) (slots + 100000) Q (F0 m 3023 ls1 [])) : W p l e rmL s m #[.ref b] below meth c H locs cells slots Q (F0 m 1563 ls []) := by
  obtain ⟨hx, hb, hr, hml, hlk, hown, hts, hfl, hK, hPx, hX9, hbl, hz9, hL9⟩ := F
  have hbA : ¬ Af κ b := fun h9 => Nat.lt_irrefl _ (Nat.lt_of_lt_of_le hbl h9)
  have hbs : b < s.heap.size := Nat.lt_of_lt_of_le hbl hz9
  have a1 : nI j + (1 : Int32) = nI (j + 1) := nI_add j 1
  have c1 : (nI (j + 1)).toNatClampNeg = j + 1 := nI_clamp (by omega)
  have v1 : vp_in (nI (j + 1)) L := vp_in_nI (by omega) (by omega)
  unfold sL_19 at h
  refine lv_aload_n hx hb dL_law_1563 rfl (lv_at hl 1 rfl) ?_
  refine lv_aload_n hx hb dL_law_1564 rfl (lv_at hl 0 rfl) ?_
  refine lv_iload hx hb dL_law_1565 (lv_at hl 4 rfl) ?_
  refine lv_iconst (v := (1 : Int32)) hx hb dL_law_1567 (by decide) ?_
  refine lv_iadd hx hb dL_law_1568 ?_
  rw [a1]
  refine va_sld hx hb hX9 hbs hbA hS v1 dL_law_1569 ?_
  rw [c1]
  refine lv_aload_n hx hb dL_law_1570 rfl (lv_at hl 3 rfl) ?_
  refine vx_calli (crx_SW (n := 3) (As := [.ref (y.2 0 0), .int (xs (j + 1)), .ref oa]) (rest := []) ⟨hx, hb, hml, hown, hts⟩ hK hR (m_X0_quarter (X := xl (oX oa n0 d0 s0) []) hfl hW hW.pub (Or.inl ⟨rfl, rfl⟩) h) q1465 q1466 q73 q1467 rfl rfl hdL_quarter ⟨Nat.le_of_ble_eq_true rfl, Nat.le_of_ble_eq_true rfl⟩ rfl rfl hl.1 rfl (lv_room (Nat.le_of_ble_eq_true rfl)) dL_law_1571 ⟨(Nat.le_trans (show cells + 1 ≤ cells + 9300 from by omega) hC), (Nat.le_trans (show slots + 6 ≤ slots + 100000 from by omega) hSl)⟩) hS (fun _ _ h => h) (fun _ h => h) (fun _ _ h => h) (fun E9 ce9 q9 u t H1 locs1 e1 _ hu => hu.elim) (fun k9 u t H1 locs1 ht _ hp hB hz8 _ hS => ?_)
  obtain ⟨w1, n1⟩ := u
  dsimp only at hp hB
  replace h := hp
  have hR : Rp κ w1 y (oX oa n1 d0 s0) [] H1 := by rw [← ht]; exact hB.wk (fun _ _ h => by obtain ⟨rfl, rfl⟩ := h; exact Or.inl ⟨rfl, rfl⟩)
  refine lv_istore (lv' := [(5, .int k9), (0, .ref b), (1, .ref (y.2 0 0)), (2, .ref (y.2 20 0)), (3, .ref oa), (4, .int (nI j))]) hx hb dL_law_1574 hl (by decide) rfl (fun ls hl => ?_)
  refine lv_aload_n hx hb dL_law_1576 rfl (lv_at hl 3 rfl) ?_
  refine lv_aload_n hx hb dL_law_1577 rfl (lv_at hl 1 rfl) ?_
  refine lv_iload hx hb dL_law_1578 (lv_at hl 5 rfl) ?_
  refine lv_iconst (v := (1 : Int32)) hx hb dL_law_1580 (by decide) ?_
  refine lv_iadd hx hb dL_law_1581 ?_
  rw [a1]
  refine va_sld hx hb hX9 hbs hbA hS v1 dL_law_1582 ?_
  rw [c1]
  refine ce_qi (fw := fun u => u) (fy := fun _ => y) (cr_V (n := 1) (As := [.int (xs (j + 1))]) (rest := []) ⟨hx, hb, hml, hown, hts⟩ hK hR (m_X8_quarter hM hM.mro h) q2381 q2382 q2383 q85 q2384 rfl rfl hd_X8_quarter ⟨Nat.le_of_ble_eq_true rfl, Nat.le_of_ble_eq_true rfl⟩ (rv hK hR hM.mro (ci := 11) rfl rfl) rfl rfl hl.1 rfl (lv_room (Nat.le_of_ble_eq_true rfl)) dL_law_1583 ⟨(Nat.le_trans (show cells + 1 + 0 ≤ cells + 9300 from by omega) hC), (Nat.le_trans (show slots + 6 + 0 ≤ slots + 100000 from by omega) hSl)⟩) hR hS (fun b9 w2 H1 locs1 h hR _ hS => ?_)
  obtain ⟨e7, e9, h⟩ := h
  refine lv_istore (lv' := [(6, .int b9), (5, .int k9), (0, .ref b), (1, .ref (y.2 0 0)), (2, .ref (y.2 20 0)), (3, .ref oa), (4, .int (nI j))]) hx hb dL_law_1586 hl (by decide) rfl (fun ls hl => ?_)
  refine lv_aload_n hx hb dL_law_1588 rfl (lv_at hl 4 rfl) ?_
  refine ce_qi (fw := fun u => u) (fy := fun _ => y) (cr_V (n := 0) (As := []) (rest := []) ⟨hx, hb, hml, hown, hts⟩ hK hR (m_X8_thrown (post := fun r9 u9 => r9 = gv w2 20 0 0 ∧ u9 = w2) hM hM.mro ⟨rfl, rfl⟩) q2012 q2013 q2014 q85 q2015 rfl rfl hd_X8_thrown ⟨Nat.le_of_ble_eq_true rfl, Nat.le_of_ble_eq_true rfl⟩ (rv hK hR hM.mro (ci := 11) rfl rfl) rfl rfl hl.1 rfl (lv_room (Nat.le_of_ble_eq_true rfl)) dL_law_1589 ⟨(Nat.le_trans (show cells + 1 + 0 + 0 ≤ cells + 9300 from by omega) hC), (Nat.le_trans (show slots + 6 + 0 + 0 ≤ slots + 100000 from by omega) hSl)⟩) hR hS (fun t9 w3 H1 locs1 ht9 hR _ hS => ?_)
  obtain ⟨et9, rfl⟩ := ht9
  rw [et9, e7]
  refine lv_iload hx hb dL_law_1592 (lv_at hl 1 rfl) ?_
  refine lv_icmp_eq (tgt := 1599) hx hb dL_law_1594 (by decide) (fun _ => ?_) (fun c9 => absurd rfl c9)
  refine lv_iload hx hb dL_law_1599 (lv_at hl 1 rfl) ?_
  refine lv_if_ne (tgt := 1617) hx hb dL_law_1601 (by decide) (fun c9 => ?_) (fun c9 => ?_)
  · skip
    refine lv_goto (tgt := 3023) hx hb dL_law_1617 (by decide) ?_
    refine W.widen (k := cells + 9300) (n := slots + 100000) (by omega) (by omega) ?_
    exact kk _ _ _ _ _ _ _ _ h Keeps.rf hR hS (lv_sub (hl) [2, 3, 4, 5, 6] rfl)
  · have c9 : k9 = 0 := by first | exact c9 | exact Decidable.of_not_not c9
    have e9 := e9 c9
    refine lv_aload_n hx hb dL_law_1604 rfl (lv_at hl 5 rfl) ?_
    refine va_getN (host := "PublicanryLaw") (T := TX9) (N := 3) (v := .long n1) hx hb hts in_X9 hown hK.1 (va_P1 (hR.2.2.2.1 _ _ ⟨rfl, rfl⟩).1) 0 rfl rfl 0 (by decide) (va_Nw.use rfl (hK.2.1.2.1 _ (List.mem_of_getElem? (i := 1) rfl))) (fun _ h => h) rfl dL_law_1605 ?_
    refine lv_iload hx hb dL_law_1608 (lv_at hl 0 rfl) ?_
    refine lv_i2l hx hb dL_law_1610 rfl ?_
    refine W.lcmp hx hb dL_law_1611 ?_
    refine lv_if_eq (tgt := 1617) hx hb dL_law_1612 (by decide) (fun _ => ?_) (fun c9 => absurd (by rw [e9]; exact lg_cmp_self _) c9)
    refine lv_goto (tgt := 3023) hx hb dL_law_1617 (by decide) ?_
    refine W.widen (k := cells + 9300) (n := slots + 100000) (by omega) (by omega) ?_
    exact kk _ _ _ _ _ _ _ _ h Keeps.rf hR hS (lv_sub (hl) [2, 3, 4, 5, 6] rfl)
def sL_20 (κ : Kx) (y : Ly) (post : Wd → Ly → Prop) (n0 : Int64) (w : Wd) (x1 : Int32) : Prop := sp_X0_remit κ y (fun k9 n1 w1 => sp_X8_remit κ y (fun b9 w2 => gv w2 20 0 0 = k9 ∧ (k9 = 0 → n1 = b9.toInt64) ∧ post w2 y) w1 x1) n0 w x1
set_option maxHeartbeats 4000000 in
theorem lc_20 {p : Program} {l : Launch} {e : Env} {s : State} {m : MethodId} {below : List Frame} {meth : Method} {c : Code} {b L : Nat} {xs : Nat → Int32} {κ : Kx} {Q : State → Prop} {w : Wd} {y : Ly} {oa : Nat} {n0 : Int64} {d0 : UInt64} {s0 : Value} {H : Heap} {locs : List Loc} {ls : Array Slot} {cells slots j : Nat} {post : Wd → Ly → Prop} (F : LF p l s m meth c b L xs κ) (hm : mon s.heap (y.2 3 0)) (hR : Rp κ w y (oX oa n0 d0 s0) [] H) (hS : va_S (Af κ) s.heap H locs) (hW : WFc κ y) (hM : WFm κ y) (hl : lv_has ls 8 [(0, .ref b), (1, .ref (y.2 0 0)), (2, .ref (y.2 20 0)), (3, .ref oa), (4, .int (nI j))]) (hj : j + 5 ≤ L) (hC : cells + 9300 ≤ rmL.cells) (hSl : slots + 100000 ≤ rmL.slots) (h : sL_20 κ y post n0 w (xs (j + 1))) (kk : ∀ (w2 : Wd) (y2 : Ly) (n1 : Int64) (d1 : UInt64) (s1 : Value) (H1 : Heap) (locs1 : List Loc) (ls1 : Array Slot), post w2 y2 → Keeps y y2 → Rp κ w2 y2 (oX oa n1 d1 s1) [] H1 → va_S (Af κ) s.heap H1 locs1 → lv_has ls1 8 [(0, .ref b), (1, .ref (y.2 0 0)), (2, .ref (y.2 20 0)), (3, .ref oa), (4, .int (nI j))] → W p l e rmL s m #[.ref b] below meth c H1 locs1 (cells + 9300) (slots + 100000) Q (F0 m 3023 ls1 [])) : W p l e rmL s m #[.ref b] below meth c H locs cells slots Q (F0 m 1620 ls []) := by
  obtain ⟨hx, hb, hr, hml, hlk, hown, hts, hfl, hK, hPx, hX9, hbl, hz9, hL9⟩ := F
  have hbA : ¬ Af κ b := fun h9 => Nat.lt_irrefl _ (Nat.lt_of_lt_of_le hbl h9)
  have hbs : b < s.heap.size := Nat.lt_of_lt_of_le hbl hz9
  have a1 : nI j + (1 : Int32) = nI (j + 1) := nI_add j 1
  have c1 : (nI (j + 1)).toNatClampNeg = j + 1 := nI_clamp (by omega)
  have v1 : vp_in (nI (j + 1)) L := vp_in_nI (by omega) (by omega)
  unfold sL_20 at h
  refine lv_aload_n hx hb dL_law_1620 rfl (lv_at hl 1 rfl) ?_
  refine lv_aload_n hx hb dL_law_1621 rfl (lv_at hl 0 rfl) ?_
  refine lv_iload hx hb dL_law_1622 (lv_at hl 4 rfl) ?_
  refine lv_iconst (v := (1 : Int32)) hx hb dL_law_1624 (by decide) ?_
  refine lv_iadd hx hb dL_law_1625 ?_
  rw [a1]
  refine va_sld hx hb hX9 hbs hbA hS v1 dL_law_1626 ?_
  rw [c1]
  refine lv_aload_n hx hb dL_law_1627 rfl (lv_at hl 3 rfl) ?_
  refine vx_calli (crx_SW (n := 3) (As := [.ref (y.2 0 0), .int (xs (j + 1)), .ref oa]) (rest := []) ⟨hx, hb, hml, hown, hts⟩ hK hR (m_X0_remit (X := xl (oX oa n0 d0 s0) []) hfl hW hW.pub (Or.inl ⟨rfl, rfl⟩) h) q1472 q1473 q73 q1474 rfl rfl hdL_remit ⟨Nat.le_of_ble_eq_true rfl, Nat.le_of_ble_eq_true rfl⟩ rfl rfl hl.1 rfl (lv_room (Nat.le_of_ble_eq_true rfl)) dL_law_1628 ⟨(Nat.le_trans (show cells + 3 ≤ cells + 9300 from by omega) hC), (Nat.le_trans (show slots + 16 ≤ slots + 100000 from by omega) hSl)⟩) hS (fun _ _ h => h) (fun _ h => h) (fun _ _ h => h) (fun E9 ce9 q9 u t H1 locs1 e1 _ hu => hu.elim) (fun k9 u t H1 locs1 ht _ hp hB hz8 _ hS => ?_)
  obtain ⟨w1, n1⟩ := u
  dsimp only at hp hB
  replace h := hp
  have hR : Rp κ w1 y (oX oa n1 d0 s0) [] H1 := by rw [← ht]; exact hB.wk (fun _ _ h => by obtain ⟨rfl, rfl⟩ := h; exact Or.inl ⟨rfl, rfl⟩)
  refine lv_istore (lv' := [(5, .int k9), (0, .ref b), (1, .ref (y.2 0 0)), (2, .ref (y.2 20 0)), (3, .ref oa), (4, .int (nI j))]) hx hb dL_law_1631 hl (by decide) rfl (fun ls hl => ?_)
  refine lv_aload_n hx hb dL_law_1633 rfl (lv_at hl 3 rfl) ?_
  refine lv_aload_n hx hb dL_law_1634 rfl (lv_at hl 1 rfl) ?_
  refine lv_iload hx hb dL_law_1635 (lv_at hl 5 rfl) ?_
  refine lv_iconst (v := (1 : Int32)) hx hb dL_law_1637 (by decide) ?_
  refine lv_iadd hx hb dL_law_1638 ?_
  rw [a1]
  refine va_sld hx hb hX9 hbs hbA hS v1 dL_law_1639 ?_
  rw [c1]
  refine ce_qi (fw := fun u => u) (fy := fun _ => y) (cr_V (n := 1) (As := [.int (xs (j + 1))]) (rest := []) ⟨hx, hb, hml, hown, hts⟩ hK hR (m_X8_remit hM hM.mro h) q2385 q2386 q2387 q85 q2388 rfl rfl hd_X8_remit ⟨Nat.le_of_ble_eq_true rfl, Nat.le_of_ble_eq_true rfl⟩ (rv hK hR hM.mro (ci := 11) rfl rfl) rfl rfl hl.1 rfl (lv_room (Nat.le_of_ble_eq_true rfl)) dL_law_1640 ⟨(Nat.le_trans (show cells + 3 + 0 ≤ cells + 9300 from by omega) hC), (Nat.le_trans (show slots + 16 + 0 ≤ slots + 100000 from by omega) hSl)⟩) hR hS (fun b9 w2 H1 locs1 h hR _ hS => ?_)
  obtain ⟨e7, e9, h⟩ := h
  refine lv_istore (lv' := [(6, .int b9), (5, .int k9), (0, .ref b), (1, .ref (y.2 0 0)), (2, .ref (y.2 20 0)), (3, .ref oa), (4, .int (nI j))]) hx hb dL_law_1643 hl (by decide) rfl (fun ls hl => ?_)
  refine lv_aload_n hx hb dL_law_1645 rfl (lv_at hl 4 rfl) ?_
  refine ce_qi (fw := fun u => u) (fy := fun _ => y) (cr_V (n := 0) (As := []) (rest := []) ⟨hx, hb, hml, hown, hts⟩ hK hR (m_X8_thrown (post := fun r9 u9 => r9 = gv w2 20 0 0 ∧ u9 = w2) hM hM.mro ⟨rfl, rfl⟩) q2012 q2013 q2014 q85 q2015 rfl rfl hd_X8_thrown ⟨Nat.le_of_ble_eq_true rfl, Nat.le_of_ble_eq_true rfl⟩ (rv hK hR hM.mro (ci := 11) rfl rfl) rfl rfl hl.1 rfl (lv_room (Nat.le_of_ble_eq_true rfl)) dL_law_1646 ⟨(Nat.le_trans (show cells + 3 + 0 + 0 ≤ cells + 9300 from by omega) hC), (Nat.le_trans (show slots + 16 + 0 + 0 ≤ slots + 100000 from by omega) hSl)⟩) hR hS (fun t9 w3 H1 locs1 ht9 hR _ hS => ?_)
  obtain ⟨et9, rfl⟩ := ht9
  rw [et9, e7]
  refine lv_iload hx hb dL_law_1649 (lv_at hl 1 rfl) ?_
  refine lv_icmp_eq (tgt := 1656) hx hb dL_law_1651 (by decide) (fun _ => ?_) (fun c9 => absurd rfl c9)
  refine lv_iload hx hb dL_law_1656 (lv_at hl 1 rfl) ?_
  refine lv_if_ne (tgt := 1674) hx hb dL_law_1658 (by decide) (fun c9 => ?_) (fun c9 => ?_)
  · skip
    refine lv_goto (tgt := 3023) hx hb dL_law_1674 (by decide) ?_
    refine W.widen (k := cells + 9300) (n := slots + 100000) (by omega) (by omega) ?_
    exact kk _ _ _ _ _ _ _ _ h Keeps.rf hR hS (lv_sub (hl) [2, 3, 4, 5, 6] rfl)
  · have c9 : k9 = 0 := by first | exact c9 | exact Decidable.of_not_not c9
    have e9 := e9 c9
    refine lv_aload_n hx hb dL_law_1661 rfl (lv_at hl 5 rfl) ?_
    refine va_getN (host := "PublicanryLaw") (T := TX9) (N := 3) (v := .long n1) hx hb hts in_X9 hown hK.1 (va_P1 (hR.2.2.2.1 _ _ ⟨rfl, rfl⟩).1) 0 rfl rfl 0 (by decide) (va_Nw.use rfl (hK.2.1.2.1 _ (List.mem_of_getElem? (i := 1) rfl))) (fun _ h => h) rfl dL_law_1662 ?_
    refine lv_iload hx hb dL_law_1665 (lv_at hl 0 rfl) ?_
    refine lv_i2l hx hb dL_law_1667 rfl ?_
    refine W.lcmp hx hb dL_law_1668 ?_
    refine lv_if_eq (tgt := 1674) hx hb dL_law_1669 (by decide) (fun _ => ?_) (fun c9 => absurd (by rw [e9]; exact lg_cmp_self _) c9)
    refine lv_goto (tgt := 3023) hx hb dL_law_1674 (by decide) ?_
    refine W.widen (k := cells + 9300) (n := slots + 100000) (by omega) (by omega) ?_
    exact kk _ _ _ _ _ _ _ _ h Keeps.rf hR hS (lv_sub (hl) [2, 3, 4, 5, 6] rfl)
def sL_21 (κ : Kx) (y : Ly) (post : Wd → Ly → Prop) (w : Wd) : Prop := sp_X1_recall κ y (fun r9 w1 => sp_X8_recall κ y (fun b9 w2 => r9 = b9 ∧ post w2 y) w1 ) w
set_option maxHeartbeats 4000000 in
theorem lc_21 {p : Program} {l : Launch} {e : Env} {s : State} {m : MethodId} {below : List Frame} {meth : Method} {c : Code} {b L : Nat} {xs : Nat → Int32} {κ : Kx} {Q : State → Prop} {w : Wd} {y : Ly} {oa : Nat} {n0 : Int64} {d0 : UInt64} {s0 : Value} {H : Heap} {locs : List Loc} {ls : Array Slot} {cells slots j : Nat} {post : Wd → Ly → Prop} (F : LF p l s m meth c b L xs κ) (hm : mon s.heap (y.2 3 0)) (hR : Rp κ w y (oX oa n0 d0 s0) [] H) (hS : va_S (Af κ) s.heap H locs) (hW : WFc κ y) (hM : WFm κ y) (hl : lv_has ls 8 [(0, .ref b), (1, .ref (y.2 0 0)), (2, .ref (y.2 20 0)), (3, .ref oa), (4, .int (nI j))]) (hj : j + 5 ≤ L) (hC : cells + 9300 ≤ rmL.cells) (hSl : slots + 100000 ≤ rmL.slots) (h : sL_21 κ y post w ) (kk : ∀ (w2 : Wd) (y2 : Ly) (n1 : Int64) (d1 : UInt64) (s1 : Value) (H1 : Heap) (locs1 : List Loc) (ls1 : Array Slot), post w2 y2 → Keeps y y2 → Rp κ w2 y2 (oX oa n1 d1 s1) [] H1 → va_S (Af κ) s.heap H1 locs1 → lv_has ls1 8 [(0, .ref b), (1, .ref (y.2 0 0)), (2, .ref (y.2 20 0)), (3, .ref oa), (4, .int (nI j))] → W p l e rmL s m #[.ref b] below meth c H1 locs1 (cells + 9300) (slots + 100000) Q (F0 m 3023 ls1 [])) : W p l e rmL s m #[.ref b] below meth c H locs cells slots Q (F0 m 1677 ls []) := by
  obtain ⟨hx, hb, hr, hml, hlk, hown, hts, hfl, hK, hPx, hX9, hbl, hz9, hL9⟩ := F
  have hbA : ¬ Af κ b := fun h9 => Nat.lt_irrefl _ (Nat.lt_of_lt_of_le hbl h9)
  have hbs : b < s.heap.size := Nat.lt_of_lt_of_le hbl hz9
  unfold sL_21 at h
  refine lv_aload_n hx hb dL_law_1677 rfl (lv_at hl 1 rfl) ?_
  refine ce_qi (fw := fun u => u) (fy := fun _ => y) (cr_V (n := 0) (As := []) (rest := []) ⟨hx, hb, hml, hown, hts⟩ hK hR (m_X1_recall hW hW.pub h) q296 q297 q298 q74 q299 rfl rfl hd_X1_recall ⟨Nat.le_of_ble_eq_true rfl, Nat.le_of_ble_eq_true rfl⟩ (rv hK hR hW.pub (ci := 0) rfl rfl) rfl rfl hl.1 rfl (lv_room (Nat.le_of_ble_eq_true rfl)) dL_law_1678 ⟨(Nat.le_trans (show cells + 1 ≤ cells + 9300 from by omega) hC), (Nat.le_trans (show slots + 4 ≤ slots + 100000 from by omega) hSl)⟩) hR hS (fun r9 w1 H1 locs1 h hR _ hS => ?_)
  refine lv_aload_n hx hb dL_law_1681 rfl (lv_at hl 2 rfl) ?_
  refine ce_qi (fw := fun u => u) (fy := fun _ => y) (cr_V (n := 0) (As := []) (rest := [.int r9]) ⟨hx, hb, hml, hown, hts⟩ hK hR (m_X8_recall hM hM.mro h) q2389 q2390 q2391 q85 q2392 rfl rfl hd_X8_recall ⟨Nat.le_of_ble_eq_true rfl, Nat.le_of_ble_eq_true rfl⟩ (rv hK hR hM.mro (ci := 11) rfl rfl) rfl rfl hl.1 rfl (lv_room (Nat.le_of_ble_eq_true rfl)) dL_law_1682 ⟨(Nat.le_trans (show cells + 1 + 1 ≤ cells + 9300 from by omega) hC), (Nat.le_trans (show slots + 4 + 4 ≤ slots + 100000 from by omega) hSl)⟩) hR hS (fun b9 w2 H1 locs1 h hR _ hS => ?_)
  obtain ⟨e9, h⟩ := h
  refine lv_icmp_eq (tgt := 3023) hx hb dL_law_1685 (by decide) (fun _ => ?_) (fun c9 => absurd e9 c9)
  refine W.widen (k := cells + 9300) (n := slots + 100000) (by omega) (by omega) ?_
  exact kk _ _ _ _ _ _ _ _ h Keeps.rf hR hS (lv_sub (hl) [0, 1, 2, 3, 4] rfl)
def sL_22 (κ : Kx) (y : Ly) (post : Wd → Ly → Prop) (n0 : Int64) (w : Wd) (x1 : Int32) (x2 : Int32) : Prop := sp_X0_clerks κ y (fun k9 n1 w1 => sp_X8_clerks κ y (fun b9 w2 => gv w2 20 0 0 = k9 ∧ (k9 = 0 → n1 = if b9 = 0 then (0 : Int64) else (1 : Int64)) ∧ post w2 y) w1 x1 (bz x2)) n0 w x1 (bz x2)
set_option maxHeartbeats 4000000 in
theorem lc_22 {p : Program} {l : Launch} {e : Env} {s : State} {m : MethodId} {below : List Frame} {meth : Method} {c : Code} {b L : Nat} {xs : Nat → Int32} {κ : Kx} {Q : State → Prop} {w : Wd} {y : Ly} {oa : Nat} {n0 : Int64} {d0 : UInt64} {s0 : Value} {H : Heap} {locs : List Loc} {ls : Array Slot} {cells slots j : Nat} {post : Wd → Ly → Prop} (F : LF p l s m meth c b L xs κ) (hm : mon s.heap (y.2 3 0)) (hR : Rp κ w y (oX oa n0 d0 s0) [] H) (hS : va_S (Af κ) s.heap H locs) (hW : WFc κ y) (hM : WFm κ y) (hl : lv_has ls 8 [(0, .ref b), (1, .ref (y.2 0 0)), (2, .ref (y.2 20 0)), (3, .ref oa), (4, .int (nI j))]) (hj : j + 5 ≤ L) (hC : cells + 9300 ≤ rmL.cells) (hSl : slots + 100000 ≤ rmL.slots) (h : sL_22 κ y post n0 w (xs (j + 1)) (xs (j + 2))) (kk : ∀ (w2 : Wd) (y2 : Ly) (n1 : Int64) (d1 : UInt64) (s1 : Value) (H1 : Heap) (locs1 : List Loc) (ls1 : Array Slot), post w2 y2 → Keeps y y2 → Rp κ w2 y2 (oX oa n1 d1 s1) [] H1 → va_S (Af κ) s.heap H1 locs1 → lv_has ls1 8 [(0, .ref b), (1, .ref (y.2 0 0)), (2, .ref (y.2 20 0)), (3, .ref oa), (4, .int (nI j))] → W p l e rmL s m #[.ref b] below meth c H1 locs1 (cells + 9300) (slots + 100000) Q (F0 m 3023 ls1 [])) : W p l e rmL s m #[.ref b] below meth c H locs cells slots Q (F0 m 1690 ls []) := by
  obtain ⟨hx, hb, hr, hml, hlk, hown, hts, hfl, hK, hPx, hX9, hbl, hz9, hL9⟩ := F
  have hbA : ¬ Af κ b := fun h9 => Nat.lt_irrefl _ (Nat.lt_of_lt_of_le hbl h9)
  have hbs : b < s.heap.size := Nat.lt_of_lt_of_le hbl hz9
  have a1 : nI j + (1 : Int32) = nI (j + 1) := nI_add j 1
  have c1 : (nI (j + 1)).toNatClampNeg = j + 1 := nI_clamp (by omega)
  have v1 : vp_in (nI (j + 1)) L := vp_in_nI (by omega) (by omega)
  have a2 : nI j + (2 : Int32) = nI (j + 2) := nI_add j 2
  have c2 : (nI (j + 2)).toNatClampNeg = j + 2 := nI_clamp (by omega)
  have v2 : vp_in (nI (j + 2)) L := vp_in_nI (by omega) (by omega)
  unfold sL_22 at h
  refine lv_aload_n hx hb dL_law_1690 rfl (lv_at hl 1 rfl) ?_
  refine lv_aload_n hx hb dL_law_1691 rfl (lv_at hl 0 rfl) ?_
  refine lv_iload hx hb dL_law_1692 (lv_at hl 4 rfl) ?_
  refine lv_iconst (v := (1 : Int32)) hx hb dL_law_1694 (by decide) ?_
  refine lv_iadd hx hb dL_law_1695 ?_
  rw [a1]
  refine va_sld hx hb hX9 hbs hbA hS v1 dL_law_1696 ?_
  rw [c1]
  refine lv_aload_n hx hb dL_law_1697 rfl (lv_at hl 0 rfl) ?_
  refine lv_iload hx hb dL_law_1698 (lv_at hl 4 rfl) ?_
  refine lv_iconst (v := (2 : Int32)) hx hb dL_law_1700 (by decide) ?_
  refine lv_iadd hx hb dL_law_1701 ?_
  rw [a2]
  refine va_sld hx hb hX9 hbs hbA hS v2 dL_law_1702 ?_
  rw [c2]
  by_cases hb2 : xs (j + 2) = 0
  · rw [bz_0 hb2] at h
    refine lv_if_eq (tgt := 1710) hx hb dL_law_1703 (by decide) (fun _ => ?_) (fun c9 => absurd hb2 c9)
    refine lv_iconst (v := (0 : Int32)) hx hb dL_law_1710 (by decide) ?_
    refine lv_aload_n hx hb dL_law_1711 rfl (lv_at hl 3 rfl) ?_
    refine vx_calli (crx_SW (n := 4) (As := [.ref (y.2 0 0), .int (xs (j + 1)), .int (0 : Int32), .ref oa]) (rest := []) ⟨hx, hb, hml, hown, hts⟩ hK hR (m_X0_clerks (X := xl (oX oa n0 d0 s0) []) hfl hW hW.pub (Or.inl ⟨rfl, rfl⟩) h) q1493 q1494 q73 q1495 rfl rfl hdL_clerks ⟨Nat.le_of_ble_eq_true rfl, Nat.le_of_ble_eq_true rfl⟩ rfl rfl hl.1 rfl (lv_room (Nat.le_of_ble_eq_true rfl)) dL_law_1712 ⟨(Nat.le_trans (show cells + 2 ≤ cells + 9300 from by omega) hC), (Nat.le_trans (show slots + 9 ≤ slots + 100000 from by omega) hSl)⟩) hS (fun _ _ h => h) (fun _ h => h) (fun _ _ h => h) (fun E9 ce9 q9 u t H1 locs1 e1 _ hu => hu.elim) (fun k9 u t H1 locs1 ht _ hp hB hz8 _ hS => ?_)
    obtain ⟨w1, n1⟩ := u
    dsimp only at hp hB
    replace h := hp
    have hR : Rp κ w1 y (oX oa n1 d0 s0) [] H1 := by rw [← ht]; exact hB.wk (fun _ _ h => by obtain ⟨rfl, rfl⟩ := h; exact Or.inl ⟨rfl, rfl⟩)
    refine lv_istore (lv' := [(5, .int k9), (0, .ref b), (1, .ref (y.2 0 0)), (2, .ref (y.2 20 0)), (3, .ref oa), (4, .int (nI j))]) hx hb dL_law_1715 hl (by decide) rfl (fun ls hl => ?_)
    refine lv_aload_n hx hb dL_law_1717 rfl (lv_at hl 3 rfl) ?_
    refine lv_aload_n hx hb dL_law_1718 rfl (lv_at hl 1 rfl) ?_
    refine lv_iload hx hb dL_law_1719 (lv_at hl 5 rfl) ?_
    refine lv_iconst (v := (1 : Int32)) hx hb dL_law_1721 (by decide) ?_
    refine lv_iadd hx hb dL_law_1722 ?_
    rw [a1]
    refine va_sld hx hb hX9 hbs hbA hS v1 dL_law_1723 ?_
    rw [c1]
    refine lv_aload_n hx hb dL_law_1724 rfl (lv_at hl 1 rfl) ?_
    refine lv_iload hx hb dL_law_1725 (lv_at hl 5 rfl) ?_
    refine lv_iconst (v := (2 : Int32)) hx hb dL_law_1727 (by decide) ?_
    refine lv_iadd hx hb dL_law_1728 ?_
    rw [a2]
    refine va_sld hx hb hX9 hbs hbA hS v2 dL_law_1729 ?_
    rw [c2]
    refine lv_if_eq (tgt := 1737) hx hb dL_law_1730 (by decide) (fun _ => ?_) (fun c9 => absurd hb2 c9)
    refine lv_iconst (v := (0 : Int32)) hx hb dL_law_1737 (by decide) ?_
    refine ce_qi (fw := fun u => u) (fy := fun _ => y) (cr_V (n := 2) (As := [.int (xs (j + 1)), .int (0 : Int32)]) (rest := []) ⟨hx, hb, hml, hown, hts⟩ hK hR (m_X8_clerks hM hM.mro h) q2393 q2394 q2395 q85 q2396 rfl rfl hd_X8_clerks ⟨Nat.le_of_ble_eq_true rfl, Nat.le_of_ble_eq_true rfl⟩ (rv hK hR hM.mro (ci := 11) rfl rfl) rfl rfl hl.1 rfl (lv_room (Nat.le_of_ble_eq_true rfl)) dL_law_1738 ⟨(Nat.le_trans (show cells + 2 + 0 ≤ cells + 9300 from by omega) hC), (Nat.le_trans (show slots + 9 + 0 ≤ slots + 100000 from by omega) hSl)⟩) hR hS (fun b9 w2 H1 locs1 h hR _ hS => ?_)
    obtain ⟨e7, e9, h⟩ := h
    refine lv_istore (lv' := [(6, .int b9), (5, .int k9), (0, .ref b), (1, .ref (y.2 0 0)), (2, .ref (y.2 20 0)), (3, .ref oa), (4, .int (nI j))]) hx hb dL_law_1741 hl (by decide) rfl (fun ls hl => ?_)
    refine lv_aload_n hx hb dL_law_1743 rfl (lv_at hl 4 rfl) ?_
    refine ce_qi (fw := fun u => u) (fy := fun _ => y) (cr_V (n := 0) (As := []) (rest := []) ⟨hx, hb, hml, hown, hts⟩ hK hR (m_X8_thrown (post := fun r9 u9 => r9 = gv w2 20 0 0 ∧ u9 = w2) hM hM.mro ⟨rfl, rfl⟩) q2012 q2013 q2014 q85 q2015 rfl rfl hd_X8_thrown ⟨Nat.le_of_ble_eq_true rfl, Nat.le_of_ble_eq_true rfl⟩ (rv hK hR hM.mro (ci := 11) rfl rfl) rfl rfl hl.1 rfl (lv_room (Nat.le_of_ble_eq_true rfl)) dL_law_1744 ⟨(Nat.le_trans (show cells + 2 + 0 + 0 ≤ cells + 9300 from by omega) hC), (Nat.le_trans (show slots + 9 + 0 + 0 ≤ slots + 100000 from by omega) hSl)⟩) hR hS (fun t9 w3 H1 locs1 ht9 hR _ hS => ?_)
    obtain ⟨et9, rfl⟩ := ht9
    rw [et9, e7]
    refine lv_iload hx hb dL_law_1747 (lv_at hl 1 rfl) ?_
    refine lv_icmp_eq (tgt := 1754) hx hb dL_law_1749 (by decide) (fun _ => ?_) (fun c9 => absurd rfl c9)
    refine lv_iload hx hb dL_law_1754 (lv_at hl 1 rfl) ?_
    refine lv_if_ne (tgt := 1779) hx hb dL_law_1756 (by decide) (fun c9 => ?_) (fun c9 => ?_)
    · skip
      refine lv_goto (tgt := 3023) hx hb dL_law_1779 (by decide) ?_
      refine W.widen (k := cells + 9300) (n := slots + 100000) (by omega) (by omega) ?_
      exact kk _ _ _ _ _ _ _ _ h Keeps.rf hR hS (lv_sub (hl) [2, 3, 4, 5, 6] rfl)
    · have c9 : k9 = 0 := by first | exact c9 | exact Decidable.of_not_not c9
      have e9 := e9 c9
      refine lv_aload_n hx hb dL_law_1759 rfl (lv_at hl 5 rfl) ?_
      refine va_getN (host := "PublicanryLaw") (T := TX9) (N := 3) (v := .long n1) hx hb hts in_X9 hown hK.1 (va_P1 (hR.2.2.2.1 _ _ ⟨rfl, rfl⟩).1) 0 rfl rfl 0 (by decide) (va_Nw.use rfl (hK.2.1.2.1 _ (List.mem_of_getElem? (i := 1) rfl))) (fun _ h => h) rfl dL_law_1760 ?_
      refine lv_iload hx hb dL_law_1763 (lv_at hl 0 rfl) ?_
      refine lv_if_eq (tgt := 1772) hx hb dL_law_1765 (by decide) (fun c8 => ?_) (fun c8 => ?_)
      · rw [if_pos c8] at e9
        refine lv_lconst (v := 0) hx hb dL_law_1772 rfl ?_
        refine W.lcmp hx hb dL_law_1773 ?_
        refine lv_if_eq (tgt := 1779) hx hb dL_law_1774 (by decide) (fun _ => ?_) (fun c9 => absurd (by rw [e9]; exact lg_cmp_self _) c9)
        refine lv_goto (tgt := 3023) hx hb dL_law_1779 (by decide) ?_
        refine W.widen (k := cells + 9300) (n := slots + 100000) (by omega) (by omega) ?_
        exact kk _ _ _ _ _ _ _ _ h Keeps.rf hR hS (lv_sub (hl) [2, 3, 4, 5, 6] rfl)
      · rw [if_neg c8] at e9
        refine lv_lconst (v := 1) hx hb dL_law_1768 rfl ?_
        refine lv_goto (tgt := 1773) hx hb dL_law_1769 (by decide) ?_
        refine W.lcmp hx hb dL_law_1773 ?_
        refine lv_if_eq (tgt := 1779) hx hb dL_law_1774 (by decide) (fun _ => ?_) (fun c9 => absurd (by rw [e9]; exact lg_cmp_self _) c9)
        refine lv_goto (tgt := 3023) hx hb dL_law_1779 (by decide) ?_
        refine W.widen (k := cells + 9300) (n := slots + 100000) (by omega) (by omega) ?_
        exact kk _ _ _ _ _ _ _ _ h Keeps.rf hR hS (lv_sub (hl) [2, 3, 4, 5, 6] rfl)
  · rw [bz_1 hb2] at h
    refine lv_if_eq (tgt := 1710) hx hb dL_law_1703 (by decide) (fun c9 => absurd c9 hb2) (fun _ => ?_)
    refine lv_iconst (v := (1 : Int32)) hx hb dL_law_1706 (by decide) ?_
    refine lv_goto (tgt := 1711) hx hb dL_law_1707 (by decide) ?_
    refine lv_aload_n hx hb dL_law_1711 rfl (lv_at hl 3 rfl) ?_
    refine vx_calli (crx_SW (n := 4) (As := [.ref (y.2 0 0), .int (xs (j + 1)), .int (1 : Int32), .ref oa]) (rest := []) ⟨hx, hb, hml, hown, hts⟩ hK hR (m_X0_clerks (X := xl (oX oa n0 d0 s0) []) hfl hW hW.pub (Or.inl ⟨rfl, rfl⟩) h) q1493 q1494 q73 q1495 rfl rfl hdL_clerks ⟨Nat.le_of_ble_eq_true rfl, Nat.le_of_ble_eq_true rfl⟩ rfl rfl hl.1 rfl (lv_room (Nat.le_of_ble_eq_true rfl)) dL_law_1712 ⟨(Nat.le_trans (show cells + 2 ≤ cells + 9300 from by omega) hC), (Nat.le_trans (show slots + 9 ≤ slots + 100000 from by omega) hSl)⟩) hS (fun _ _ h => h) (fun _ h => h) (fun _ _ h => h) (fun E9 ce9 q9 u t H1 locs1 e1 _ hu => hu.elim) (fun k9 u t H1 locs1 ht _ hp hB hz8 _ hS => ?_)
    obtain ⟨w1, n1⟩ := u
    dsimp only at hp hB
    replace h := hp
    have hR : Rp κ w1 y (oX oa n1 d0 s0) [] H1 := by rw [← ht]; exact hB.wk (fun _ _ h => by obtain ⟨rfl, rfl⟩ := h; exact Or.inl ⟨rfl, rfl⟩)
    refine lv_istore (lv' := [(5, .int k9), (0, .ref b), (1, .ref (y.2 0 0)), (2, .ref (y.2 20 0)), (3, .ref oa), (4, .int (nI j))]) hx hb dL_law_1715 hl (by decide) rfl (fun ls hl => ?_)
    refine lv_aload_n hx hb dL_law_1717 rfl (lv_at hl 3 rfl) ?_
    refine lv_aload_n hx hb dL_law_1718 rfl (lv_at hl 1 rfl) ?_
    refine lv_iload hx hb dL_law_1719 (lv_at hl 5 rfl) ?_
    refine lv_iconst (v := (1 : Int32)) hx hb dL_law_1721 (by decide) ?_
    refine lv_iadd hx hb dL_law_1722 ?_
    rw [a1]
    refine va_sld hx hb hX9 hbs hbA hS v1 dL_law_1723 ?_
    rw [c1]
    refine lv_aload_n hx hb dL_law_1724 rfl (lv_at hl 1 rfl) ?_
    refine lv_iload hx hb dL_law_1725 (lv_at hl 5 rfl) ?_
    refine lv_iconst (v := (2 : Int32)) hx hb dL_law_1727 (by decide) ?_
    refine lv_iadd hx hb dL_law_1728 ?_
    rw [a2]
    refine va_sld hx hb hX9 hbs hbA hS v2 dL_law_1729 ?_
    rw [c2]
    refine lv_if_eq (tgt := 1737) hx hb dL_law_1730 (by decide) (fun c9 => absurd c9 hb2) (fun _ => ?_)
    refine lv_iconst (v := (1 : Int32)) hx hb dL_law_1733 (by decide) ?_
    refine lv_goto (tgt := 1738) hx hb dL_law_1734 (by decide) ?_
    refine ce_qi (fw := fun u => u) (fy := fun _ => y) (cr_V (n := 2) (As := [.int (xs (j + 1)), .int (1 : Int32)]) (rest := []) ⟨hx, hb, hml, hown, hts⟩ hK hR (m_X8_clerks hM hM.mro h) q2393 q2394 q2395 q85 q2396 rfl rfl hd_X8_clerks ⟨Nat.le_of_ble_eq_true rfl, Nat.le_of_ble_eq_true rfl⟩ (rv hK hR hM.mro (ci := 11) rfl rfl) rfl rfl hl.1 rfl (lv_room (Nat.le_of_ble_eq_true rfl)) dL_law_1738 ⟨(Nat.le_trans (show cells + 2 + 0 ≤ cells + 9300 from by omega) hC), (Nat.le_trans (show slots + 9 + 0 ≤ slots + 100000 from by omega) hSl)⟩) hR hS (fun b9 w2 H1 locs1 h hR _ hS => ?_)
    obtain ⟨e7, e9, h⟩ := h
    refine lv_istore (lv' := [(6, .int b9), (5, .int k9), (0, .ref b), (1, .ref (y.2 0 0)), (2, .ref (y.2 20 0)), (3, .ref oa), (4, .int (nI j))]) hx hb dL_law_1741 hl (by decide) rfl (fun ls hl => ?_)
    refine lv_aload_n hx hb dL_law_1743 rfl (lv_at hl 4 rfl) ?_
    refine ce_qi (fw := fun u => u) (fy := fun _ => y) (cr_V (n := 0) (As := []) (rest := []) ⟨hx, hb, hml, hown, hts⟩ hK hR (m_X8_thrown (post := fun r9 u9 => r9 = gv w2 20 0 0 ∧ u9 = w2) hM hM.mro ⟨rfl, rfl⟩) q2012 q2013 q2014 q85 q2015 rfl rfl hd_X8_thrown ⟨Nat.le_of_ble_eq_true rfl, Nat.le_of_ble_eq_true rfl⟩ (rv hK hR hM.mro (ci := 11) rfl rfl) rfl rfl hl.1 rfl (lv_room (Nat.le_of_ble_eq_true rfl)) dL_law_1744 ⟨(Nat.le_trans (show cells + 2 + 0 + 0 ≤ cells + 9300 from by omega) hC), (Nat.le_trans (show slots + 9 + 0 + 0 ≤ slots + 100000 from by omega) hSl)⟩) hR hS (fun t9 w3 H1 locs1 ht9 hR _ hS => ?_)
    obtain ⟨et9, rfl⟩ := ht9
    rw [et9, e7]
    refine lv_iload hx hb dL_law_1747 (lv_at hl 1 rfl) ?_
    refine lv_icmp_eq (tgt := 1754) hx hb dL_law_1749 (by decide) (fun _ => ?_) (fun c9 => absurd rfl c9)
    refine lv_iload hx hb dL_law_1754 (lv_at hl 1 rfl) ?_
    refine lv_if_ne (tgt := 1779) hx hb dL_law_1756 (by decide) (fun c9 => ?_) (fun c9 => ?_)
    · skip
      refine lv_goto (tgt := 3023) hx hb dL_law_1779 (by decide) ?_
      refine W.widen (k := cells + 9300) (n := slots + 100000) (by omega) (by omega) ?_
      exact kk _ _ _ _ _ _ _ _ h Keeps.rf hR hS (lv_sub (hl) [2, 3, 4, 5, 6] rfl)
    · have c9 : k9 = 0 := by first | exact c9 | exact Decidable.of_not_not c9
      have e9 := e9 c9
      refine lv_aload_n hx hb dL_law_1759 rfl (lv_at hl 5 rfl) ?_
      refine va_getN (host := "PublicanryLaw") (T := TX9) (N := 3) (v := .long n1) hx hb hts in_X9 hown hK.1 (va_P1 (hR.2.2.2.1 _ _ ⟨rfl, rfl⟩).1) 0 rfl rfl 0 (by decide) (va_Nw.use rfl (hK.2.1.2.1 _ (List.mem_of_getElem? (i := 1) rfl))) (fun _ h => h) rfl dL_law_1760 ?_
      refine lv_iload hx hb dL_law_1763 (lv_at hl 0 rfl) ?_
      refine lv_if_eq (tgt := 1772) hx hb dL_law_1765 (by decide) (fun c8 => ?_) (fun c8 => ?_)
      · rw [if_pos c8] at e9
        refine lv_lconst (v := 0) hx hb dL_law_1772 rfl ?_
        refine W.lcmp hx hb dL_law_1773 ?_
        refine lv_if_eq (tgt := 1779) hx hb dL_law_1774 (by decide) (fun _ => ?_) (fun c9 => absurd (by rw [e9]; exact lg_cmp_self _) c9)
        refine lv_goto (tgt := 3023) hx hb dL_law_1779 (by decide) ?_
        refine W.widen (k := cells + 9300) (n := slots + 100000) (by omega) (by omega) ?_
        exact kk _ _ _ _ _ _ _ _ h Keeps.rf hR hS (lv_sub (hl) [2, 3, 4, 5, 6] rfl)
      · rw [if_neg c8] at e9
        refine lv_lconst (v := 1) hx hb dL_law_1768 rfl ?_
        refine lv_goto (tgt := 1773) hx hb dL_law_1769 (by decide) ?_
        refine W.lcmp hx hb dL_law_1773 ?_
        refine lv_if_eq (tgt := 1779) hx hb dL_law_1774 (by decide) (fun _ => ?_) (fun c9 => absurd (by rw [e9]; exact lg_cmp_self _) c9)
        refine lv_goto (tgt := 3023) hx hb dL_law_1779 (by decide) ?_
        refine W.widen (k := cells + 9300) (n := slots + 100000) (by omega) (by omega) ?_
        exact kk _ _ _ _ _ _ _ _ h Keeps.rf hR hS (lv_sub (hl) [2, 3, 4, 5, 6] rfl)
def sL_23 (κ : Kx) (y : Ly) (post : Wd → Ly → Prop) (n0 : Int64) (w : Wd) (x1 : Int32) : Prop := sp_X0_pass κ y (fun k9 n1 w1 y1 => WFm κ y1 ∧ sp_X8_pass κ y1 (fun b9 w2 y2 => WFc κ y2 ∧ gv w2 20 0 0 = k9 ∧ (k9 = 0 → n1 = b9.toInt64) ∧ post w2 y2) w1 x1) n0 w x1
set_option maxHeartbeats 4000000 in
theorem lc_23 {p : Program} {l : Launch} {e : Env} {s : State} {m : MethodId} {below : List Frame} {meth : Method} {c : Code} {b L : Nat} {xs : Nat → Int32} {κ : Kx} {Q : State → Prop} {w : Wd} {y : Ly} {oa : Nat} {n0 : Int64} {d0 : UInt64} {s0 : Value} {H : Heap} {locs : List Loc} {ls : Array Slot} {cells slots j : Nat} {post : Wd → Ly → Prop} (F : LF p l s m meth c b L xs κ) (hm : mon s.heap (y.2 3 0)) (hR : Rp κ w y (oX oa n0 d0 s0) [] H) (hS : va_S (Af κ) s.heap H locs) (hW : WFc κ y) (hM : WFm κ y) (hl : lv_has ls 8 [(0, .ref b), (1, .ref (y.2 0 0)), (2, .ref (y.2 20 0)), (3, .ref oa), (4, .int (nI j))]) (hj : j + 5 ≤ L) (hC : cells + 9300 ≤ rmL.cells) (hSl : slots + 100000 ≤ rmL.slots) (h : sL_23 κ y post n0 w (xs (j + 1))) (kk : ∀ (w2 : Wd) (y2 : Ly) (n1 : Int64) (d1 : UInt64) (s1 : Value) (H1 : Heap) (locs1 : List Loc) (ls1 : Array Slot), post w2 y2 → Keeps y y2 → Rp κ w2 y2 (oX oa n1 d1 s1) [] H1 → va_S (Af κ) s.heap H1 locs1 → lv_has ls1 8 [(0, .ref b), (1, .ref (y.2 0 0)), (2, .ref (y.2 20 0)), (3, .ref oa), (4, .int (nI j))] → W p l e rmL s m #[.ref b] below meth c H1 locs1 (cells + 9300) (slots + 100000) Q (F0 m 3023 ls1 [])) : W p l e rmL s m #[.ref b] below meth c H locs cells slots Q (F0 m 1782 ls []) := by
  obtain ⟨hx, hb, hr, hml, hlk, hown, hts, hfl, hK, hPx, hX9, hbl, hz9, hL9⟩ := F
  have hbA : ¬ Af κ b := fun h9 => Nat.lt_irrefl _ (Nat.lt_of_lt_of_le hbl h9)
  have hbs : b < s.heap.size := Nat.lt_of_lt_of_le hbl hz9
  have a1 : nI j + (1 : Int32) = nI (j + 1) := nI_add j 1
  have c1 : (nI (j + 1)).toNatClampNeg = j + 1 := nI_clamp (by omega)
  have v1 : vp_in (nI (j + 1)) L := vp_in_nI (by omega) (by omega)
  unfold sL_23 at h
  refine lv_aload_n hx hb dL_law_1782 rfl (lv_at hl 1 rfl) ?_
  refine lv_aload_n hx hb dL_law_1783 rfl (lv_at hl 0 rfl) ?_
  refine lv_iload hx hb dL_law_1784 (lv_at hl 4 rfl) ?_
  refine lv_iconst (v := (1 : Int32)) hx hb dL_law_1786 (by decide) ?_
  refine lv_iadd hx hb dL_law_1787 ?_
  rw [a1]
  refine va_sld hx hb hX9 hbs hbA hS v1 dL_law_1788 ?_
  rw [c1]
  refine lv_aload_n hx hb dL_law_1789 rfl (lv_at hl 3 rfl) ?_
  refine vx_calli (crx_SW (n := 3) (As := [.ref (y.2 0 0), .int (xs (j + 1)), .ref oa]) (rest := []) ⟨hx, hb, hml, hown, hts⟩ hK hR (m_X0_pass (X := xl (oX oa n0 d0 s0) []) hfl hW hW.pub (Or.inl ⟨rfl, rfl⟩) h) q1500 q1501 q73 q1502 rfl rfl hdL_pass ⟨Nat.le_of_ble_eq_true rfl, Nat.le_of_ble_eq_true rfl⟩ rfl rfl hl.1 rfl (lv_room (Nat.le_of_ble_eq_true rfl)) dL_law_1790 ⟨(Nat.le_trans (show cells + 4517 ≤ cells + 9300 from by omega) hC), (Nat.le_trans (show slots + 16350 ≤ slots + 100000 from by omega) hSl)⟩) hS (fun _ _ h => h) (fun _ h => h) (fun _ _ h => h) (fun E9 ce9 q9 u t H1 locs1 e1 _ hu => hu.elim) (fun k9 u t H1 locs1 ht _ hp hB hz8 _ hS => ?_)
  obtain ⟨w1, y1, n1⟩ := u
  dsimp only at hp hB
  obtain ⟨hB, hW1, hLe⟩ := hB
  have hKp : Keeps y y1 := Keeps.le hLe
  obtain ⟨hM1, h⟩ := hp
  have hR : Rp κ w1 y1 (oX oa n1 d0 s0) [] H1 := by rw [← ht]; exact hB.wk (fun _ _ h => by obtain ⟨rfl, rfl⟩ := h; exact Or.inl ⟨rfl, rfl⟩)
  have eL20 := hKp.a20
  refine lv_istore (lv' := [(5, .int k9), (0, .ref b), (1, .ref (y.2 0 0)), (2, .ref (y.2 20 0)), (3, .ref oa), (4, .int (nI j))]) hx hb dL_law_1793 hl (by decide) rfl (fun ls hl => ?_)
  refine lv_aload_n hx hb dL_law_1795 rfl (lv_at hl 3 rfl) ?_
  refine lv_aload_n hx hb dL_law_1796 rfl (lv_at hl 1 rfl) ?_
  refine lv_iload hx hb dL_law_1797 (lv_at hl 5 rfl) ?_
  refine lv_iconst (v := (1 : Int32)) hx hb dL_law_1799 (by decide) ?_
  refine lv_iadd hx hb dL_law_1800 ?_
  rw [a1]
  refine va_sld hx hb hX9 hbs hbA hS v1 dL_law_1801 ?_
  rw [c1]
  rw [← hKp.a20]
  refine cey_qi (P := fun u : Wd × Ly => WFm κ u.2 ∧ LeS y1 u.2) (fw := fun u : Wd × Ly => u.1) (fy := fun u => u.2) (cr_V (n := 1) (As := [.int (xs (j + 1))]) (rest := []) ⟨hx, hb, hml, hown, hts⟩ hK hR (m_X8_pass hM1 hM1.mro h) q2397 q2398 q2399 q85 q2400 rfl rfl hd_X8_pass ⟨Nat.le_of_ble_eq_true rfl, Nat.le_of_ble_eq_true rfl⟩ (rv hK hR hM1.mro (ci := 11) rfl rfl) rfl rfl hl.1 rfl (lv_room (Nat.le_of_ble_eq_true rfl)) dL_law_1802 ⟨(Nat.le_trans (show cells + 4517 + 2751 ≤ cells + 9300 from by omega) hC), (Nat.le_trans (show slots + 16350 + 14406 ≤ slots + 100000 from by omega) hSl)⟩) hR hS (fun b9 u H1 locs1 hp hP9 hR _ hS => ?_)
  obtain ⟨w2, y2⟩ := u
  dsimp only at hp hP9 hR
  obtain ⟨hM2, hLe2⟩ := hP9
  have hKp2 : Keeps y1 y2 := Keeps.le hLe2
  obtain ⟨hW2, h⟩ := hp
  have hKp := ((Keeps.rf.tr hKp).tr hKp2)
  obtain ⟨e7, e9, h⟩ := h
  refine lv_istore (lv' := [(6, .int b9), (5, .int k9), (0, .ref b), (1, .ref (y.2 0 0)), (2, .ref (y.2 20 0)), (3, .ref oa), (4, .int (nI j))]) hx hb dL_law_1805 hl (by decide) rfl (fun ls hl => ?_)
  refine lv_aload_n hx hb dL_law_1807 rfl (lv_at hl 4 rfl) ?_
  rw [← hKp.a20]
  refine ce_qi (fw := fun u => u) (fy := fun _ => y2) (cr_V (n := 0) (As := []) (rest := []) ⟨hx, hb, hml, hown, hts⟩ hK hR (m_X8_thrown (post := fun r9 u9 => r9 = gv w2 20 0 0 ∧ u9 = w2) hM2 hM2.mro ⟨rfl, rfl⟩) q2012 q2013 q2014 q85 q2015 rfl rfl hd_X8_thrown ⟨Nat.le_of_ble_eq_true rfl, Nat.le_of_ble_eq_true rfl⟩ (rv hK hR hM2.mro (ci := 11) rfl rfl) rfl rfl hl.1 rfl (lv_room (Nat.le_of_ble_eq_true rfl)) dL_law_1808 ⟨(Nat.le_trans (show cells + 4517 + 2751 + 0 ≤ cells + 9300 from by omega) hC), (Nat.le_trans (show slots + 16350 + 14406 + 0 ≤ slots + 100000 from by omega) hSl)⟩) hR hS (fun t9 w3 H1 locs1 ht9 hR _ hS => ?_)
  obtain ⟨et9, rfl⟩ := ht9
  rw [et9, e7]
  refine lv_iload hx hb dL_law_1811 (lv_at hl 1 rfl) ?_
  refine lv_icmp_eq (tgt := 1818) hx hb dL_law_1813 (by decide) (fun _ => ?_) (fun c9 => absurd rfl c9)
  refine lv_iload hx hb dL_law_1818 (lv_at hl 1 rfl) ?_
  refine lv_if_ne (tgt := 1836) hx hb dL_law_1820 (by decide) (fun c9 => ?_) (fun c9 => ?_)
  · skip
    refine lv_goto (tgt := 3023) hx hb dL_law_1836 (by decide) ?_
    refine W.widen (k := cells + 9300) (n := slots + 100000) (by omega) (by omega) ?_
    exact kk _ _ _ _ _ _ _ _ h ((Keeps.rf.tr hKp).tr hKp2) hR hS (lv_sub (hl) [2, 3, 4, 5, 6] rfl)
  · have c9 : k9 = 0 := by first | exact c9 | exact Decidable.of_not_not c9
    have e9 := e9 c9
    refine lv_aload_n hx hb dL_law_1823 rfl (lv_at hl 5 rfl) ?_
    refine va_getN (host := "PublicanryLaw") (T := TX9) (N := 3) (v := .long n1) hx hb hts in_X9 hown hK.1 (va_P1 (hR.2.2.2.1 _ _ ⟨rfl, rfl⟩).1) 0 rfl rfl 0 (by decide) (va_Nw.use rfl (hK.2.1.2.1 _ (List.mem_of_getElem? (i := 1) rfl))) (fun _ h => h) rfl dL_law_1824 ?_
    refine lv_iload hx hb dL_law_1827 (lv_at hl 0 rfl) ?_
    refine lv_i2l hx hb dL_law_1829 rfl ?_
    refine W.lcmp hx hb dL_law_1830 ?_
    refine lv_if_eq (tgt := 1836) hx hb dL_law_1831 (by decide) (fun _ => ?_) (fun c9 => absurd (by rw [e9]; exact lg_cmp_self _) c9)
    refine lv_goto (tgt := 3023) hx hb dL_law_1836 (by decide) ?_
    refine W.widen (k := cells + 9300) (n := slots + 100000) (by omega) (by omega) ?_
    exact kk _ _ _ _ _ _ _ _ h ((Keeps.rf.tr hKp).tr hKp2) hR hS (lv_sub (hl) [2, 3, 4, 5, 6] rfl)
