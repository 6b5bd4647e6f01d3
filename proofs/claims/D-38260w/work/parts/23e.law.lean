/-! THE LAW's CASES (printed by wip gen/law.py) -/
set_option maxRecDepth 100000
def sL_32 (κ : Kx) (y : Ly) (post : Wd → Ly → Prop) (n0 : Int64) (w : Wd) (x1 : Int32) : Prop := sp_X0_land κ y (fun k9 n1 w1 => sp_X8_land κ y (fun b9 w2 => gv w2 20 0 0 = k9 ∧ (k9 = 0 → n1 = b9.toInt64) ∧ post w2 y) w1 x1) n0 w x1
set_option maxHeartbeats 4000000 in
theorem lc_32 {p : Program} {l : Launch} {e : Env} {s : State} {m : MethodId} {below : List Frame} {meth : Method} {c : Code} {b L : Nat} {xs : Nat → Int32} {κ : Kx} {Q : State → Prop} {w : Wd} {y : Ly} {oa : Nat} {n0 : Int64} {d0 : UInt64} {s0 : Value} {H : Heap} {locs : List Loc} {ls : Array Slot} {cells slots j : Nat} {post : Wd → Ly → Prop} (F : LF p l s m meth c b L xs κ) (hm : mon s.heap (y.2 3 0)) (hR : Rp κ w y (oX oa n0 d0 s0) [] H) (hS : va_S (Af κ) s.heap H locs) (hW : WFc κ y) (hM : WFm κ y) (hl : lv_has ls 8 [(0, .ref b), (1, .ref (y.2 0 0)), (2, .ref (y.2 20 0)), (3, .ref oa), (4, .int (nI j))]) (hj : j + 5 ≤ L) (hC : cells + 9300 ≤ rmL.cells) (hSl : slots + 100000 ≤ rmL.slots) (h : sL_32 κ y post n0 w (xs (j + 1))) (kk : ∀ (w2 : Wd) (y2 : Ly) (n1 : Int64) (d1 : UInt64) (s1 : Value) (H1 : Heap) (locs1 : List Loc) (ls1 : Array Slot), post w2 y2 → Keeps y y2 → Rp κ w2 y2 (oX oa n1 d1 s1) [] H1 → va_S (Af κ) s.heap H1 locs1 → lv_has ls1 8 [(0, .ref b), (1, .ref (y.2 0 0)), (2, .ref (y.2 20 0)), (3, .ref oa), (4, .int (nI j))] → W p l e rmL s m #[.ref b] below meth c H1 locs1 (cells + 9300) (slots + 100000) Q (F0 m 3023 ls1 [])) : W p l e rmL s m #[.ref b] below meth c H locs cells slots Q (F0 m 2403 ls []) := by
  obtain ⟨hx, hb, hr, hml, hlk, hown, hts, hfl, hK, hPx, hX9, hbl, hz9, hL9⟩ := F
  have hbA : ¬ Af κ b := fun h9 => Nat.lt_irrefl _ (Nat.lt_of_lt_of_le hbl h9)
  have hbs : b < s.heap.size := Nat.lt_of_lt_of_le hbl hz9
  have a1 : nI j + (1 : Int32) = nI (j + 1) := nI_add j 1
  have c1 : (nI (j + 1)).toNatClampNeg = j + 1 := nI_clamp (by omega)
  have v1 : vp_in (nI (j + 1)) L := vp_in_nI (by omega) (by omega)
  unfold sL_32 at h
  refine lv_aload_n hx hb dL_law_2403 rfl (lv_at hl 1 rfl) ?_
  refine lv_aload_n hx hb dL_law_2404 rfl (lv_at hl 0 rfl) ?_
  refine lv_iload hx hb dL_law_2405 (lv_at hl 4 rfl) ?_
  refine lv_iconst (v := (1 : Int32)) hx hb dL_law_2407 (by decide) ?_
  refine lv_iadd hx hb dL_law_2408 ?_
  rw [a1]
  refine va_sld hx hb hX9 hbs hbA hS v1 dL_law_2409 ?_
  rw [c1]
  refine lv_aload_n hx hb dL_law_2410 rfl (lv_at hl 3 rfl) ?_
  refine W.mon hm (fun hm9 => ?_)
  refine vx_calli (crm_SW (n := 3) (As := [.ref (y.2 0 0), .int (xs (j + 1)), .ref oa]) (rest := []) ⟨hx, hb, hml, hown, hts⟩ hK hR hm9 (m_X0_land (X := xl (oX oa n0 d0 s0) []) hfl hW hW.pub (Or.inl ⟨rfl, rfl⟩) h) q1644 q1645 q73 q1646 rfl rfl hdL_land ⟨Nat.le_of_ble_eq_true rfl, Nat.le_of_ble_eq_true rfl⟩ rfl rfl hl.1 rfl (lv_room (Nat.le_of_ble_eq_true rfl)) dL_law_2411 ⟨(Nat.le_trans (show cells + 2 ≤ cells + 9300 from by omega) hC), (Nat.le_trans (show slots + 10 ≤ slots + 100000 from by omega) hSl)⟩) hS (fun _ _ h => h) (fun _ h => h) (fun _ _ h => h) (fun E9 ce9 q9 u t H1 locs1 e1 _ hu => hu.elim) (fun k9 u t H1 locs1 ht _ hp hB hz8 _ hS => ?_)
  obtain ⟨w1, n1⟩ := u
  dsimp only at hp hB
  replace h := hp
  have hR : Rp κ w1 y (oX oa n1 d0 s0) [] H1 := by rw [← ht]; exact hB.wk (fun _ _ h => by obtain ⟨rfl, rfl⟩ := h; exact Or.inl ⟨rfl, rfl⟩)
  refine lv_istore (lv' := [(5, .int k9), (0, .ref b), (1, .ref (y.2 0 0)), (2, .ref (y.2 20 0)), (3, .ref oa), (4, .int (nI j))]) hx hb dL_law_2414 hl (by decide) rfl (fun ls hl => ?_)
  refine lv_aload_n hx hb dL_law_2416 rfl (lv_at hl 3 rfl) ?_
  refine lv_aload_n hx hb dL_law_2417 rfl (lv_at hl 1 rfl) ?_
  refine lv_iload hx hb dL_law_2418 (lv_at hl 5 rfl) ?_
  refine lv_iconst (v := (1 : Int32)) hx hb dL_law_2420 (by decide) ?_
  refine lv_iadd hx hb dL_law_2421 ?_
  rw [a1]
  refine va_sld hx hb hX9 hbs hbA hS v1 dL_law_2422 ?_
  rw [c1]
  refine ce_qi (fw := fun u => u) (fy := fun _ => y) (cr_V (n := 1) (As := [.int (xs (j + 1))]) (rest := []) ⟨hx, hb, hml, hown, hts⟩ hK hR (m_X8_land hM hM.mro h) q2554 q2555 q2556 q85 q2557 rfl rfl hd_X8_land ⟨Nat.le_of_ble_eq_true rfl, Nat.le_of_ble_eq_true rfl⟩ (rv hK hR hM.mro (ci := 11) rfl rfl) rfl rfl hl.1 rfl (lv_room (Nat.le_of_ble_eq_true rfl)) dL_law_2423 ⟨(Nat.le_trans (show cells + 2 + 2 ≤ cells + 9300 from by omega) hC), (Nat.le_trans (show slots + 10 + 21 ≤ slots + 100000 from by omega) hSl)⟩) hR hS (fun b9 w2 H1 locs1 h hR _ hS => ?_)
  obtain ⟨e7, e9, h⟩ := h
  refine lv_istore (lv' := [(6, .int b9), (5, .int k9), (0, .ref b), (1, .ref (y.2 0 0)), (2, .ref (y.2 20 0)), (3, .ref oa), (4, .int (nI j))]) hx hb dL_law_2426 hl (by decide) rfl (fun ls hl => ?_)
  refine lv_aload_n hx hb dL_law_2428 rfl (lv_at hl 4 rfl) ?_
  refine ce_qi (fw := fun u => u) (fy := fun _ => y) (cr_V (n := 0) (As := []) (rest := []) ⟨hx, hb, hml, hown, hts⟩ hK hR (m_X8_thrown (post := fun r9 u9 => r9 = gv w2 20 0 0 ∧ u9 = w2) hM hM.mro ⟨rfl, rfl⟩) q2012 q2013 q2014 q85 q2015 rfl rfl hd_X8_thrown ⟨Nat.le_of_ble_eq_true rfl, Nat.le_of_ble_eq_true rfl⟩ (rv hK hR hM.mro (ci := 11) rfl rfl) rfl rfl hl.1 rfl (lv_room (Nat.le_of_ble_eq_true rfl)) dL_law_2429 ⟨(Nat.le_trans (show cells + 2 + 2 + 0 ≤ cells + 9300 from by omega) hC), (Nat.le_trans (show slots + 10 + 21 + 0 ≤ slots + 100000 from by omega) hSl)⟩) hR hS (fun t9 w3 H1 locs1 ht9 hR _ hS => ?_)
  obtain ⟨et9, rfl⟩ := ht9
  rw [et9, e7]
  refine lv_iload hx hb dL_law_2432 (lv_at hl 1 rfl) ?_
  refine lv_icmp_eq (tgt := 2439) hx hb dL_law_2434 (by decide) (fun _ => ?_) (fun c9 => absurd rfl c9)
  refine lv_iload hx hb dL_law_2439 (lv_at hl 1 rfl) ?_
  refine lv_if_ne (tgt := 2457) hx hb dL_law_2441 (by decide) (fun c9 => ?_) (fun c9 => ?_)
  · skip
    refine lv_goto (tgt := 3023) hx hb dL_law_2457 (by decide) ?_
    refine W.widen (k := cells + 9300) (n := slots + 100000) (by omega) (by omega) ?_
    exact kk _ _ _ _ _ _ _ _ h Keeps.rf hR hS (lv_sub (hl) [2, 3, 4, 5, 6] rfl)
  · have c9 : k9 = 0 := by first | exact c9 | exact Decidable.of_not_not c9
    have e9 := e9 c9
    refine lv_aload_n hx hb dL_law_2444 rfl (lv_at hl 5 rfl) ?_
    refine va_getN (host := "PublicanryLaw") (T := TX9) (N := 3) (v := .long n1) hx hb hts in_X9 hown hK.1 (va_P1 (hR.2.2.2.1 _ _ ⟨rfl, rfl⟩).1) 0 rfl rfl 0 (by decide) (va_Nw.use rfl (hK.2.1.2.1 _ (List.mem_of_getElem? (i := 1) rfl))) (fun _ h => h) rfl dL_law_2445 ?_
    refine lv_iload hx hb dL_law_2448 (lv_at hl 0 rfl) ?_
    refine lv_i2l hx hb dL_law_2450 rfl ?_
    refine W.lcmp hx hb dL_law_2451 ?_
    refine lv_if_eq (tgt := 2457) hx hb dL_law_2452 (by decide) (fun _ => ?_) (fun c9 => absurd (by rw [e9]; exact lg_cmp_self _) c9)
    refine lv_goto (tgt := 3023) hx hb dL_law_2457 (by decide) ?_
    refine W.widen (k := cells + 9300) (n := slots + 100000) (by omega) (by omega) ?_
    exact kk _ _ _ _ _ _ _ _ h Keeps.rf hR hS (lv_sub (hl) [2, 3, 4, 5, 6] rfl)
def sL_34 (κ : Kx) (y : Ly) (post : Wd → Ly → Prop) (n0 : UInt64) (w : Wd) (x1 : Int32) : Prop := sp_X0_gain κ y (fun k9 n1 w1 => sp_X8_gain κ y (fun b9 w2 => gv w2 20 0 0 = k9 ∧ (k9 = 0 → n1 = b9) ∧ post w2 y) w1 x1) n0 w x1
set_option maxHeartbeats 4000000 in
theorem lc_34 {p : Program} {l : Launch} {e : Env} {s : State} {m : MethodId} {below : List Frame} {meth : Method} {c : Code} {b L : Nat} {xs : Nat → Int32} {κ : Kx} {Q : State → Prop} {w : Wd} {y : Ly} {oa : Nat} {n0 : Int64} {d0 : UInt64} {s0 : Value} {H : Heap} {locs : List Loc} {ls : Array Slot} {cells slots j : Nat} {post : Wd → Ly → Prop} (F : LF p l s m meth c b L xs κ) (hm : mon s.heap (y.2 3 0)) (hR : Rp κ w y (oX oa n0 d0 s0) [] H) (hS : va_S (Af κ) s.heap H locs) (hW : WFc κ y) (hM : WFm κ y) (hl : lv_has ls 8 [(0, .ref b), (1, .ref (y.2 0 0)), (2, .ref (y.2 20 0)), (3, .ref oa), (4, .int (nI j))]) (hj : j + 5 ≤ L) (hC : cells + 9300 ≤ rmL.cells) (hSl : slots + 100000 ≤ rmL.slots) (h : sL_34 κ y post d0 w (xs (j + 1))) (kk : ∀ (w2 : Wd) (y2 : Ly) (n1 : Int64) (d1 : UInt64) (s1 : Value) (H1 : Heap) (locs1 : List Loc) (ls1 : Array Slot), post w2 y2 → Keeps y y2 → Rp κ w2 y2 (oX oa n1 d1 s1) [] H1 → va_S (Af κ) s.heap H1 locs1 → lv_has ls1 8 [(0, .ref b), (1, .ref (y.2 0 0)), (2, .ref (y.2 20 0)), (3, .ref oa), (4, .int (nI j))] → W p l e rmL s m #[.ref b] below meth c H1 locs1 (cells + 9300) (slots + 100000) Q (F0 m 3023 ls1 [])) : W p l e rmL s m #[.ref b] below meth c H locs cells slots Q (F0 m 2518 ls []) := by
  obtain ⟨hx, hb, hr, hml, hlk, hown, hts, hfl, hK, hPx, hX9, hbl, hz9, hL9⟩ := F
  have hbA : ¬ Af κ b := fun h9 => Nat.lt_irrefl _ (Nat.lt_of_lt_of_le hbl h9)
  have hbs : b < s.heap.size := Nat.lt_of_lt_of_le hbl hz9
  have a1 : nI j + (1 : Int32) = nI (j + 1) := nI_add j 1
  have c1 : (nI (j + 1)).toNatClampNeg = j + 1 := nI_clamp (by omega)
  have v1 : vp_in (nI (j + 1)) L := vp_in_nI (by omega) (by omega)
  unfold sL_34 at h
  refine lv_aload_n hx hb dL_law_2518 rfl (lv_at hl 1 rfl) ?_
  refine lv_aload_n hx hb dL_law_2519 rfl (lv_at hl 0 rfl) ?_
  refine lv_iload hx hb dL_law_2520 (lv_at hl 4 rfl) ?_
  refine lv_iconst (v := (1 : Int32)) hx hb dL_law_2522 (by decide) ?_
  refine lv_iadd hx hb dL_law_2523 ?_
  rw [a1]
  refine va_sld hx hb hX9 hbs hbA hS v1 dL_law_2524 ?_
  rw [c1]
  refine lv_aload_n hx hb dL_law_2525 rfl (lv_at hl 3 rfl) ?_
  refine vx_calli (crx_SW (n := 3) (As := [.ref (y.2 0 0), .int (xs (j + 1)), .ref oa]) (rest := []) ⟨hx, hb, hml, hown, hts⟩ hK hR (m_X0_gain (X := xl (oX oa n0 d0 s0) []) hfl hW hW.pub (Or.inl ⟨rfl, rfl⟩) h) q1885 q1886 q73 q1887 rfl rfl hdL_gain ⟨Nat.le_of_ble_eq_true rfl, Nat.le_of_ble_eq_true rfl⟩ rfl rfl hl.1 rfl (lv_room (Nat.le_of_ble_eq_true rfl)) dL_law_2526 ⟨(Nat.le_trans (show cells + 1 ≤ cells + 9300 from by omega) hC), (Nat.le_trans (show slots + 6 ≤ slots + 100000 from by omega) hSl)⟩) hS (fun _ _ h => h) (fun _ h => h) (fun _ _ h => h) (fun E9 ce9 q9 u t H1 locs1 e1 _ hu => hu.elim) (fun k9 u t H1 locs1 ht _ hp hB hz8 _ hS => ?_)
  obtain ⟨w1, d1⟩ := u
  dsimp only at hp hB
  replace h := hp
  have hR : Rp κ w1 y (oX oa n0 d1 s0) [] H1 := by rw [← ht]; exact hB.wk (fun _ _ h => by obtain ⟨rfl, rfl⟩ := h; exact Or.inl ⟨rfl, rfl⟩)
  refine lv_istore (lv' := [(5, .int k9), (0, .ref b), (1, .ref (y.2 0 0)), (2, .ref (y.2 20 0)), (3, .ref oa), (4, .int (nI j))]) hx hb dL_law_2529 hl (by decide) rfl (fun ls hl => ?_)
  refine lv_aload_n hx hb dL_law_2531 rfl (lv_at hl 3 rfl) ?_
  refine lv_aload_n hx hb dL_law_2532 rfl (lv_at hl 1 rfl) ?_
  refine lv_iload hx hb dL_law_2533 (lv_at hl 5 rfl) ?_
  refine lv_iconst (v := (1 : Int32)) hx hb dL_law_2535 (by decide) ?_
  refine lv_iadd hx hb dL_law_2536 ?_
  rw [a1]
  refine va_sld hx hb hX9 hbs hbA hS v1 dL_law_2537 ?_
  rw [c1]
  refine ce_qd (fw := fun u => u) (fy := fun _ => y) (cr_V (n := 1) (As := [.int (xs (j + 1))]) (rest := []) ⟨hx, hb, hml, hown, hts⟩ hK hR (m_X8_gain hM hM.mro h) q2577 q2578 q2579 q85 q2580 rfl rfl hd_X8_gain ⟨Nat.le_of_ble_eq_true rfl, Nat.le_of_ble_eq_true rfl⟩ (rv hK hR hM.mro (ci := 11) rfl rfl) rfl rfl hl.1 rfl (lv_room (Nat.le_of_ble_eq_true rfl)) dL_law_2538 ⟨(Nat.le_trans (show cells + 1 + 0 ≤ cells + 9300 from by omega) hC), (Nat.le_trans (show slots + 6 + 0 ≤ slots + 100000 from by omega) hSl)⟩) hR hS (fun b9 w2 H1 locs1 h hR _ hS => ?_)
  obtain ⟨e7, e9, h⟩ := h
  refine lv_dstore (lv' := [(6, .double b9), (5, .int k9), (0, .ref b), (1, .ref (y.2 0 0)), (2, .ref (y.2 20 0)), (3, .ref oa), (4, .int (nI j))]) hx hb dL_law_2541 hl (by decide) rfl (fun ls hl => ?_)
  refine lv_aload_n hx hb dL_law_2543 rfl (lv_at hl 4 rfl) ?_
  refine ce_qi (fw := fun u => u) (fy := fun _ => y) (cr_V (n := 0) (As := []) (rest := []) ⟨hx, hb, hml, hown, hts⟩ hK hR (m_X8_thrown (post := fun r9 u9 => r9 = gv w2 20 0 0 ∧ u9 = w2) hM hM.mro ⟨rfl, rfl⟩) q2012 q2013 q2014 q85 q2015 rfl rfl hd_X8_thrown ⟨Nat.le_of_ble_eq_true rfl, Nat.le_of_ble_eq_true rfl⟩ (rv hK hR hM.mro (ci := 11) rfl rfl) rfl rfl hl.1 rfl (lv_room (Nat.le_of_ble_eq_true rfl)) dL_law_2544 ⟨(Nat.le_trans (show cells + 1 + 0 + 0 ≤ cells + 9300 from by omega) hC), (Nat.le_trans (show slots + 6 + 0 + 0 ≤ slots + 100000 from by omega) hSl)⟩) hR hS (fun t9 w3 H1 locs1 ht9 hR _ hS => ?_)
  obtain ⟨et9, rfl⟩ := ht9
  rw [et9, e7]
  refine lv_iload hx hb dL_law_2547 (lv_at hl 1 rfl) ?_
  refine lv_icmp_eq (tgt := 2554) hx hb dL_law_2549 (by decide) (fun _ => ?_) (fun c9 => absurd rfl c9)
  refine lv_iload hx hb dL_law_2554 (lv_at hl 1 rfl) ?_
  refine lv_if_ne (tgt := 2591) hx hb dL_law_2556 (by decide) (fun c9 => ?_) (fun c9 => ?_)
  · skip
    refine lv_goto (tgt := 3023) hx hb dL_law_2591 (by decide) ?_
    refine W.widen (k := cells + 9300) (n := slots + 100000) (by omega) (by omega) ?_
    exact kk _ _ _ _ _ _ _ _ h Keeps.rf hR hS (lv_sub (hl) [2, 3, 4, 5, 6] rfl)
  · have c9 : k9 = 0 := by first | exact c9 | exact Decidable.of_not_not c9
    have e9 := e9 c9
    refine lv_aload_n hx hb dL_law_2559 rfl (lv_at hl 5 rfl) ?_
    refine va_getN (host := "PublicanryLaw") (T := TX9) (N := 3) (v := .double d1) hx hb hts in_X9 hown hK.1 (va_P1 (hR.2.2.2.1 _ _ ⟨rfl, rfl⟩).1) 0 rfl rfl 1 (by decide) (va_Nw.use rfl (hK.2.1.2.1 _ (List.mem_of_getElem? (i := 2) rfl))) (fun _ h => h) rfl dL_law_2560 ?_
    refine lv_dload hx hb dL_law_2563 (lv_at hl 0 rfl) ?_
    refine lv_dcmp hx hb dL_law_2565 ?_
    refine lv_if_eq (tgt := 2591) hx hb dL_law_2566 (by decide) (fun _ => ?_) (fun c9 => ?_)
    · skip
      refine lv_goto (tgt := 3023) hx hb dL_law_2591 (by decide) ?_
      refine W.widen (k := cells + 9300) (n := slots + 100000) (by omega) (by omega) ?_
      exact kk _ _ _ _ _ _ _ _ h Keeps.rf hR hS (lv_sub (hl) [2, 3, 4, 5, 6] rfl)
    · rw [e9] at c9
      refine lv_aload_n hx hb dL_law_2569 rfl (lv_at hl 5 rfl) ?_
      refine va_getN (host := "PublicanryLaw") (T := TX9) (N := 3) (v := .double d1) hx hb hts in_X9 hown hK.1 (va_P1 (hR.2.2.2.1 _ _ ⟨rfl, rfl⟩).1) 0 rfl rfl 1 (by decide) (va_Nw.use rfl (hK.2.1.2.1 _ (List.mem_of_getElem? (i := 2) rfl))) (fun _ h => h) rfl dL_law_2570 ?_
      refine lv_aload_n hx hb dL_law_2573 rfl (lv_at hl 5 rfl) ?_
      refine va_getN (host := "PublicanryLaw") (T := TX9) (N := 3) (v := .double d1) hx hb hts in_X9 hown hK.1 (va_P1 (hR.2.2.2.1 _ _ ⟨rfl, rfl⟩).1) 0 rfl rfl 1 (by decide) (va_Nw.use rfl (hK.2.1.2.1 _ (List.mem_of_getElem? (i := 2) rfl))) (fun _ h => h) rfl dL_law_2574 ?_
      refine lv_dcmp hx hb dL_law_2577 ?_
      refine lv_if_eq (tgt := 2589) hx hb dL_law_2578 (by decide) (fun c8 => absurd (by rw [e9] at c8; exact c8) c9) (fun _ => ?_)
      refine lv_dload hx hb dL_law_2581 (lv_at hl 0 rfl) ?_
      refine lv_dload hx hb dL_law_2583 (lv_at hl 0 rfl) ?_
      refine lv_dcmp hx hb dL_law_2585 ?_
      refine lv_if_ne (tgt := 2591) hx hb dL_law_2586 (by decide) (fun _ => ?_) (fun c8 => absurd c8 c9)
      refine lv_goto (tgt := 3023) hx hb dL_law_2591 (by decide) ?_
      refine W.widen (k := cells + 9300) (n := slots + 100000) (by omega) (by omega) ?_
      exact kk _ _ _ _ _ _ _ _ h Keeps.rf hR hS (lv_sub (hl) [2, 3, 4, 5, 6] rfl)
def sL_35 (κ : Kx) (y : Ly) (post : Wd → Ly → Prop) (n0 : Int64) (w : Wd) (x1 : Int32) (x2 : Int32) : Prop := sp_X0_wouldBring κ y (fun k9 n1 w1 => sp_X8_wouldBring κ y (fun b9 w2 => gv w2 20 0 0 = k9 ∧ (k9 = 0 → n1 = b9.toInt64) ∧ post w2 y) w1 x1 x2) n0 w x1 x2
set_option maxHeartbeats 4000000 in
theorem lc_35 {p : Program} {l : Launch} {e : Env} {s : State} {m : MethodId} {below : List Frame} {meth : Method} {c : Code} {b L : Nat} {xs : Nat → Int32} {κ : Kx} {Q : State → Prop} {w : Wd} {y : Ly} {oa : Nat} {n0 : Int64} {d0 : UInt64} {s0 : Value} {H : Heap} {locs : List Loc} {ls : Array Slot} {cells slots j : Nat} {post : Wd → Ly → Prop} (F : LF p l s m meth c b L xs κ) (hm : mon s.heap (y.2 3 0)) (hR : Rp κ w y (oX oa n0 d0 s0) [] H) (hS : va_S (Af κ) s.heap H locs) (hW : WFc κ y) (hM : WFm κ y) (hl : lv_has ls 8 [(0, .ref b), (1, .ref (y.2 0 0)), (2, .ref (y.2 20 0)), (3, .ref oa), (4, .int (nI j))]) (hj : j + 5 ≤ L) (hC : cells + 9300 ≤ rmL.cells) (hSl : slots + 100000 ≤ rmL.slots) (h : sL_35 κ y post n0 w (xs (j + 1)) (xs (j + 2))) (kk : ∀ (w2 : Wd) (y2 : Ly) (n1 : Int64) (d1 : UInt64) (s1 : Value) (H1 : Heap) (locs1 : List Loc) (ls1 : Array Slot), post w2 y2 → Keeps y y2 → Rp κ w2 y2 (oX oa n1 d1 s1) [] H1 → va_S (Af κ) s.heap H1 locs1 → lv_has ls1 8 [(0, .ref b), (1, .ref (y.2 0 0)), (2, .ref (y.2 20 0)), (3, .ref oa), (4, .int (nI j))] → W p l e rmL s m #[.ref b] below meth c H1 locs1 (cells + 9300) (slots + 100000) Q (F0 m 3023 ls1 [])) : W p l e rmL s m #[.ref b] below meth c H locs cells slots Q (F0 m 2594 ls []) := by
  obtain ⟨hx, hb, hr, hml, hlk, hown, hts, hfl, hK, hPx, hX9, hbl, hz9, hL9⟩ := F
  have hbA : ¬ Af κ b := fun h9 => Nat.lt_irrefl _ (Nat.lt_of_lt_of_le hbl h9)
  have hbs : b < s.heap.size := Nat.lt_of_lt_of_le hbl hz9
  have a1 : nI j + (1 : Int32) = nI (j + 1) := nI_add j 1
  have c1 : (nI (j + 1)).toNatClampNeg = j + 1 := nI_clamp (by omega)
  have v1 : vp_in (nI (j + 1)) L := vp_in_nI (by omega) (by omega)
  have a2 : nI j + (2 : Int32) = nI (j + 2) := nI_add j 2
  have c2 : (nI (j + 2)).toNatClampNeg = j + 2 := nI_clamp (by omega)
  have v2 : vp_in (nI (j + 2)) L := vp_in_nI (by omega) (by omega)
  unfold sL_35 at h
  refine lv_aload_n hx hb dL_law_2594 rfl (lv_at hl 1 rfl) ?_
  refine lv_aload_n hx hb dL_law_2595 rfl (lv_at hl 0 rfl) ?_
  refine lv_iload hx hb dL_law_2596 (lv_at hl 4 rfl) ?_
  refine lv_iconst (v := (1 : Int32)) hx hb dL_law_2598 (by decide) ?_
  refine lv_iadd hx hb dL_law_2599 ?_
  rw [a1]
  refine va_sld hx hb hX9 hbs hbA hS v1 dL_law_2600 ?_
  rw [c1]
  refine lv_aload_n hx hb dL_law_2601 rfl (lv_at hl 0 rfl) ?_
  refine lv_iload hx hb dL_law_2602 (lv_at hl 4 rfl) ?_
  refine lv_iconst (v := (2 : Int32)) hx hb dL_law_2604 (by decide) ?_
  refine lv_iadd hx hb dL_law_2605 ?_
  rw [a2]
  refine va_sld hx hb hX9 hbs hbA hS v2 dL_law_2606 ?_
  rw [c2]
  refine lv_aload_n hx hb dL_law_2607 rfl (lv_at hl 3 rfl) ?_
  refine vx_calli (crx_SW (n := 4) (As := [.ref (y.2 0 0), .int (xs (j + 1)), .int (xs (j + 2)), .ref oa]) (rest := []) ⟨hx, hb, hml, hown, hts⟩ hK hR (m_X0_wouldBring (X := xl (oX oa n0 d0 s0) []) hfl hW hW.pub (Or.inl ⟨rfl, rfl⟩) h) q1892 q1893 q73 q1894 rfl rfl hdL_wouldBring ⟨Nat.le_of_ble_eq_true rfl, Nat.le_of_ble_eq_true rfl⟩ rfl rfl hl.1 rfl (lv_room (Nat.le_of_ble_eq_true rfl)) dL_law_2608 ⟨(Nat.le_trans (show cells + 3 ≤ cells + 9300 from by omega) hC), (Nat.le_trans (show slots + 16 ≤ slots + 100000 from by omega) hSl)⟩) hS (fun _ _ h => h) (fun _ h => h) (fun _ _ h => h) (fun E9 ce9 q9 u t H1 locs1 e1 _ hu => hu.elim) (fun k9 u t H1 locs1 ht _ hp hB hz8 _ hS => ?_)
  obtain ⟨w1, n1⟩ := u
  dsimp only at hp hB
  replace h := hp
  have hR : Rp κ w1 y (oX oa n1 d0 s0) [] H1 := by rw [← ht]; exact hB.wk (fun _ _ h => by obtain ⟨rfl, rfl⟩ := h; exact Or.inl ⟨rfl, rfl⟩)
  refine lv_istore (lv' := [(5, .int k9), (0, .ref b), (1, .ref (y.2 0 0)), (2, .ref (y.2 20 0)), (3, .ref oa), (4, .int (nI j))]) hx hb dL_law_2611 hl (by decide) rfl (fun ls hl => ?_)
  refine lv_aload_n hx hb dL_law_2613 rfl (lv_at hl 3 rfl) ?_
  refine lv_aload_n hx hb dL_law_2614 rfl (lv_at hl 1 rfl) ?_
  refine lv_iload hx hb dL_law_2615 (lv_at hl 5 rfl) ?_
  refine lv_iconst (v := (1 : Int32)) hx hb dL_law_2617 (by decide) ?_
  refine lv_iadd hx hb dL_law_2618 ?_
  rw [a1]
  refine va_sld hx hb hX9 hbs hbA hS v1 dL_law_2619 ?_
  rw [c1]
  refine lv_aload_n hx hb dL_law_2620 rfl (lv_at hl 1 rfl) ?_
  refine lv_iload hx hb dL_law_2621 (lv_at hl 5 rfl) ?_
  refine lv_iconst (v := (2 : Int32)) hx hb dL_law_2623 (by decide) ?_
  refine lv_iadd hx hb dL_law_2624 ?_
  rw [a2]
  refine va_sld hx hb hX9 hbs hbA hS v2 dL_law_2625 ?_
  rw [c2]
  refine ce_qi (fw := fun u => u) (fy := fun _ => y) (cr_V (n := 2) (As := [.int (xs (j + 1)), .int (xs (j + 2))]) (rest := []) ⟨hx, hb, hml, hown, hts⟩ hK hR (m_X8_wouldBring hM hM.mro h) q2585 q2586 q2587 q85 q2588 rfl rfl hd_X8_wouldBring ⟨Nat.le_of_ble_eq_true rfl, Nat.le_of_ble_eq_true rfl⟩ (rv hK hR hM.mro (ci := 11) rfl rfl) rfl rfl hl.1 rfl (lv_room (Nat.le_of_ble_eq_true rfl)) dL_law_2626 ⟨(Nat.le_trans (show cells + 3 + 0 ≤ cells + 9300 from by omega) hC), (Nat.le_trans (show slots + 16 + 0 ≤ slots + 100000 from by omega) hSl)⟩) hR hS (fun b9 w2 H1 locs1 h hR _ hS => ?_)
  obtain ⟨e7, e9, h⟩ := h
  refine lv_istore (lv' := [(6, .int b9), (5, .int k9), (0, .ref b), (1, .ref (y.2 0 0)), (2, .ref (y.2 20 0)), (3, .ref oa), (4, .int (nI j))]) hx hb dL_law_2629 hl (by decide) rfl (fun ls hl => ?_)
  refine lv_aload_n hx hb dL_law_2631 rfl (lv_at hl 4 rfl) ?_
  refine ce_qi (fw := fun u => u) (fy := fun _ => y) (cr_V (n := 0) (As := []) (rest := []) ⟨hx, hb, hml, hown, hts⟩ hK hR (m_X8_thrown (post := fun r9 u9 => r9 = gv w2 20 0 0 ∧ u9 = w2) hM hM.mro ⟨rfl, rfl⟩) q2012 q2013 q2014 q85 q2015 rfl rfl hd_X8_thrown ⟨Nat.le_of_ble_eq_true rfl, Nat.le_of_ble_eq_true rfl⟩ (rv hK hR hM.mro (ci := 11) rfl rfl) rfl rfl hl.1 rfl (lv_room (Nat.le_of_ble_eq_true rfl)) dL_law_2632 ⟨(Nat.le_trans (show cells + 3 + 0 + 0 ≤ cells + 9300 from by omega) hC), (Nat.le_trans (show slots + 16 + 0 + 0 ≤ slots + 100000 from by omega) hSl)⟩) hR hS (fun t9 w3 H1 locs1 ht9 hR _ hS => ?_)
  obtain ⟨et9, rfl⟩ := ht9
  rw [et9, e7]
  refine lv_iload hx hb dL_law_2635 (lv_at hl 1 rfl) ?_
  refine lv_icmp_eq (tgt := 2642) hx hb dL_law_2637 (by decide) (fun _ => ?_) (fun c9 => absurd rfl c9)
  refine lv_iload hx hb dL_law_2642 (lv_at hl 1 rfl) ?_
  refine lv_if_ne (tgt := 2660) hx hb dL_law_2644 (by decide) (fun c9 => ?_) (fun c9 => ?_)
  · skip
    refine lv_goto (tgt := 3023) hx hb dL_law_2660 (by decide) ?_
    refine W.widen (k := cells + 9300) (n := slots + 100000) (by omega) (by omega) ?_
    exact kk _ _ _ _ _ _ _ _ h Keeps.rf hR hS (lv_sub (hl) [2, 3, 4, 5, 6] rfl)
  · have c9 : k9 = 0 := by first | exact c9 | exact Decidable.of_not_not c9
    have e9 := e9 c9
    refine lv_aload_n hx hb dL_law_2647 rfl (lv_at hl 5 rfl) ?_
    refine va_getN (host := "PublicanryLaw") (T := TX9) (N := 3) (v := .long n1) hx hb hts in_X9 hown hK.1 (va_P1 (hR.2.2.2.1 _ _ ⟨rfl, rfl⟩).1) 0 rfl rfl 0 (by decide) (va_Nw.use rfl (hK.2.1.2.1 _ (List.mem_of_getElem? (i := 1) rfl))) (fun _ h => h) rfl dL_law_2648 ?_
    refine lv_iload hx hb dL_law_2651 (lv_at hl 0 rfl) ?_
    refine lv_i2l hx hb dL_law_2653 rfl ?_
    refine W.lcmp hx hb dL_law_2654 ?_
    refine lv_if_eq (tgt := 2660) hx hb dL_law_2655 (by decide) (fun _ => ?_) (fun c9 => absurd (by rw [e9]; exact lg_cmp_self _) c9)
    refine lv_goto (tgt := 3023) hx hb dL_law_2660 (by decide) ?_
    refine W.widen (k := cells + 9300) (n := slots + 100000) (by omega) (by omega) ?_
    exact kk _ _ _ _ _ _ _ _ h Keeps.rf hR hS (lv_sub (hl) [2, 3, 4, 5, 6] rfl)
def sL_36 (κ : Kx) (y : Ly) (post : Wd → Ly → Prop) (n0 : Int64) (w : Wd) (x1 : Int32) : Prop := sp_X0_bestForce κ y (fun k9 n1 w1 => sp_X8_bestForce κ y (fun b9 w2 => gv w2 20 0 0 = k9 ∧ (k9 = 0 → n1 = b9.toInt64) ∧ post w2 y) w1 x1) n0 w x1
set_option maxHeartbeats 4000000 in
theorem lc_36 {p : Program} {l : Launch} {e : Env} {s : State} {m : MethodId} {below : List Frame} {meth : Method} {c : Code} {b L : Nat} {xs : Nat → Int32} {κ : Kx} {Q : State → Prop} {w : Wd} {y : Ly} {oa : Nat} {n0 : Int64} {d0 : UInt64} {s0 : Value} {H : Heap} {locs : List Loc} {ls : Array Slot} {cells slots j : Nat} {post : Wd → Ly → Prop} (F : LF p l s m meth c b L xs κ) (hm : mon s.heap (y.2 3 0)) (hR : Rp κ w y (oX oa n0 d0 s0) [] H) (hS : va_S (Af κ) s.heap H locs) (hW : WFc κ y) (hM : WFm κ y) (hl : lv_has ls 8 [(0, .ref b), (1, .ref (y.2 0 0)), (2, .ref (y.2 20 0)), (3, .ref oa), (4, .int (nI j))]) (hj : j + 5 ≤ L) (hC : cells + 9300 ≤ rmL.cells) (hSl : slots + 100000 ≤ rmL.slots) (h : sL_36 κ y post n0 w (xs (j + 1))) (kk : ∀ (w2 : Wd) (y2 : Ly) (n1 : Int64) (d1 : UInt64) (s1 : Value) (H1 : Heap) (locs1 : List Loc) (ls1 : Array Slot), post w2 y2 → Keeps y y2 → Rp κ w2 y2 (oX oa n1 d1 s1) [] H1 → va_S (Af κ) s.heap H1 locs1 → lv_has ls1 8 [(0, .ref b), (1, .ref (y.2 0 0)), (2, .ref (y.2 20 0)), (3, .ref oa), (4, .int (nI j))] → W p l e rmL s m #[.ref b] below meth c H1 locs1 (cells + 9300) (slots + 100000) Q (F0 m 3023 ls1 [])) : W p l e rmL s m #[.ref b] below meth c H locs cells slots Q (F0 m 2663 ls []) := by
  obtain ⟨hx, hb, hr, hml, hlk, hown, hts, hfl, hK, hPx, hX9, hbl, hz9, hL9⟩ := F
  have hbA : ¬ Af κ b := fun h9 => Nat.lt_irrefl _ (Nat.lt_of_lt_of_le hbl h9)
  have hbs : b < s.heap.size := Nat.lt_of_lt_of_le hbl hz9
  have a1 : nI j + (1 : Int32) = nI (j + 1) := nI_add j 1
  have c1 : (nI (j + 1)).toNatClampNeg = j + 1 := nI_clamp (by omega)
  have v1 : vp_in (nI (j + 1)) L := vp_in_nI (by omega) (by omega)
  unfold sL_36 at h
  refine lv_aload_n hx hb dL_law_2663 rfl (lv_at hl 1 rfl) ?_
  refine lv_aload_n hx hb dL_law_2664 rfl (lv_at hl 0 rfl) ?_
  refine lv_iload hx hb dL_law_2665 (lv_at hl 4 rfl) ?_
  refine lv_iconst (v := (1 : Int32)) hx hb dL_law_2667 (by decide) ?_
  refine lv_iadd hx hb dL_law_2668 ?_
  rw [a1]
  refine va_sld hx hb hX9 hbs hbA hS v1 dL_law_2669 ?_
  rw [c1]
  refine lv_aload_n hx hb dL_law_2670 rfl (lv_at hl 3 rfl) ?_
  refine vx_calli (crx_SW (n := 3) (As := [.ref (y.2 0 0), .int (xs (j + 1)), .ref oa]) (rest := []) ⟨hx, hb, hml, hown, hts⟩ hK hR (m_X0_bestForce (X := xl (oX oa n0 d0 s0) []) hfl hW hW.pub (Or.inl ⟨rfl, rfl⟩) h) q1899 q1900 q73 q1901 rfl rfl hdL_bestForce ⟨Nat.le_of_ble_eq_true rfl, Nat.le_of_ble_eq_true rfl⟩ rfl rfl hl.1 rfl (lv_room (Nat.le_of_ble_eq_true rfl)) dL_law_2671 ⟨(Nat.le_trans (show cells + 9 ≤ cells + 9300 from by omega) hC), (Nat.le_trans (show slots + 38 ≤ slots + 100000 from by omega) hSl)⟩) hS (fun _ _ h => h) (fun _ h => h) (fun _ _ h => h) (fun E9 ce9 q9 u t H1 locs1 e1 _ hu => hu.elim) (fun k9 u t H1 locs1 ht _ hp hB hz8 _ hS => ?_)
  obtain ⟨w1, n1⟩ := u
  dsimp only at hp hB
  replace h := hp
  have hR : Rp κ w1 y (oX oa n1 d0 s0) [] H1 := by rw [← ht]; exact hB.wk (fun _ _ h => by obtain ⟨rfl, rfl⟩ := h; exact Or.inl ⟨rfl, rfl⟩)
  refine lv_istore (lv' := [(5, .int k9), (0, .ref b), (1, .ref (y.2 0 0)), (2, .ref (y.2 20 0)), (3, .ref oa), (4, .int (nI j))]) hx hb dL_law_2674 hl (by decide) rfl (fun ls hl => ?_)
  refine lv_aload_n hx hb dL_law_2676 rfl (lv_at hl 3 rfl) ?_
  refine lv_aload_n hx hb dL_law_2677 rfl (lv_at hl 1 rfl) ?_
  refine lv_iload hx hb dL_law_2678 (lv_at hl 5 rfl) ?_
  refine lv_iconst (v := (1 : Int32)) hx hb dL_law_2680 (by decide) ?_
  refine lv_iadd hx hb dL_law_2681 ?_
  rw [a1]
  refine va_sld hx hb hX9 hbs hbA hS v1 dL_law_2682 ?_
  rw [c1]
  refine ce_qi (fw := fun u => u) (fy := fun _ => y) (cr_V (n := 1) (As := [.int (xs (j + 1))]) (rest := []) ⟨hx, hb, hml, hown, hts⟩ hK hR (m_X8_bestForce hM hM.mro h) q2593 q2594 q2595 q85 q2596 rfl rfl hd_X8_bestForce ⟨Nat.le_of_ble_eq_true rfl, Nat.le_of_ble_eq_true rfl⟩ (rv hK hR hM.mro (ci := 11) rfl rfl) rfl rfl hl.1 rfl (lv_room (Nat.le_of_ble_eq_true rfl)) dL_law_2683 ⟨(Nat.le_trans (show cells + 9 + 0 ≤ cells + 9300 from by omega) hC), (Nat.le_trans (show slots + 38 + 0 ≤ slots + 100000 from by omega) hSl)⟩) hR hS (fun b9 w2 H1 locs1 h hR _ hS => ?_)
  obtain ⟨e7, e9, h⟩ := h
  refine lv_istore (lv' := [(6, .int b9), (5, .int k9), (0, .ref b), (1, .ref (y.2 0 0)), (2, .ref (y.2 20 0)), (3, .ref oa), (4, .int (nI j))]) hx hb dL_law_2686 hl (by decide) rfl (fun ls hl => ?_)
  refine lv_aload_n hx hb dL_law_2688 rfl (lv_at hl 4 rfl) ?_
  refine ce_qi (fw := fun u => u) (fy := fun _ => y) (cr_V (n := 0) (As := []) (rest := []) ⟨hx, hb, hml, hown, hts⟩ hK hR (m_X8_thrown (post := fun r9 u9 => r9 = gv w2 20 0 0 ∧ u9 = w2) hM hM.mro ⟨rfl, rfl⟩) q2012 q2013 q2014 q85 q2015 rfl rfl hd_X8_thrown ⟨Nat.le_of_ble_eq_true rfl, Nat.le_of_ble_eq_true rfl⟩ (rv hK hR hM.mro (ci := 11) rfl rfl) rfl rfl hl.1 rfl (lv_room (Nat.le_of_ble_eq_true rfl)) dL_law_2689 ⟨(Nat.le_trans (show cells + 9 + 0 + 0 ≤ cells + 9300 from by omega) hC), (Nat.le_trans (show slots + 38 + 0 + 0 ≤ slots + 100000 from by omega) hSl)⟩) hR hS (fun t9 w3 H1 locs1 ht9 hR _ hS => ?_)
  obtain ⟨et9, rfl⟩ := ht9
  rw [et9, e7]
  refine lv_iload hx hb dL_law_2692 (lv_at hl 1 rfl) ?_
  refine lv_icmp_eq (tgt := 2699) hx hb dL_law_2694 (by decide) (fun _ => ?_) (fun c9 => absurd rfl c9)
  refine lv_iload hx hb dL_law_2699 (lv_at hl 1 rfl) ?_
  refine lv_if_ne (tgt := 2717) hx hb dL_law_2701 (by decide) (fun c9 => ?_) (fun c9 => ?_)
  · skip
    refine lv_goto (tgt := 3023) hx hb dL_law_2717 (by decide) ?_
    refine W.widen (k := cells + 9300) (n := slots + 100000) (by omega) (by omega) ?_
    exact kk _ _ _ _ _ _ _ _ h Keeps.rf hR hS (lv_sub (hl) [2, 3, 4, 5, 6] rfl)
  · have c9 : k9 = 0 := by first | exact c9 | exact Decidable.of_not_not c9
    have e9 := e9 c9
    refine lv_aload_n hx hb dL_law_2704 rfl (lv_at hl 5 rfl) ?_
    refine va_getN (host := "PublicanryLaw") (T := TX9) (N := 3) (v := .long n1) hx hb hts in_X9 hown hK.1 (va_P1 (hR.2.2.2.1 _ _ ⟨rfl, rfl⟩).1) 0 rfl rfl 0 (by decide) (va_Nw.use rfl (hK.2.1.2.1 _ (List.mem_of_getElem? (i := 1) rfl))) (fun _ h => h) rfl dL_law_2705 ?_
    refine lv_iload hx hb dL_law_2708 (lv_at hl 0 rfl) ?_
    refine lv_i2l hx hb dL_law_2710 rfl ?_
    refine W.lcmp hx hb dL_law_2711 ?_
    refine lv_if_eq (tgt := 2717) hx hb dL_law_2712 (by decide) (fun _ => ?_) (fun c9 => absurd (by rw [e9]; exact lg_cmp_self _) c9)
    refine lv_goto (tgt := 3023) hx hb dL_law_2717 (by decide) ?_
    refine W.widen (k := cells + 9300) (n := slots + 100000) (by omega) (by omega) ?_
    exact kk _ _ _ _ _ _ _ _ h Keeps.rf hR hS (lv_sub (hl) [2, 3, 4, 5, 6] rfl)
def sL_37 (κ : Kx) (y : Ly) (post : Wd → Ly → Prop) (n0 : Int64) (w : Wd) (x1 : Int32) (x2 : Int32) (x3 : Int32) (x4 : Int32) : Prop := sp_X0_votes κ y (fun k9 n1 w1 => sp_X8_votes κ y (fun b9 w2 => gv w2 20 0 0 = k9 ∧ (k9 = 0 → n1 = b9.toInt64) ∧ post w2 y) w1 x1 x2 x3 x4) n0 w x1 x2 x3 x4
set_option maxHeartbeats 4000000 in
theorem lc_37 {p : Program} {l : Launch} {e : Env} {s : State} {m : MethodId} {below : List Frame} {meth : Method} {c : Code} {b L : Nat} {xs : Nat → Int32} {κ : Kx} {Q : State → Prop} {w : Wd} {y : Ly} {oa : Nat} {n0 : Int64} {d0 : UInt64} {s0 : Value} {H : Heap} {locs : List Loc} {ls : Array Slot} {cells slots j : Nat} {post : Wd → Ly → Prop} (F : LF p l s m meth c b L xs κ) (hm : mon s.heap (y.2 3 0)) (hR : Rp κ w y (oX oa n0 d0 s0) [] H) (hS : va_S (Af κ) s.heap H locs) (hW : WFc κ y) (hM : WFm κ y) (hl : lv_has ls 8 [(0, .ref b), (1, .ref (y.2 0 0)), (2, .ref (y.2 20 0)), (3, .ref oa), (4, .int (nI j))]) (hj : j + 5 ≤ L) (hC : cells + 9300 ≤ rmL.cells) (hSl : slots + 100000 ≤ rmL.slots) (h : sL_37 κ y post n0 w (xs (j + 1)) (xs (j + 2)) (xs (j + 3)) (xs (j + 4))) (kk : ∀ (w2 : Wd) (y2 : Ly) (n1 : Int64) (d1 : UInt64) (s1 : Value) (H1 : Heap) (locs1 : List Loc) (ls1 : Array Slot), post w2 y2 → Keeps y y2 → Rp κ w2 y2 (oX oa n1 d1 s1) [] H1 → va_S (Af κ) s.heap H1 locs1 → lv_has ls1 8 [(0, .ref b), (1, .ref (y.2 0 0)), (2, .ref (y.2 20 0)), (3, .ref oa), (4, .int (nI j))] → W p l e rmL s m #[.ref b] below meth c H1 locs1 (cells + 9300) (slots + 100000) Q (F0 m 3023 ls1 [])) : W p l e rmL s m #[.ref b] below meth c H locs cells slots Q (F0 m 2720 ls []) := by
  obtain ⟨hx, hb, hr, hml, hlk, hown, hts, hfl, hK, hPx, hX9, hbl, hz9, hL9⟩ := F
  have hbA : ¬ Af κ b := fun h9 => Nat.lt_irrefl _ (Nat.lt_of_lt_of_le hbl h9)
  have hbs : b < s.heap.size := Nat.lt_of_lt_of_le hbl hz9
  have a1 : nI j + (1 : Int32) = nI (j + 1) := nI_add j 1
  have c1 : (nI (j + 1)).toNatClampNeg = j + 1 := nI_clamp (by omega)
  have v1 : vp_in (nI (j + 1)) L := vp_in_nI (by omega) (by omega)
  have a2 : nI j + (2 : Int32) = nI (j + 2) := nI_add j 2
  have c2 : (nI (j + 2)).toNatClampNeg = j + 2 := nI_clamp (by omega)
  have v2 : vp_in (nI (j + 2)) L := vp_in_nI (by omega) (by omega)
  have a3 : nI j + (3 : Int32) = nI (j + 3) := nI_add j 3
  have c3 : (nI (j + 3)).toNatClampNeg = j + 3 := nI_clamp (by omega)
  have v3 : vp_in (nI (j + 3)) L := vp_in_nI (by omega) (by omega)
  have a4 : nI j + (4 : Int32) = nI (j + 4) := nI_add j 4
  have c4 : (nI (j + 4)).toNatClampNeg = j + 4 := nI_clamp (by omega)
  have v4 : vp_in (nI (j + 4)) L := vp_in_nI (by omega) (by omega)
  unfold sL_37 at h
  refine lv_aload_n hx hb dL_law_2720 rfl (lv_at hl 1 rfl) ?_
  refine lv_aload_n hx hb dL_law_2721 rfl (lv_at hl 0 rfl) ?_
  refine lv_iload hx hb dL_law_2722 (lv_at hl 4 rfl) ?_
  refine lv_iconst (v := (1 : Int32)) hx hb dL_law_2724 (by decide) ?_
  refine lv_iadd hx hb dL_law_2725 ?_
  rw [a1]
  refine va_sld hx hb hX9 hbs hbA hS v1 dL_law_2726 ?_
  rw [c1]
  refine lv_aload_n hx hb dL_law_2727 rfl (lv_at hl 0 rfl) ?_
  refine lv_iload hx hb dL_law_2728 (lv_at hl 4 rfl) ?_
  refine lv_iconst (v := (2 : Int32)) hx hb dL_law_2730 (by decide) ?_
  refine lv_iadd hx hb dL_law_2731 ?_
  rw [a2]
  refine va_sld hx hb hX9 hbs hbA hS v2 dL_law_2732 ?_
  rw [c2]
  refine lv_aload_n hx hb dL_law_2733 rfl (lv_at hl 0 rfl) ?_
  refine lv_iload hx hb dL_law_2734 (lv_at hl 4 rfl) ?_
  refine lv_iconst (v := (3 : Int32)) hx hb dL_law_2736 (by decide) ?_
  refine lv_iadd hx hb dL_law_2737 ?_
  rw [a3]
  refine va_sld hx hb hX9 hbs hbA hS v3 dL_law_2738 ?_
  rw [c3]
  refine lv_aload_n hx hb dL_law_2739 rfl (lv_at hl 0 rfl) ?_
  refine lv_iload hx hb dL_law_2740 (lv_at hl 4 rfl) ?_
  refine lv_iconst (v := (4 : Int32)) hx hb dL_law_2742 (by decide) ?_
  refine lv_iadd hx hb dL_law_2743 ?_
  rw [a4]
  refine va_sld hx hb hX9 hbs hbA hS v4 dL_law_2744 ?_
  rw [c4]
  refine lv_aload_n hx hb dL_law_2745 rfl (lv_at hl 3 rfl) ?_
  refine vx_calli (crx_SW (n := 6) (As := [.ref (y.2 0 0), .int (xs (j + 1)), .int (xs (j + 2)), .int (xs (j + 3)), .int (xs (j + 4)), .ref oa]) (rest := []) ⟨hx, hb, hml, hown, hts⟩ hK hR (m_X0_votes (X := xl (oX oa n0 d0 s0) []) hfl hW hW.pub (Or.inl ⟨rfl, rfl⟩) h) q1906 q1907 q73 q1908 rfl rfl hdL_votes ⟨Nat.le_of_ble_eq_true rfl, Nat.le_of_ble_eq_true rfl⟩ rfl rfl hl.1 rfl (lv_room (Nat.le_of_ble_eq_true rfl)) dL_law_2746 ⟨(Nat.le_trans (show cells + 4 ≤ cells + 9300 from by omega) hC), (Nat.le_trans (show slots + 21 ≤ slots + 100000 from by omega) hSl)⟩) hS (fun _ _ h => h) (fun _ h => h) (fun _ _ h => h) (fun E9 ce9 q9 u t H1 locs1 e1 _ hu => hu.elim) (fun k9 u t H1 locs1 ht _ hp hB hz8 _ hS => ?_)
  obtain ⟨w1, n1⟩ := u
  dsimp only at hp hB
  replace h := hp
  have hR : Rp κ w1 y (oX oa n1 d0 s0) [] H1 := by rw [← ht]; exact hB.wk (fun _ _ h => by obtain ⟨rfl, rfl⟩ := h; exact Or.inl ⟨rfl, rfl⟩)
  refine lv_istore (lv' := [(5, .int k9), (0, .ref b), (1, .ref (y.2 0 0)), (2, .ref (y.2 20 0)), (3, .ref oa), (4, .int (nI j))]) hx hb dL_law_2749 hl (by decide) rfl (fun ls hl => ?_)
  refine lv_aload_n hx hb dL_law_2751 rfl (lv_at hl 3 rfl) ?_
  refine lv_aload_n hx hb dL_law_2752 rfl (lv_at hl 1 rfl) ?_
  refine lv_iload hx hb dL_law_2753 (lv_at hl 5 rfl) ?_
  refine lv_iconst (v := (1 : Int32)) hx hb dL_law_2755 (by decide) ?_
  refine lv_iadd hx hb dL_law_2756 ?_
  rw [a1]
  refine va_sld hx hb hX9 hbs hbA hS v1 dL_law_2757 ?_
  rw [c1]
  refine lv_aload_n hx hb dL_law_2758 rfl (lv_at hl 1 rfl) ?_
  refine lv_iload hx hb dL_law_2759 (lv_at hl 5 rfl) ?_
  refine lv_iconst (v := (2 : Int32)) hx hb dL_law_2761 (by decide) ?_
  refine lv_iadd hx hb dL_law_2762 ?_
  rw [a2]
  refine va_sld hx hb hX9 hbs hbA hS v2 dL_law_2763 ?_
  rw [c2]
  refine lv_aload_n hx hb dL_law_2764 rfl (lv_at hl 1 rfl) ?_
  refine lv_iload hx hb dL_law_2765 (lv_at hl 5 rfl) ?_
  refine lv_iconst (v := (3 : Int32)) hx hb dL_law_2767 (by decide) ?_
  refine lv_iadd hx hb dL_law_2768 ?_
  rw [a3]
  refine va_sld hx hb hX9 hbs hbA hS v3 dL_law_2769 ?_
  rw [c3]
  refine lv_aload_n hx hb dL_law_2770 rfl (lv_at hl 1 rfl) ?_
  refine lv_iload hx hb dL_law_2771 (lv_at hl 5 rfl) ?_
  refine lv_iconst (v := (4 : Int32)) hx hb dL_law_2773 (by decide) ?_
  refine lv_iadd hx hb dL_law_2774 ?_
  rw [a4]
  refine va_sld hx hb hX9 hbs hbA hS v4 dL_law_2775 ?_
  rw [c4]
  refine ce_qi (fw := fun u => u) (fy := fun _ => y) (cr_V (n := 4) (As := [.int (xs (j + 1)), .int (xs (j + 2)), .int (xs (j + 3)), .int (xs (j + 4))]) (rest := []) ⟨hx, hb, hml, hown, hts⟩ hK hR (m_X8_votes hM hM.mro h) q2601 q2602 q2603 q85 q2604 rfl rfl hd_X8_votes ⟨Nat.le_of_ble_eq_true rfl, Nat.le_of_ble_eq_true rfl⟩ (rv hK hR hM.mro (ci := 11) rfl rfl) rfl rfl hl.1 rfl (lv_room (Nat.le_of_ble_eq_true rfl)) dL_law_2776 ⟨(Nat.le_trans (show cells + 4 + 0 ≤ cells + 9300 from by omega) hC), (Nat.le_trans (show slots + 21 + 0 ≤ slots + 100000 from by omega) hSl)⟩) hR hS (fun b9 w2 H1 locs1 h hR _ hS => ?_)
  obtain ⟨e7, e9, h⟩ := h
  refine lv_istore (lv' := [(6, .int b9), (5, .int k9), (0, .ref b), (1, .ref (y.2 0 0)), (2, .ref (y.2 20 0)), (3, .ref oa), (4, .int (nI j))]) hx hb dL_law_2779 hl (by decide) rfl (fun ls hl => ?_)
  refine lv_aload_n hx hb dL_law_2781 rfl (lv_at hl 4 rfl) ?_
  refine ce_qi (fw := fun u => u) (fy := fun _ => y) (cr_V (n := 0) (As := []) (rest := []) ⟨hx, hb, hml, hown, hts⟩ hK hR (m_X8_thrown (post := fun r9 u9 => r9 = gv w2 20 0 0 ∧ u9 = w2) hM hM.mro ⟨rfl, rfl⟩) q2012 q2013 q2014 q85 q2015 rfl rfl hd_X8_thrown ⟨Nat.le_of_ble_eq_true rfl, Nat.le_of_ble_eq_true rfl⟩ (rv hK hR hM.mro (ci := 11) rfl rfl) rfl rfl hl.1 rfl (lv_room (Nat.le_of_ble_eq_true rfl)) dL_law_2782 ⟨(Nat.le_trans (show cells + 4 + 0 + 0 ≤ cells + 9300 from by omega) hC), (Nat.le_trans (show slots + 21 + 0 + 0 ≤ slots + 100000 from by omega) hSl)⟩) hR hS (fun t9 w3 H1 locs1 ht9 hR _ hS => ?_)
  obtain ⟨et9, rfl⟩ := ht9
  rw [et9, e7]
  refine lv_iload hx hb dL_law_2785 (lv_at hl 1 rfl) ?_
  refine lv_icmp_eq (tgt := 2792) hx hb dL_law_2787 (by decide) (fun _ => ?_) (fun c9 => absurd rfl c9)
  refine lv_iload hx hb dL_law_2792 (lv_at hl 1 rfl) ?_
  refine lv_if_ne (tgt := 2810) hx hb dL_law_2794 (by decide) (fun c9 => ?_) (fun c9 => ?_)
  · skip
    refine lv_goto (tgt := 3023) hx hb dL_law_2810 (by decide) ?_
    refine W.widen (k := cells + 9300) (n := slots + 100000) (by omega) (by omega) ?_
    exact kk _ _ _ _ _ _ _ _ h Keeps.rf hR hS (lv_sub (hl) [2, 3, 4, 5, 6] rfl)
  · have c9 : k9 = 0 := by first | exact c9 | exact Decidable.of_not_not c9
    have e9 := e9 c9
    refine lv_aload_n hx hb dL_law_2797 rfl (lv_at hl 5 rfl) ?_
    refine va_getN (host := "PublicanryLaw") (T := TX9) (N := 3) (v := .long n1) hx hb hts in_X9 hown hK.1 (va_P1 (hR.2.2.2.1 _ _ ⟨rfl, rfl⟩).1) 0 rfl rfl 0 (by decide) (va_Nw.use rfl (hK.2.1.2.1 _ (List.mem_of_getElem? (i := 1) rfl))) (fun _ h => h) rfl dL_law_2798 ?_
    refine lv_iload hx hb dL_law_2801 (lv_at hl 0 rfl) ?_
    refine lv_i2l hx hb dL_law_2803 rfl ?_
    refine W.lcmp hx hb dL_law_2804 ?_
    refine lv_if_eq (tgt := 2810) hx hb dL_law_2805 (by decide) (fun _ => ?_) (fun c9 => absurd (by rw [e9]; exact lg_cmp_self _) c9)
    refine lv_goto (tgt := 3023) hx hb dL_law_2810 (by decide) ?_
    refine W.widen (k := cells + 9300) (n := slots + 100000) (by omega) (by omega) ?_
    exact kk _ _ _ _ _ _ _ _ h Keeps.rf hR hS (lv_sub (hl) [2, 3, 4, 5, 6] rfl)
def sL_38 (κ : Kx) (y : Ly) (post : Wd → Ly → Prop) (n0 : Int64) (w : Wd) (x1 : Int32) (x2 : Int32) : Prop := sp_X0_harvest κ y (fun k9 n1 w1 => sp_X8_harvest κ y (fun b9 w2 => gv w2 20 0 0 = k9 ∧ (k9 = 0 → n1 = b9.toInt64) ∧ post w2 y) w1 x1 x2) n0 w x1 x2
set_option maxHeartbeats 4000000 in
theorem lc_38 {p : Program} {l : Launch} {e : Env} {s : State} {m : MethodId} {below : List Frame} {meth : Method} {c : Code} {b L : Nat} {xs : Nat → Int32} {κ : Kx} {Q : State → Prop} {w : Wd} {y : Ly} {oa : Nat} {n0 : Int64} {d0 : UInt64} {s0 : Value} {H : Heap} {locs : List Loc} {ls : Array Slot} {cells slots j : Nat} {post : Wd → Ly → Prop} (F : LF p l s m meth c b L xs κ) (hm : mon s.heap (y.2 3 0)) (hR : Rp κ w y (oX oa n0 d0 s0) [] H) (hS : va_S (Af κ) s.heap H locs) (hW : WFc κ y) (hM : WFm κ y) (hl : lv_has ls 8 [(0, .ref b), (1, .ref (y.2 0 0)), (2, .ref (y.2 20 0)), (3, .ref oa), (4, .int (nI j))]) (hj : j + 5 ≤ L) (hC : cells + 9300 ≤ rmL.cells) (hSl : slots + 100000 ≤ rmL.slots) (h : sL_38 κ y post n0 w (xs (j + 1)) (xs (j + 2))) (kk : ∀ (w2 : Wd) (y2 : Ly) (n1 : Int64) (d1 : UInt64) (s1 : Value) (H1 : Heap) (locs1 : List Loc) (ls1 : Array Slot), post w2 y2 → Keeps y y2 → Rp κ w2 y2 (oX oa n1 d1 s1) [] H1 → va_S (Af κ) s.heap H1 locs1 → lv_has ls1 8 [(0, .ref b), (1, .ref (y.2 0 0)), (2, .ref (y.2 20 0)), (3, .ref oa), (4, .int (nI j))] → W p l e rmL s m #[.ref b] below meth c H1 locs1 (cells + 9300) (slots + 100000) Q (F0 m 3023 ls1 [])) : W p l e rmL s m #[.ref b] below meth c H locs cells slots Q (F0 m 2813 ls []) := by
  obtain ⟨hx, hb, hr, hml, hlk, hown, hts, hfl, hK, hPx, hX9, hbl, hz9, hL9⟩ := F
  have hbA : ¬ Af κ b := fun h9 => Nat.lt_irrefl _ (Nat.lt_of_lt_of_le hbl h9)
  have hbs : b < s.heap.size := Nat.lt_of_lt_of_le hbl hz9
  have a1 : nI j + (1 : Int32) = nI (j + 1) := nI_add j 1
  have c1 : (nI (j + 1)).toNatClampNeg = j + 1 := nI_clamp (by omega)
  have v1 : vp_in (nI (j + 1)) L := vp_in_nI (by omega) (by omega)
  have a2 : nI j + (2 : Int32) = nI (j + 2) := nI_add j 2
  have c2 : (nI (j + 2)).toNatClampNeg = j + 2 := nI_clamp (by omega)
  have v2 : vp_in (nI (j + 2)) L := vp_in_nI (by omega) (by omega)
  unfold sL_38 at h
  refine lv_aload_n hx hb dL_law_2813 rfl (lv_at hl 1 rfl) ?_
  refine lv_aload_n hx hb dL_law_2814 rfl (lv_at hl 0 rfl) ?_
  refine lv_iload hx hb dL_law_2815 (lv_at hl 4 rfl) ?_
  refine lv_iconst (v := (1 : Int32)) hx hb dL_law_2817 (by decide) ?_
  refine lv_iadd hx hb dL_law_2818 ?_
  rw [a1]
  refine va_sld hx hb hX9 hbs hbA hS v1 dL_law_2819 ?_
  rw [c1]
  refine lv_aload_n hx hb dL_law_2820 rfl (lv_at hl 0 rfl) ?_
  refine lv_iload hx hb dL_law_2821 (lv_at hl 4 rfl) ?_
  refine lv_iconst (v := (2 : Int32)) hx hb dL_law_2823 (by decide) ?_
  refine lv_iadd hx hb dL_law_2824 ?_
  rw [a2]
  refine va_sld hx hb hX9 hbs hbA hS v2 dL_law_2825 ?_
  rw [c2]
  refine lv_aload_n hx hb dL_law_2826 rfl (lv_at hl 3 rfl) ?_
  refine vx_calli (crx_SW (n := 4) (As := [.ref (y.2 0 0), .int (xs (j + 1)), .int (xs (j + 2)), .ref oa]) (rest := []) ⟨hx, hb, hml, hown, hts⟩ hK hR (m_X0_harvest (X := xl (oX oa n0 d0 s0) []) hfl hW hW.pub (Or.inl ⟨rfl, rfl⟩) h) q1914 q1915 q73 q1916 rfl rfl hdL_harvest ⟨Nat.le_of_ble_eq_true rfl, Nat.le_of_ble_eq_true rfl⟩ rfl rfl hl.1 rfl (lv_room (Nat.le_of_ble_eq_true rfl)) dL_law_2827 ⟨(Nat.le_trans (show cells + 2 ≤ cells + 9300 from by omega) hC), (Nat.le_trans (show slots + 12 ≤ slots + 100000 from by omega) hSl)⟩) hS (fun _ _ h => h) (fun _ h => h) (fun _ _ h => h) (fun E9 ce9 q9 u t H1 locs1 e1 _ hu => hu.elim) (fun k9 u t H1 locs1 ht _ hp hB hz8 _ hS => ?_)
  obtain ⟨w1, n1⟩ := u
  dsimp only at hp hB
  replace h := hp
  have hR : Rp κ w1 y (oX oa n1 d0 s0) [] H1 := by rw [← ht]; exact hB.wk (fun _ _ h => by obtain ⟨rfl, rfl⟩ := h; exact Or.inl ⟨rfl, rfl⟩)
  refine lv_istore (lv' := [(5, .int k9), (0, .ref b), (1, .ref (y.2 0 0)), (2, .ref (y.2 20 0)), (3, .ref oa), (4, .int (nI j))]) hx hb dL_law_2830 hl (by decide) rfl (fun ls hl => ?_)
  refine lv_aload_n hx hb dL_law_2832 rfl (lv_at hl 3 rfl) ?_
  refine lv_aload_n hx hb dL_law_2833 rfl (lv_at hl 1 rfl) ?_
  refine lv_iload hx hb dL_law_2834 (lv_at hl 5 rfl) ?_
  refine lv_iconst (v := (1 : Int32)) hx hb dL_law_2836 (by decide) ?_
  refine lv_iadd hx hb dL_law_2837 ?_
  rw [a1]
  refine va_sld hx hb hX9 hbs hbA hS v1 dL_law_2838 ?_
  rw [c1]
  refine lv_aload_n hx hb dL_law_2839 rfl (lv_at hl 1 rfl) ?_
  refine lv_iload hx hb dL_law_2840 (lv_at hl 5 rfl) ?_
  refine lv_iconst (v := (2 : Int32)) hx hb dL_law_2842 (by decide) ?_
  refine lv_iadd hx hb dL_law_2843 ?_
  rw [a2]
  refine va_sld hx hb hX9 hbs hbA hS v2 dL_law_2844 ?_
  rw [c2]
  refine ce_qi (fw := fun u => u) (fy := fun _ => y) (cr_V (n := 2) (As := [.int (xs (j + 1)), .int (xs (j + 2))]) (rest := []) ⟨hx, hb, hml, hown, hts⟩ hK hR (m_X8_harvest hM hM.mro h) q2605 q2606 q2607 q85 q2608 rfl rfl hd_X8_harvest ⟨Nat.le_of_ble_eq_true rfl, Nat.le_of_ble_eq_true rfl⟩ (rv hK hR hM.mro (ci := 11) rfl rfl) rfl rfl hl.1 rfl (lv_room (Nat.le_of_ble_eq_true rfl)) dL_law_2845 ⟨(Nat.le_trans (show cells + 2 + 0 ≤ cells + 9300 from by omega) hC), (Nat.le_trans (show slots + 12 + 0 ≤ slots + 100000 from by omega) hSl)⟩) hR hS (fun b9 w2 H1 locs1 h hR _ hS => ?_)
  obtain ⟨e7, e9, h⟩ := h
  refine lv_istore (lv' := [(6, .int b9), (5, .int k9), (0, .ref b), (1, .ref (y.2 0 0)), (2, .ref (y.2 20 0)), (3, .ref oa), (4, .int (nI j))]) hx hb dL_law_2848 hl (by decide) rfl (fun ls hl => ?_)
  refine lv_aload_n hx hb dL_law_2850 rfl (lv_at hl 4 rfl) ?_
  refine ce_qi (fw := fun u => u) (fy := fun _ => y) (cr_V (n := 0) (As := []) (rest := []) ⟨hx, hb, hml, hown, hts⟩ hK hR (m_X8_thrown (post := fun r9 u9 => r9 = gv w2 20 0 0 ∧ u9 = w2) hM hM.mro ⟨rfl, rfl⟩) q2012 q2013 q2014 q85 q2015 rfl rfl hd_X8_thrown ⟨Nat.le_of_ble_eq_true rfl, Nat.le_of_ble_eq_true rfl⟩ (rv hK hR hM.mro (ci := 11) rfl rfl) rfl rfl hl.1 rfl (lv_room (Nat.le_of_ble_eq_true rfl)) dL_law_2851 ⟨(Nat.le_trans (show cells + 2 + 0 + 0 ≤ cells + 9300 from by omega) hC), (Nat.le_trans (show slots + 12 + 0 + 0 ≤ slots + 100000 from by omega) hSl)⟩) hR hS (fun t9 w3 H1 locs1 ht9 hR _ hS => ?_)
  obtain ⟨et9, rfl⟩ := ht9
  rw [et9, e7]
  refine lv_iload hx hb dL_law_2854 (lv_at hl 1 rfl) ?_
  refine lv_icmp_eq (tgt := 2861) hx hb dL_law_2856 (by decide) (fun _ => ?_) (fun c9 => absurd rfl c9)
  refine lv_iload hx hb dL_law_2861 (lv_at hl 1 rfl) ?_
  refine lv_if_ne (tgt := 2879) hx hb dL_law_2863 (by decide) (fun c9 => ?_) (fun c9 => ?_)
  · skip
    refine lv_goto (tgt := 3023) hx hb dL_law_2879 (by decide) ?_
    refine W.widen (k := cells + 9300) (n := slots + 100000) (by omega) (by omega) ?_
    exact kk _ _ _ _ _ _ _ _ h Keeps.rf hR hS (lv_sub (hl) [2, 3, 4, 5, 6] rfl)
  · have c9 : k9 = 0 := by first | exact c9 | exact Decidable.of_not_not c9
    have e9 := e9 c9
    refine lv_aload_n hx hb dL_law_2866 rfl (lv_at hl 5 rfl) ?_
    refine va_getN (host := "PublicanryLaw") (T := TX9) (N := 3) (v := .long n1) hx hb hts in_X9 hown hK.1 (va_P1 (hR.2.2.2.1 _ _ ⟨rfl, rfl⟩).1) 0 rfl rfl 0 (by decide) (va_Nw.use rfl (hK.2.1.2.1 _ (List.mem_of_getElem? (i := 1) rfl))) (fun _ h => h) rfl dL_law_2867 ?_
    refine lv_iload hx hb dL_law_2870 (lv_at hl 0 rfl) ?_
    refine lv_i2l hx hb dL_law_2872 rfl ?_
    refine W.lcmp hx hb dL_law_2873 ?_
    refine lv_if_eq (tgt := 2879) hx hb dL_law_2874 (by decide) (fun _ => ?_) (fun c9 => absurd (by rw [e9]; exact lg_cmp_self _) c9)
    refine lv_goto (tgt := 3023) hx hb dL_law_2879 (by decide) ?_
    refine W.widen (k := cells + 9300) (n := slots + 100000) (by omega) (by omega) ?_
    exact kk _ _ _ _ _ _ _ _ h Keeps.rf hR hS (lv_sub (hl) [2, 3, 4, 5, 6] rfl)
def sL_39 (κ : Kx) (y : Ly) (post : Wd → Ly → Prop) (n0 : Int64) (w : Wd) (x1 : Int32) : Prop := sp_X0_direct κ y (fun k9 n1 w1 => sp_X8_direct κ y (fun b9 w2 => gv w2 20 0 0 = k9 ∧ (k9 = 0 → n1 = b9.toInt64) ∧ post w2 y) w1 x1) n0 w x1
set_option maxHeartbeats 4000000 in
theorem lc_39 {p : Program} {l : Launch} {e : Env} {s : State} {m : MethodId} {below : List Frame} {meth : Method} {c : Code} {b L : Nat} {xs : Nat → Int32} {κ : Kx} {Q : State → Prop} {w : Wd} {y : Ly} {oa : Nat} {n0 : Int64} {d0 : UInt64} {s0 : Value} {H : Heap} {locs : List Loc} {ls : Array Slot} {cells slots j : Nat} {post : Wd → Ly → Prop} (F : LF p l s m meth c b L xs κ) (hm : mon s.heap (y.2 3 0)) (hR : Rp κ w y (oX oa n0 d0 s0) [] H) (hS : va_S (Af κ) s.heap H locs) (hW : WFc κ y) (hM : WFm κ y) (hl : lv_has ls 8 [(0, .ref b), (1, .ref (y.2 0 0)), (2, .ref (y.2 20 0)), (3, .ref oa), (4, .int (nI j))]) (hj : j + 5 ≤ L) (hC : cells + 9300 ≤ rmL.cells) (hSl : slots + 100000 ≤ rmL.slots) (h : sL_39 κ y post n0 w (xs (j + 1))) (kk : ∀ (w2 : Wd) (y2 : Ly) (n1 : Int64) (d1 : UInt64) (s1 : Value) (H1 : Heap) (locs1 : List Loc) (ls1 : Array Slot), post w2 y2 → Keeps y y2 → Rp κ w2 y2 (oX oa n1 d1 s1) [] H1 → va_S (Af κ) s.heap H1 locs1 → lv_has ls1 8 [(0, .ref b), (1, .ref (y.2 0 0)), (2, .ref (y.2 20 0)), (3, .ref oa), (4, .int (nI j))] → W p l e rmL s m #[.ref b] below meth c H1 locs1 (cells + 9300) (slots + 100000) Q (F0 m 3023 ls1 [])) : W p l e rmL s m #[.ref b] below meth c H locs cells slots Q (F0 m 2882 ls []) := by
  obtain ⟨hx, hb, hr, hml, hlk, hown, hts, hfl, hK, hPx, hX9, hbl, hz9, hL9⟩ := F
  have hbA : ¬ Af κ b := fun h9 => Nat.lt_irrefl _ (Nat.lt_of_lt_of_le hbl h9)
  have hbs : b < s.heap.size := Nat.lt_of_lt_of_le hbl hz9
  have a1 : nI j + (1 : Int32) = nI (j + 1) := nI_add j 1
  have c1 : (nI (j + 1)).toNatClampNeg = j + 1 := nI_clamp (by omega)
  have v1 : vp_in (nI (j + 1)) L := vp_in_nI (by omega) (by omega)
  unfold sL_39 at h
  refine lv_aload_n hx hb dL_law_2882 rfl (lv_at hl 1 rfl) ?_
  refine lv_aload_n hx hb dL_law_2883 rfl (lv_at hl 0 rfl) ?_
  refine lv_iload hx hb dL_law_2884 (lv_at hl 4 rfl) ?_
  refine lv_iconst (v := (1 : Int32)) hx hb dL_law_2886 (by decide) ?_
  refine lv_iadd hx hb dL_law_2887 ?_
  rw [a1]
  refine va_sld hx hb hX9 hbs hbA hS v1 dL_law_2888 ?_
  rw [c1]
  refine lv_aload_n hx hb dL_law_2889 rfl (lv_at hl 3 rfl) ?_
  refine vx_calli (crx_SW (n := 3) (As := [.ref (y.2 0 0), .int (xs (j + 1)), .ref oa]) (rest := []) ⟨hx, hb, hml, hown, hts⟩ hK hR (m_X0_direct (X := xl (oX oa n0 d0 s0) []) hfl hW hW.pub (Or.inl ⟨rfl, rfl⟩) h) q1923 q1924 q73 q1925 rfl rfl hdL_direct ⟨Nat.le_of_ble_eq_true rfl, Nat.le_of_ble_eq_true rfl⟩ rfl rfl hl.1 rfl (lv_room (Nat.le_of_ble_eq_true rfl)) dL_law_2890 ⟨(Nat.le_trans (show cells + 12 ≤ cells + 9300 from by omega) hC), (Nat.le_trans (show slots + 49 ≤ slots + 100000 from by omega) hSl)⟩) hS (fun _ _ h => h) (fun _ h => h) (fun _ _ h => h) (fun E9 ce9 q9 u t H1 locs1 e1 _ hu => hu.elim) (fun k9 u t H1 locs1 ht _ hp hB hz8 _ hS => ?_)
  obtain ⟨w1, n1⟩ := u
  dsimp only at hp hB
  replace h := hp
  have hR : Rp κ w1 y (oX oa n1 d0 s0) [] H1 := by rw [← ht]; exact hB.wk (fun _ _ h => by obtain ⟨rfl, rfl⟩ := h; exact Or.inl ⟨rfl, rfl⟩)
  refine lv_istore (lv' := [(5, .int k9), (0, .ref b), (1, .ref (y.2 0 0)), (2, .ref (y.2 20 0)), (3, .ref oa), (4, .int (nI j))]) hx hb dL_law_2893 hl (by decide) rfl (fun ls hl => ?_)
  refine lv_aload_n hx hb dL_law_2895 rfl (lv_at hl 3 rfl) ?_
  refine lv_aload_n hx hb dL_law_2896 rfl (lv_at hl 1 rfl) ?_
  refine lv_iload hx hb dL_law_2897 (lv_at hl 5 rfl) ?_
  refine lv_iconst (v := (1 : Int32)) hx hb dL_law_2899 (by decide) ?_
  refine lv_iadd hx hb dL_law_2900 ?_
  rw [a1]
  refine va_sld hx hb hX9 hbs hbA hS v1 dL_law_2901 ?_
  rw [c1]
  refine ce_qi (fw := fun u => u) (fy := fun _ => y) (cr_V (n := 1) (As := [.int (xs (j + 1))]) (rest := []) ⟨hx, hb, hml, hown, hts⟩ hK hR (m_X8_direct hM hM.mro h) q2609 q2610 q2611 q85 q2612 rfl rfl hd_X8_direct ⟨Nat.le_of_ble_eq_true rfl, Nat.le_of_ble_eq_true rfl⟩ (rv hK hR hM.mro (ci := 11) rfl rfl) rfl rfl hl.1 rfl (lv_room (Nat.le_of_ble_eq_true rfl)) dL_law_2902 ⟨(Nat.le_trans (show cells + 12 + 9 ≤ cells + 9300 from by omega) hC), (Nat.le_trans (show slots + 49 + 36 ≤ slots + 100000 from by omega) hSl)⟩) hR hS (fun b9 w2 H1 locs1 h hR _ hS => ?_)
  obtain ⟨e7, e9, h⟩ := h
  refine lv_istore (lv' := [(6, .int b9), (5, .int k9), (0, .ref b), (1, .ref (y.2 0 0)), (2, .ref (y.2 20 0)), (3, .ref oa), (4, .int (nI j))]) hx hb dL_law_2905 hl (by decide) rfl (fun ls hl => ?_)
  refine lv_aload_n hx hb dL_law_2907 rfl (lv_at hl 4 rfl) ?_
  refine ce_qi (fw := fun u => u) (fy := fun _ => y) (cr_V (n := 0) (As := []) (rest := []) ⟨hx, hb, hml, hown, hts⟩ hK hR (m_X8_thrown (post := fun r9 u9 => r9 = gv w2 20 0 0 ∧ u9 = w2) hM hM.mro ⟨rfl, rfl⟩) q2012 q2013 q2014 q85 q2015 rfl rfl hd_X8_thrown ⟨Nat.le_of_ble_eq_true rfl, Nat.le_of_ble_eq_true rfl⟩ (rv hK hR hM.mro (ci := 11) rfl rfl) rfl rfl hl.1 rfl (lv_room (Nat.le_of_ble_eq_true rfl)) dL_law_2908 ⟨(Nat.le_trans (show cells + 12 + 9 + 0 ≤ cells + 9300 from by omega) hC), (Nat.le_trans (show slots + 49 + 36 + 0 ≤ slots + 100000 from by omega) hSl)⟩) hR hS (fun t9 w3 H1 locs1 ht9 hR _ hS => ?_)
  obtain ⟨et9, rfl⟩ := ht9
  rw [et9, e7]
  refine lv_iload hx hb dL_law_2911 (lv_at hl 1 rfl) ?_
  refine lv_icmp_eq (tgt := 2918) hx hb dL_law_2913 (by decide) (fun _ => ?_) (fun c9 => absurd rfl c9)
  refine lv_iload hx hb dL_law_2918 (lv_at hl 1 rfl) ?_
  refine lv_if_ne (tgt := 2936) hx hb dL_law_2920 (by decide) (fun c9 => ?_) (fun c9 => ?_)
  · skip
    refine lv_goto (tgt := 3023) hx hb dL_law_2936 (by decide) ?_
    refine W.widen (k := cells + 9300) (n := slots + 100000) (by omega) (by omega) ?_
    exact kk _ _ _ _ _ _ _ _ h Keeps.rf hR hS (lv_sub (hl) [2, 3, 4, 5, 6] rfl)
  · have c9 : k9 = 0 := by first | exact c9 | exact Decidable.of_not_not c9
    have e9 := e9 c9
    refine lv_aload_n hx hb dL_law_2923 rfl (lv_at hl 5 rfl) ?_
    refine va_getN (host := "PublicanryLaw") (T := TX9) (N := 3) (v := .long n1) hx hb hts in_X9 hown hK.1 (va_P1 (hR.2.2.2.1 _ _ ⟨rfl, rfl⟩).1) 0 rfl rfl 0 (by decide) (va_Nw.use rfl (hK.2.1.2.1 _ (List.mem_of_getElem? (i := 1) rfl))) (fun _ h => h) rfl dL_law_2924 ?_
    refine lv_iload hx hb dL_law_2927 (lv_at hl 0 rfl) ?_
    refine lv_i2l hx hb dL_law_2929 rfl ?_
    refine W.lcmp hx hb dL_law_2930 ?_
    refine lv_if_eq (tgt := 2936) hx hb dL_law_2931 (by decide) (fun _ => ?_) (fun c9 => absurd (by rw [e9]; exact lg_cmp_self _) c9)
    refine lv_goto (tgt := 3023) hx hb dL_law_2936 (by decide) ?_
    refine W.widen (k := cells + 9300) (n := slots + 100000) (by omega) (by omega) ?_
    exact kk _ _ _ _ _ _ _ _ h Keeps.rf hR hS (lv_sub (hl) [2, 3, 4, 5, 6] rfl)
def sL_40 (κ : Kx) (y : Ly) (post : Wd → Ly → Prop) (n0 : Int64) (w : Wd) (x1 : Int32) : Prop := sp_X0_wouldWin κ y (fun k9 n1 w1 => sp_X8_wouldWin κ y (fun b9 w2 => gv w2 20 0 0 = k9 ∧ (k9 = 0 → n1 = b9.toInt64) ∧ post w2 y) w1 x1) n0 w x1
set_option maxHeartbeats 4000000 in
theorem lc_40 {p : Program} {l : Launch} {e : Env} {s : State} {m : MethodId} {below : List Frame} {meth : Method} {c : Code} {b L : Nat} {xs : Nat → Int32} {κ : Kx} {Q : State → Prop} {w : Wd} {y : Ly} {oa : Nat} {n0 : Int64} {d0 : UInt64} {s0 : Value} {H : Heap} {locs : List Loc} {ls : Array Slot} {cells slots j : Nat} {post : Wd → Ly → Prop} (F : LF p l s m meth c b L xs κ) (hm : mon s.heap (y.2 3 0)) (hR : Rp κ w y (oX oa n0 d0 s0) [] H) (hS : va_S (Af κ) s.heap H locs) (hW : WFc κ y) (hM : WFm κ y) (hl : lv_has ls 8 [(0, .ref b), (1, .ref (y.2 0 0)), (2, .ref (y.2 20 0)), (3, .ref oa), (4, .int (nI j))]) (hj : j + 5 ≤ L) (hC : cells + 9300 ≤ rmL.cells) (hSl : slots + 100000 ≤ rmL.slots) (h : sL_40 κ y post n0 w (xs (j + 1))) (kk : ∀ (w2 : Wd) (y2 : Ly) (n1 : Int64) (d1 : UInt64) (s1 : Value) (H1 : Heap) (locs1 : List Loc) (ls1 : Array Slot), post w2 y2 → Keeps y y2 → Rp κ w2 y2 (oX oa n1 d1 s1) [] H1 → va_S (Af κ) s.heap H1 locs1 → lv_has ls1 8 [(0, .ref b), (1, .ref (y.2 0 0)), (2, .ref (y.2 20 0)), (3, .ref oa), (4, .int (nI j))] → W p l e rmL s m #[.ref b] below meth c H1 locs1 (cells + 9300) (slots + 100000) Q (F0 m 3023 ls1 [])) : W p l e rmL s m #[.ref b] below meth c H locs cells slots Q (F0 m 2939 ls []) := by
  obtain ⟨hx, hb, hr, hml, hlk, hown, hts, hfl, hK, hPx, hX9, hbl, hz9, hL9⟩ := F
  have hbA : ¬ Af κ b := fun h9 => Nat.lt_irrefl _ (Nat.lt_of_lt_of_le hbl h9)
  have hbs : b < s.heap.size := Nat.lt_of_lt_of_le hbl hz9
  have a1 : nI j + (1 : Int32) = nI (j + 1) := nI_add j 1
  have c1 : (nI (j + 1)).toNatClampNeg = j + 1 := nI_clamp (by omega)
  have v1 : vp_in (nI (j + 1)) L := vp_in_nI (by omega) (by omega)
  unfold sL_40 at h
  refine lv_aload_n hx hb dL_law_2939 rfl (lv_at hl 1 rfl) ?_
  refine lv_aload_n hx hb dL_law_2940 rfl (lv_at hl 0 rfl) ?_
  refine lv_iload hx hb dL_law_2941 (lv_at hl 4 rfl) ?_
  refine lv_iconst (v := (1 : Int32)) hx hb dL_law_2943 (by decide) ?_
  refine lv_iadd hx hb dL_law_2944 ?_
  rw [a1]
  refine va_sld hx hb hX9 hbs hbA hS v1 dL_law_2945 ?_
  rw [c1]
  refine lv_aload_n hx hb dL_law_2946 rfl (lv_at hl 3 rfl) ?_
  refine vx_calli (crx_SW (n := 3) (As := [.ref (y.2 0 0), .int (xs (j + 1)), .ref oa]) (rest := []) ⟨hx, hb, hml, hown, hts⟩ hK hR (m_X0_wouldWin (X := xl (oX oa n0 d0 s0) []) hfl hW hW.pub (Or.inl ⟨rfl, rfl⟩) h) q1930 q1931 q73 q1932 rfl rfl hdL_wouldWin ⟨Nat.le_of_ble_eq_true rfl, Nat.le_of_ble_eq_true rfl⟩ rfl rfl hl.1 rfl (lv_room (Nat.le_of_ble_eq_true rfl)) dL_law_2947 ⟨(Nat.le_trans (show cells + 6 ≤ cells + 9300 from by omega) hC), (Nat.le_trans (show slots + 22 ≤ slots + 100000 from by omega) hSl)⟩) hS (fun _ _ h => h) (fun _ h => h) (fun _ _ h => h) (fun E9 ce9 q9 u t H1 locs1 e1 _ hu => hu.elim) (fun k9 u t H1 locs1 ht _ hp hB hz8 _ hS => ?_)
  obtain ⟨w1, n1⟩ := u
  dsimp only at hp hB
  replace h := hp
  have hR : Rp κ w1 y (oX oa n1 d0 s0) [] H1 := by rw [← ht]; exact hB.wk (fun _ _ h => by obtain ⟨rfl, rfl⟩ := h; exact Or.inl ⟨rfl, rfl⟩)
  refine lv_istore (lv' := [(5, .int k9), (0, .ref b), (1, .ref (y.2 0 0)), (2, .ref (y.2 20 0)), (3, .ref oa), (4, .int (nI j))]) hx hb dL_law_2950 hl (by decide) rfl (fun ls hl => ?_)
  refine lv_aload_n hx hb dL_law_2952 rfl (lv_at hl 3 rfl) ?_
  refine lv_aload_n hx hb dL_law_2953 rfl (lv_at hl 1 rfl) ?_
  refine lv_iload hx hb dL_law_2954 (lv_at hl 5 rfl) ?_
  refine lv_iconst (v := (1 : Int32)) hx hb dL_law_2956 (by decide) ?_
  refine lv_iadd hx hb dL_law_2957 ?_
  rw [a1]
  refine va_sld hx hb hX9 hbs hbA hS v1 dL_law_2958 ?_
  rw [c1]
  refine ce_qi (fw := fun u => u) (fy := fun _ => y) (cr_V (n := 1) (As := [.int (xs (j + 1))]) (rest := []) ⟨hx, hb, hml, hown, hts⟩ hK hR (m_X8_wouldWin hM hM.mro h) q2617 q2618 q2619 q85 q2620 rfl rfl hd_X8_wouldWin ⟨Nat.le_of_ble_eq_true rfl, Nat.le_of_ble_eq_true rfl⟩ (rv hK hR hM.mro (ci := 11) rfl rfl) rfl rfl hl.1 rfl (lv_room (Nat.le_of_ble_eq_true rfl)) dL_law_2959 ⟨(Nat.le_trans (show cells + 6 + 5 ≤ cells + 9300 from by omega) hC), (Nat.le_trans (show slots + 22 + 20 ≤ slots + 100000 from by omega) hSl)⟩) hR hS (fun b9 w2 H1 locs1 h hR _ hS => ?_)
  obtain ⟨e7, e9, h⟩ := h
  refine lv_istore (lv' := [(6, .int b9), (5, .int k9), (0, .ref b), (1, .ref (y.2 0 0)), (2, .ref (y.2 20 0)), (3, .ref oa), (4, .int (nI j))]) hx hb dL_law_2962 hl (by decide) rfl (fun ls hl => ?_)
  refine lv_aload_n hx hb dL_law_2964 rfl (lv_at hl 4 rfl) ?_
  refine ce_qi (fw := fun u => u) (fy := fun _ => y) (cr_V (n := 0) (As := []) (rest := []) ⟨hx, hb, hml, hown, hts⟩ hK hR (m_X8_thrown (post := fun r9 u9 => r9 = gv w2 20 0 0 ∧ u9 = w2) hM hM.mro ⟨rfl, rfl⟩) q2012 q2013 q2014 q85 q2015 rfl rfl hd_X8_thrown ⟨Nat.le_of_ble_eq_true rfl, Nat.le_of_ble_eq_true rfl⟩ (rv hK hR hM.mro (ci := 11) rfl rfl) rfl rfl hl.1 rfl (lv_room (Nat.le_of_ble_eq_true rfl)) dL_law_2965 ⟨(Nat.le_trans (show cells + 6 + 5 + 0 ≤ cells + 9300 from by omega) hC), (Nat.le_trans (show slots + 22 + 20 + 0 ≤ slots + 100000 from by omega) hSl)⟩) hR hS (fun t9 w3 H1 locs1 ht9 hR _ hS => ?_)
  obtain ⟨et9, rfl⟩ := ht9
  rw [et9, e7]
  refine lv_iload hx hb dL_law_2968 (lv_at hl 1 rfl) ?_
  refine lv_icmp_eq (tgt := 2975) hx hb dL_law_2970 (by decide) (fun _ => ?_) (fun c9 => absurd rfl c9)
  refine lv_iload hx hb dL_law_2975 (lv_at hl 1 rfl) ?_
  refine lv_if_ne (tgt := 2993) hx hb dL_law_2977 (by decide) (fun c9 => ?_) (fun c9 => ?_)
  · skip
    refine lv_goto (tgt := 3023) hx hb dL_law_2993 (by decide) ?_
    refine W.widen (k := cells + 9300) (n := slots + 100000) (by omega) (by omega) ?_
    exact kk _ _ _ _ _ _ _ _ h Keeps.rf hR hS (lv_sub (hl) [2, 3, 4, 5, 6] rfl)
  · have c9 : k9 = 0 := by first | exact c9 | exact Decidable.of_not_not c9
    have e9 := e9 c9
    refine lv_aload_n hx hb dL_law_2980 rfl (lv_at hl 5 rfl) ?_
    refine va_getN (host := "PublicanryLaw") (T := TX9) (N := 3) (v := .long n1) hx hb hts in_X9 hown hK.1 (va_P1 (hR.2.2.2.1 _ _ ⟨rfl, rfl⟩).1) 0 rfl rfl 0 (by decide) (va_Nw.use rfl (hK.2.1.2.1 _ (List.mem_of_getElem? (i := 1) rfl))) (fun _ h => h) rfl dL_law_2981 ?_
    refine lv_iload hx hb dL_law_2984 (lv_at hl 0 rfl) ?_
    refine lv_i2l hx hb dL_law_2986 rfl ?_
    refine W.lcmp hx hb dL_law_2987 ?_
    refine lv_if_eq (tgt := 2993) hx hb dL_law_2988 (by decide) (fun _ => ?_) (fun c9 => absurd (by rw [e9]; exact lg_cmp_self _) c9)
    refine lv_goto (tgt := 3023) hx hb dL_law_2993 (by decide) ?_
    refine W.widen (k := cells + 9300) (n := slots + 100000) (by omega) (by omega) ?_
    exact kk _ _ _ _ _ _ _ _ h Keeps.rf hR hS (lv_sub (hl) [2, 3, 4, 5, 6] rfl)
