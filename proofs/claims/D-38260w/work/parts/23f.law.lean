/-! THE LAW's CASES (printed by wip gen/law.py) -/
set_option maxRecDepth 100000
def sL_41 (κ : Kx) (y : Ly) (post : Wd → Ly → Prop) (w : Wd) : Prop := sp_X1_isSound κ y (fun r9 w1 => sp_X8_isSound κ y (fun b9 w2 => r9 = b9 ∧ post w2 y) w1 ) w
set_option maxHeartbeats 4000000 in
theorem lc_41 {p : Program} {l : Launch} {e : Env} {s : State} {m : MethodId} {below : List Frame} {meth : Method} {c : Code} {b L : Nat} {xs : Nat → Int32} {κ : Kx} {Q : State → Prop} {w : Wd} {y : Ly} {oa : Nat} {n0 : Int64} {d0 : UInt64} {s0 : Value} {H : Heap} {locs : List Loc} {ls : Array Slot} {cells slots j : Nat} {post : Wd → Ly → Prop} (F : LF p l s m meth c b L xs κ) (hm : mon s.heap (y.2 3 0)) (hR : Rp κ w y (oX oa n0 d0 s0) [] H) (hS : va_S (Af κ) s.heap H locs) (hW : WFc κ y) (hM : WFm κ y) (hl : lv_has ls 8 [(0, .ref b), (1, .ref (y.2 0 0)), (2, .ref (y.2 20 0)), (3, .ref oa), (4, .int (nI j))]) (hj : j + 5 ≤ L) (hC : cells + 9300 ≤ rmL.cells) (hSl : slots + 100000 ≤ rmL.slots) (h : sL_41 κ y post w ) (kk : ∀ (w2 : Wd) (y2 : Ly) (n1 : Int64) (d1 : UInt64) (s1 : Value) (H1 : Heap) (locs1 : List Loc) (ls1 : Array Slot), post w2 y2 → Keeps y y2 → Rp κ w2 y2 (oX oa n1 d1 s1) [] H1 → va_S (Af κ) s.heap H1 locs1 → lv_has ls1 8 [(0, .ref b), (1, .ref (y.2 0 0)), (2, .ref (y.2 20 0)), (3, .ref oa), (4, .int (nI j))] → W p l e rmL s m #[.ref b] below meth c H1 locs1 (cells + 9300) (slots + 100000) Q (F0 m 3023 ls1 [])) : W p l e rmL s m #[.ref b] below meth c H locs cells slots Q (F0 m 2996 ls []) := by
  obtain ⟨hx, hb, hr, hml, hlk, hown, hts, hfl, hK, hPx, hX9, hbl, hz9, hL9⟩ := F
  have hbA : ¬ Af κ b := fun h9 => Nat.lt_irrefl _ (Nat.lt_of_lt_of_le hbl h9)
  have hbs : b < s.heap.size := Nat.lt_of_lt_of_le hbl hz9
  unfold sL_41 at h
  refine lv_aload_n hx hb dL_law_2996 rfl (lv_at hl 1 rfl) ?_
  refine ce_qi (fw := fun u => u) (fy := fun _ => y) (cr_V (n := 0) (As := []) (rest := []) ⟨hx, hb, hml, hown, hts⟩ hK hR (m_X1_isSound hW hW.pub h) q488 q489 q490 q74 q491 rfl rfl hd_X1_isSound ⟨Nat.le_of_ble_eq_true rfl, Nat.le_of_ble_eq_true rfl⟩ (rv hK hR hW.pub (ci := 0) rfl rfl) rfl rfl hl.1 rfl (lv_room (Nat.le_of_ble_eq_true rfl)) dL_law_2997 ⟨(Nat.le_trans (show cells + 12 ≤ cells + 9300 from by omega) hC), (Nat.le_trans (show slots + 48 ≤ slots + 100000 from by omega) hSl)⟩) hR hS (fun r9 w1 H1 locs1 h hR _ hS => ?_)
  refine lv_aload_n hx hb dL_law_3000 rfl (lv_at hl 2 rfl) ?_
  refine ce_qi (fw := fun u => u) (fy := fun _ => y) (cr_V (n := 0) (As := []) (rest := [.int r9]) ⟨hx, hb, hml, hown, hts⟩ hK hR (m_X8_isSound hM hM.mro h) q2621 q2622 q2623 q85 q2624 rfl rfl hd_X8_isSound ⟨Nat.le_of_ble_eq_true rfl, Nat.le_of_ble_eq_true rfl⟩ (rv hK hR hM.mro (ci := 11) rfl rfl) rfl rfl hl.1 rfl (lv_room (Nat.le_of_ble_eq_true rfl)) dL_law_3001 ⟨(Nat.le_trans (show cells + 12 + 6 ≤ cells + 9300 from by omega) hC), (Nat.le_trans (show slots + 48 + 24 ≤ slots + 100000 from by omega) hSl)⟩) hR hS (fun b9 w2 H1 locs1 h hR _ hS => ?_)
  obtain ⟨e9, h⟩ := h
  refine lv_icmp_eq (tgt := 3023) hx hb dL_law_3004 (by decide) (fun _ => ?_) (fun c9 => absurd e9 c9)
  refine W.widen (k := cells + 9300) (n := slots + 100000) (by omega) (by omega) ?_
  exact kk _ _ _ _ _ _ _ _ h Keeps.rf hR hS (lv_sub (hl) [0, 1, 2, 3, 4] rfl)
def sL_42 (κ : Kx) (y : Ly) (post : Wd → Ly → Prop) (w : Wd) : Prop := sp_X1_digest κ y (fun r9 w1 => sp_X8_digest κ y (fun b9 w2 => r9 = b9 ∧ post w2 y) w1 ) w
set_option maxHeartbeats 4000000 in
theorem lc_42 {p : Program} {l : Launch} {e : Env} {s : State} {m : MethodId} {below : List Frame} {meth : Method} {c : Code} {b L : Nat} {xs : Nat → Int32} {κ : Kx} {Q : State → Prop} {w : Wd} {y : Ly} {oa : Nat} {n0 : Int64} {d0 : UInt64} {s0 : Value} {H : Heap} {locs : List Loc} {ls : Array Slot} {cells slots j : Nat} {post : Wd → Ly → Prop} (F : LF p l s m meth c b L xs κ) (hm : mon s.heap (y.2 3 0)) (hR : Rp κ w y (oX oa n0 d0 s0) [] H) (hS : va_S (Af κ) s.heap H locs) (hW : WFc κ y) (hM : WFm κ y) (hl : lv_has ls 8 [(0, .ref b), (1, .ref (y.2 0 0)), (2, .ref (y.2 20 0)), (3, .ref oa), (4, .int (nI j))]) (hj : j + 5 ≤ L) (hC : cells + 9300 ≤ rmL.cells) (hSl : slots + 100000 ≤ rmL.slots) (h : sL_42 κ y post w ) (kk : ∀ (w2 : Wd) (y2 : Ly) (n1 : Int64) (d1 : UInt64) (s1 : Value) (H1 : Heap) (locs1 : List Loc) (ls1 : Array Slot), post w2 y2 → Keeps y y2 → Rp κ w2 y2 (oX oa n1 d1 s1) [] H1 → va_S (Af κ) s.heap H1 locs1 → lv_has ls1 8 [(0, .ref b), (1, .ref (y.2 0 0)), (2, .ref (y.2 20 0)), (3, .ref oa), (4, .int (nI j))] → W p l e rmL s m #[.ref b] below meth c H1 locs1 (cells + 9300) (slots + 100000) Q (F0 m 3023 ls1 [])) : W p l e rmL s m #[.ref b] below meth c H locs cells slots Q (F0 m 3009 ls []) := by
  obtain ⟨hx, hb, hr, hml, hlk, hown, hts, hfl, hK, hPx, hX9, hbl, hz9, hL9⟩ := F
  have hbA : ¬ Af κ b := fun h9 => Nat.lt_irrefl _ (Nat.lt_of_lt_of_le hbl h9)
  have hbs : b < s.heap.size := Nat.lt_of_lt_of_le hbl hz9
  unfold sL_42 at h
  refine lv_aload_n hx hb dL_law_3009 rfl (lv_at hl 1 rfl) ?_
  refine W.mon hm (fun hm9 => ?_)
  refine ce_ql (fw := fun u => u) (fy := fun _ => y) (crm_V (n := 0) (As := []) (rest := []) ⟨hx, hb, hml, hown, hts⟩ hK hR hm9 (m_X1_digest hW hW.pub h) q523 q524 q525 q74 q526 rfl rfl hd_X1_digest ⟨Nat.le_of_ble_eq_true rfl, Nat.le_of_ble_eq_true rfl⟩ (rv hK hR hW.pub (ci := 0) rfl rfl) rfl rfl hl.1 rfl (lv_room (Nat.le_of_ble_eq_true rfl)) dL_law_3010 ⟨(Nat.le_trans (show cells + 239 ≤ cells + 9300 from by omega) hC), (Nat.le_trans (show slots + 946 ≤ slots + 100000 from by omega) hSl)⟩) hR hS (fun r9 w1 H1 locs1 h hR _ hS => ?_)
  refine lv_aload_n hx hb dL_law_3013 rfl (lv_at hl 2 rfl) ?_
  refine ce_ql (fw := fun u => u) (fy := fun _ => y) (cr_V (n := 0) (As := []) (rest := [.long r9]) ⟨hx, hb, hml, hown, hts⟩ hK hR (m_X8_digest hM hM.mro h) q2629 q2630 q2631 q85 q2632 rfl rfl hd_X8_digest ⟨Nat.le_of_ble_eq_true rfl, Nat.le_of_ble_eq_true rfl⟩ (rv hK hR hM.mro (ci := 11) rfl rfl) rfl rfl hl.1 rfl (lv_room (Nat.le_of_ble_eq_true rfl)) dL_law_3014 ⟨(Nat.le_trans (show cells + 239 + 635 ≤ cells + 9300 from by omega) hC), (Nat.le_trans (show slots + 946 + 5714 ≤ slots + 100000 from by omega) hSl)⟩) hR hS (fun b9 w2 H1 locs1 h hR _ hS => ?_)
  obtain ⟨e9, h⟩ := h
  refine W.lcmp hx hb dL_law_3017 ?_
  refine lv_if_eq (tgt := 3023) hx hb dL_law_3018 (by decide) (fun _ => ?_) (fun c9 => absurd (by rw [e9]; exact lg_cmp_self _) c9)
  refine W.widen (k := cells + 9300) (n := slots + 100000) (by omega) (by omega) ?_
  exact kk _ _ _ _ _ _ _ _ h Keeps.rf hR hS (lv_sub (hl) [0, 1, 2, 3, 4] rfl)
