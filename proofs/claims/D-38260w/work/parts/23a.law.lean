/-! THE LAW's CASES (printed by wip gen/law.py) -/
set_option maxRecDepth 100000
theorem hdL_village : yX0_village.cls ≠ "java/lang/invoke/MethodHandle" ∧ yX0_village.cls ≠ "java/lang/invoke/VarHandle" ∧ (parseMethodDescriptor yX0_village.desc).map (fun d => d.parameters.length) = some 6 := by decide +kernel
theorem hdL_clear : yX0_clear.cls ≠ "java/lang/invoke/MethodHandle" ∧ yX0_clear.cls ≠ "java/lang/invoke/VarHandle" ∧ (parseMethodDescriptor yX0_clear.desc).map (fun d => d.parameters.length) = some 4 := by decide +kernel
theorem hdL_survey : yX0_survey.cls ≠ "java/lang/invoke/MethodHandle" ∧ yX0_survey.cls ≠ "java/lang/invoke/VarHandle" ∧ (parseMethodDescriptor yX0_survey.desc).map (fun d => d.parameters.length) = some 3 := by decide +kernel
theorem hdL_war : yX0_war.cls ≠ "java/lang/invoke/MethodHandle" ∧ yX0_war.cls ≠ "java/lang/invoke/VarHandle" ∧ (parseMethodDescriptor yX0_war.desc).map (fun d => d.parameters.length) = some 3 := by decide +kernel
theorem hdL_edict : yX0_edict.cls ≠ "java/lang/invoke/MethodHandle" ∧ yX0_edict.cls ≠ "java/lang/invoke/VarHandle" ∧ (parseMethodDescriptor yX0_edict.desc).map (fun d => d.parameters.length) = some 5 := by decide +kernel
theorem hdL_cut : yX0_cut.cls ≠ "java/lang/invoke/MethodHandle" ∧ yX0_cut.cls ≠ "java/lang/invoke/VarHandle" ∧ (parseMethodDescriptor yX0_cut.desc).map (fun d => d.parameters.length) = some 3 := by decide +kernel
theorem hdL_company : yX0_company.cls ≠ "java/lang/invoke/MethodHandle" ∧ yX0_company.cls ≠ "java/lang/invoke/VarHandle" ∧ (parseMethodDescriptor yX0_company.desc).map (fun d => d.parameters.length) = some 4 := by decide +kernel
theorem hdL_join : yX0_join.cls ≠ "java/lang/invoke/MethodHandle" ∧ yX0_join.cls ≠ "java/lang/invoke/VarHandle" ∧ (parseMethodDescriptor yX0_join.desc).map (fun d => d.parameters.length) = some 4 := by decide +kernel
theorem hdL_shareOut : yX0_shareOut.cls ≠ "java/lang/invoke/MethodHandle" ∧ yX0_shareOut.cls ≠ "java/lang/invoke/VarHandle" ∧ (parseMethodDescriptor yX0_shareOut.desc).map (fun d => d.parameters.length) = some 4 := by decide +kernel
theorem hdL_ring : yX0_ring.cls ≠ "java/lang/invoke/MethodHandle" ∧ yX0_ring.cls ≠ "java/lang/invoke/VarHandle" ∧ (parseMethodDescriptor yX0_ring.desc).map (fun d => d.parameters.length) = some 4 := by decide +kernel
theorem hdL_lot : yX0_lot.cls ≠ "java/lang/invoke/MethodHandle" ∧ yX0_lot.cls ≠ "java/lang/invoke/VarHandle" ∧ (parseMethodDescriptor yX0_lot.desc).map (fun d => d.parameters.length) = some 6 := by decide +kernel
theorem hdL_bid : yX0_bid.cls ≠ "java/lang/invoke/MethodHandle" ∧ yX0_bid.cls ≠ "java/lang/invoke/VarHandle" ∧ (parseMethodDescriptor yX0_bid.desc).map (fun d => d.parameters.length) = some 5 := by decide +kernel
theorem hdL_award : yX0_award.cls ≠ "java/lang/invoke/MethodHandle" ∧ yX0_award.cls ≠ "java/lang/invoke/VarHandle" ∧ (parseMethodDescriptor yX0_award.desc).map (fun d => d.parameters.length) = some 3 := by decide +kernel
theorem hdL_force : yX0_force.cls ≠ "java/lang/invoke/MethodHandle" ∧ yX0_force.cls ≠ "java/lang/invoke/VarHandle" ∧ (parseMethodDescriptor yX0_force.desc).map (fun d => d.parameters.length) = some 4 := by decide +kernel
theorem hdL_letOn : yX0_letOn.cls ≠ "java/lang/invoke/MethodHandle" ∧ yX0_letOn.cls ≠ "java/lang/invoke/VarHandle" ∧ (parseMethodDescriptor yX0_letOn.desc).map (fun d => d.parameters.length) = some 5 := by decide +kernel
theorem hdL_deliver : yX0_deliver.cls ≠ "java/lang/invoke/MethodHandle" ∧ yX0_deliver.cls ≠ "java/lang/invoke/VarHandle" ∧ (parseMethodDescriptor yX0_deliver.desc).map (fun d => d.parameters.length) = some 4 := by decide +kernel
theorem hdL_sue : yX0_sue.cls ≠ "java/lang/invoke/MethodHandle" ∧ yX0_sue.cls ≠ "java/lang/invoke/VarHandle" ∧ (parseMethodDescriptor yX0_sue.desc).map (fun d => d.parameters.length) = some 4 := by decide +kernel
theorem hdL_bench : yX0_bench.cls ≠ "java/lang/invoke/MethodHandle" ∧ yX0_bench.cls ≠ "java/lang/invoke/VarHandle" ∧ (parseMethodDescriptor yX0_bench.desc).map (fun d => d.parameters.length) = some 3 := by decide +kernel
theorem hdL_gift : yX0_gift.cls ≠ "java/lang/invoke/MethodHandle" ∧ yX0_gift.cls ≠ "java/lang/invoke/VarHandle" ∧ (parseMethodDescriptor yX0_gift.desc).map (fun d => d.parameters.length) = some 4 := by decide +kernel
theorem hdL_quarter : yX0_quarter.cls ≠ "java/lang/invoke/MethodHandle" ∧ yX0_quarter.cls ≠ "java/lang/invoke/VarHandle" ∧ (parseMethodDescriptor yX0_quarter.desc).map (fun d => d.parameters.length) = some 3 := by decide +kernel
theorem hdL_remit : yX0_remit.cls ≠ "java/lang/invoke/MethodHandle" ∧ yX0_remit.cls ≠ "java/lang/invoke/VarHandle" ∧ (parseMethodDescriptor yX0_remit.desc).map (fun d => d.parameters.length) = some 3 := by decide +kernel
theorem hdL_clerks : yX0_clerks.cls ≠ "java/lang/invoke/MethodHandle" ∧ yX0_clerks.cls ≠ "java/lang/invoke/VarHandle" ∧ (parseMethodDescriptor yX0_clerks.desc).map (fun d => d.parameters.length) = some 4 := by decide +kernel
theorem hdL_pass : yX0_pass.cls ≠ "java/lang/invoke/MethodHandle" ∧ yX0_pass.cls ≠ "java/lang/invoke/VarHandle" ∧ (parseMethodDescriptor yX0_pass.desc).map (fun d => d.parameters.length) = some 3 := by decide +kernel
theorem hdL_ofVillage : yX0_ofVillage.cls ≠ "java/lang/invoke/MethodHandle" ∧ yX0_ofVillage.cls ≠ "java/lang/invoke/VarHandle" ∧ (parseMethodDescriptor yX0_ofVillage.desc).map (fun d => d.parameters.length) = some 4 := by decide +kernel
theorem hdL_due : yX0_due.cls ≠ "java/lang/invoke/MethodHandle" ∧ yX0_due.cls ≠ "java/lang/invoke/VarHandle" ∧ (parseMethodDescriptor yX0_due.desc).map (fun d => d.parameters.length) = some 5 := by decide +kernel
theorem hdL_levy : yX0_levy.cls ≠ "java/lang/invoke/MethodHandle" ∧ yX0_levy.cls ≠ "java/lang/invoke/VarHandle" ∧ (parseMethodDescriptor yX0_levy.desc).map (fun d => d.parameters.length) = some 5 := by decide +kernel
theorem hdL_law : yX0_law.cls ≠ "java/lang/invoke/MethodHandle" ∧ yX0_law.cls ≠ "java/lang/invoke/VarHandle" ∧ (parseMethodDescriptor yX0_law.desc).map (fun d => d.parameters.length) = some 4 := by decide +kernel
theorem hdL_ofCompany : yX0_ofCompany.cls ≠ "java/lang/invoke/MethodHandle" ∧ yX0_ofCompany.cls ≠ "java/lang/invoke/VarHandle" ∧ (parseMethodDescriptor yX0_ofCompany.desc).map (fun d => d.parameters.length) = some 4 := by decide +kernel
theorem hdL_partner : yX0_partner.cls ≠ "java/lang/invoke/MethodHandle" ∧ yX0_partner.cls ≠ "java/lang/invoke/VarHandle" ∧ (parseMethodDescriptor yX0_partner.desc).map (fun d => d.parameters.length) = some 5 := by decide +kernel
theorem hdL_ofLot : yX0_ofLot.cls ≠ "java/lang/invoke/MethodHandle" ∧ yX0_ofLot.cls ≠ "java/lang/invoke/VarHandle" ∧ (parseMethodDescriptor yX0_ofLot.desc).map (fun d => d.parameters.length) = some 4 := by decide +kernel
theorem hdL_land : yX0_land.cls ≠ "java/lang/invoke/MethodHandle" ∧ yX0_land.cls ≠ "java/lang/invoke/VarHandle" ∧ (parseMethodDescriptor yX0_land.desc).map (fun d => d.parameters.length) = some 3 := by decide +kernel
theorem hdL_tell : yX0_tell.cls ≠ "java/lang/invoke/MethodHandle" ∧ yX0_tell.cls ≠ "java/lang/invoke/VarHandle" ∧ (parseMethodDescriptor yX0_tell.desc).map (fun d => d.parameters.length) = some 3 := by decide +kernel
theorem hdL_gain : yX0_gain.cls ≠ "java/lang/invoke/MethodHandle" ∧ yX0_gain.cls ≠ "java/lang/invoke/VarHandle" ∧ (parseMethodDescriptor yX0_gain.desc).map (fun d => d.parameters.length) = some 3 := by decide +kernel
theorem hdL_wouldBring : yX0_wouldBring.cls ≠ "java/lang/invoke/MethodHandle" ∧ yX0_wouldBring.cls ≠ "java/lang/invoke/VarHandle" ∧ (parseMethodDescriptor yX0_wouldBring.desc).map (fun d => d.parameters.length) = some 4 := by decide +kernel
theorem hdL_bestForce : yX0_bestForce.cls ≠ "java/lang/invoke/MethodHandle" ∧ yX0_bestForce.cls ≠ "java/lang/invoke/VarHandle" ∧ (parseMethodDescriptor yX0_bestForce.desc).map (fun d => d.parameters.length) = some 3 := by decide +kernel
theorem hdL_votes : yX0_votes.cls ≠ "java/lang/invoke/MethodHandle" ∧ yX0_votes.cls ≠ "java/lang/invoke/VarHandle" ∧ (parseMethodDescriptor yX0_votes.desc).map (fun d => d.parameters.length) = some 6 := by decide +kernel
theorem hdL_harvest : yX0_harvest.cls ≠ "java/lang/invoke/MethodHandle" ∧ yX0_harvest.cls ≠ "java/lang/invoke/VarHandle" ∧ (parseMethodDescriptor yX0_harvest.desc).map (fun d => d.parameters.length) = some 4 := by decide +kernel
theorem hdL_direct : yX0_direct.cls ≠ "java/lang/invoke/MethodHandle" ∧ yX0_direct.cls ≠ "java/lang/invoke/VarHandle" ∧ (parseMethodDescriptor yX0_direct.desc).map (fun d => d.parameters.length) = some 3 := by decide +kernel
theorem hdL_wouldWin : yX0_wouldWin.cls ≠ "java/lang/invoke/MethodHandle" ∧ yX0_wouldWin.cls ≠ "java/lang/invoke/VarHandle" ∧ (parseMethodDescriptor yX0_wouldWin.desc).map (fun d => d.parameters.length) = some 3 := by decide +kernel
def sL_0 (κ : Kx) (y : Ly) (post : Wd → Ly → Prop) (n0 : Int64) (w : Wd) (x1 : Int32) (x2 : Int32) (x3 : Int32) (x4 : Int32) : Prop := sp_X0_village κ y (fun k9 n1 w1 y1 => WFm κ y1 ∧ Keeps y y1 ∧ sp_X8_village κ y1 (fun b9 w2 y2 => WFc κ y2 ∧ Keeps y1 y2 ∧ gv w2 20 0 0 = k9 ∧ (k9 = 0 → n1 = b9.toInt64) ∧ post w2 y2) w1 x1 x2 x3 x4) n0 w x1 x2 x3 x4
set_option maxHeartbeats 4000000 in
theorem lc_0 {p : Program} {l : Launch} {e : Env} {s : State} {m : MethodId} {below : List Frame} {meth : Method} {c : Code} {b L : Nat} {xs : Nat → Int32} {κ : Kx} {Q : State → Prop} {w : Wd} {y : Ly} {oa : Nat} {n0 : Int64} {d0 : UInt64} {s0 : Value} {H : Heap} {locs : List Loc} {ls : Array Slot} {cells slots j : Nat} {post : Wd → Ly → Prop} (F : LF p l s m meth c b L xs κ) (hm : mon s.heap (y.2 3 0)) (hR : Rp κ w y (oX oa n0 d0 s0) [] H) (hS : va_S (Af κ) s.heap H locs) (hW : WFc κ y) (hM : WFm κ y) (hl : lv_has ls 8 [(0, .ref b), (1, .ref (y.2 0 0)), (2, .ref (y.2 20 0)), (3, .ref oa), (4, .int (nI j))]) (hj : j + 5 ≤ L) (hC : cells + 9300 ≤ rmL.cells) (hSl : slots + 100000 ≤ rmL.slots) (h : sL_0 κ y post n0 w (xs (j + 1)) (xs (j + 2)) (xs (j + 3)) (xs (j + 4))) (kk : ∀ (w2 : Wd) (y2 : Ly) (n1 : Int64) (d1 : UInt64) (s1 : Value) (H1 : Heap) (locs1 : List Loc) (ls1 : Array Slot), post w2 y2 → Keeps y y2 → Rp κ w2 y2 (oX oa n1 d1 s1) [] H1 → va_S (Af κ) s.heap H1 locs1 → lv_has ls1 8 [(0, .ref b), (1, .ref (y.2 0 0)), (2, .ref (y.2 20 0)), (3, .ref oa), (4, .int (nI j))] → W p l e rmL s m #[.ref b] below meth c H1 locs1 (cells + 9300) (slots + 100000) Q (F0 m 3023 ls1 [])) : W p l e rmL s m #[.ref b] below meth c H locs cells slots Q (F0 m 228 ls []) := by
  obtain ⟨hx, hb, hr, hml, hlk, hown, hts, hfl, hK, hPx, hX9, hbl, hz9, hL9⟩ := F
  have hbA : ¬ Af κ b := fun h9 => Nat.lt_irrefl _ (Nat.lt_of_lt_of_le hbl h9)
  have hbs : b < s.heap.size := Nat.lt_of_lt_of_le hbl hz9
  have a1 : nI j + (1 : Int32) = nI (j + 1) := nI_add j 1
  have c1 : (nI (j + 1)).toNatClampNeg = j + 1 := nI_clamp (by omega)
  have v1 : vp_in (nI (j + 1)) L := vp_in_nI (by omega) (by omega)
  have a2 : nI j + (2 : Int32) = nI (j + 2) := nI_add j 2
  have c2 : (nI (j + 2)).toNatClampNeg = j + 2 := nI_clamp (by omega)
  have v2 : vp_in (nI (j + 2)) L := vp_in_nI (by omega) (by omega)
  have a3 : nI j + (3 : Int32) = nI (j + 3) := nI_add j 3
  have c3 : (nI (j + 3)).toNatClampNeg = j + 3 := nI_clamp (by omega)
  have v3 : vp_in (nI (j + 3)) L := vp_in_nI (by omega) (by omega)
  have a4 : nI j + (4 : Int32) = nI (j + 4) := nI_add j 4
  have c4 : (nI (j + 4)).toNatClampNeg = j + 4 := nI_clamp (by omega)
  have v4 : vp_in (nI (j + 4)) L := vp_in_nI (by omega) (by omega)
  unfold sL_0 at h
  refine lv_aload_n hx hb dL_law_228 rfl (lv_at hl 1 rfl) ?_
  refine lv_aload_n hx hb dL_law_229 rfl (lv_at hl 0 rfl) ?_
  refine lv_iload hx hb dL_law_230 (lv_at hl 4 rfl) ?_
  refine lv_iconst (v := (1 : Int32)) hx hb dL_law_232 (by decide) ?_
  refine lv_iadd hx hb dL_law_233 ?_
  rw [a1]
  refine va_sld hx hb hX9 hbs hbA hS v1 dL_law_234 ?_
  rw [c1]
  refine lv_aload_n hx hb dL_law_235 rfl (lv_at hl 0 rfl) ?_
  refine lv_iload hx hb dL_law_236 (lv_at hl 4 rfl) ?_
  refine lv_iconst (v := (2 : Int32)) hx hb dL_law_238 (by decide) ?_
  refine lv_iadd hx hb dL_law_239 ?_
  rw [a2]
  refine va_sld hx hb hX9 hbs hbA hS v2 dL_law_240 ?_
  rw [c2]
  refine lv_aload_n hx hb dL_law_241 rfl (lv_at hl 0 rfl) ?_
  refine lv_iload hx hb dL_law_242 (lv_at hl 4 rfl) ?_
  refine lv_iconst (v := (3 : Int32)) hx hb dL_law_244 (by decide) ?_
  refine lv_iadd hx hb dL_law_245 ?_
  rw [a3]
  refine va_sld hx hb hX9 hbs hbA hS v3 dL_law_246 ?_
  rw [c3]
  refine lv_aload_n hx hb dL_law_247 rfl (lv_at hl 0 rfl) ?_
  refine lv_iload hx hb dL_law_248 (lv_at hl 4 rfl) ?_
  refine lv_iconst (v := (4 : Int32)) hx hb dL_law_250 (by decide) ?_
  refine lv_iadd hx hb dL_law_251 ?_
  rw [a4]
  refine va_sld hx hb hX9 hbs hbA hS v4 dL_law_252 ?_
  rw [c4]
  refine lv_aload_n hx hb dL_law_253 rfl (lv_at hl 3 rfl) ?_
  refine vx_calli (crx_SW (n := 6) (As := [.ref (y.2 0 0), .int (xs (j + 1)), .int (xs (j + 2)), .int (xs (j + 3)), .int (xs (j + 4)), .ref oa]) (rest := []) ⟨hx, hb, hml, hown, hts⟩ hK hR (m_X0_village (X := xl (oX oa n0 d0 s0) []) hfl hW hW.pub (Or.inl ⟨rfl, rfl⟩) h) q781 q782 q73 q783 rfl rfl hdL_village ⟨Nat.le_of_ble_eq_true rfl, Nat.le_of_ble_eq_true rfl⟩ rfl rfl hl.1 rfl (lv_room (Nat.le_of_ble_eq_true rfl)) dL_law_254 ⟨(Nat.le_trans (show cells + 9 ≤ cells + 9300 from by omega) hC), (Nat.le_trans (show slots + 60 ≤ slots + 100000 from by omega) hSl)⟩) hS (fun _ _ h => h) (fun _ h => h) (fun _ _ h => h) (fun E9 ce9 q9 u t H1 locs1 e1 _ hu => hu.elim) (fun k9 u t H1 locs1 ht _ hp hB hz8 _ hS => ?_)
  obtain ⟨w1, y1, n1⟩ := u
  dsimp only at hp hB
  obtain ⟨hB, hW1⟩ := hB
  obtain ⟨hM1, hKp, h⟩ := hp
  have hR : Rp κ w1 y1 (oX oa n1 d0 s0) [] H1 := by rw [← ht]; exact hB.wk (fun _ _ h => by obtain ⟨rfl, rfl⟩ := h; exact Or.inl ⟨rfl, rfl⟩)
  have eL20 := hKp.a20
  refine lv_istore (lv' := [(5, .int k9), (0, .ref b), (1, .ref (y.2 0 0)), (2, .ref (y.2 20 0)), (3, .ref oa), (4, .int (nI j))]) hx hb dL_law_257 hl (by decide) rfl (fun ls hl => ?_)
  refine lv_aload_n hx hb dL_law_259 rfl (lv_at hl 3 rfl) ?_
  refine lv_aload_n hx hb dL_law_260 rfl (lv_at hl 1 rfl) ?_
  refine lv_iload hx hb dL_law_261 (lv_at hl 5 rfl) ?_
  refine lv_iconst (v := (1 : Int32)) hx hb dL_law_263 (by decide) ?_
  refine lv_iadd hx hb dL_law_264 ?_
  rw [a1]
  refine va_sld hx hb hX9 hbs hbA hS v1 dL_law_265 ?_
  rw [c1]
  refine lv_aload_n hx hb dL_law_266 rfl (lv_at hl 1 rfl) ?_
  refine lv_iload hx hb dL_law_267 (lv_at hl 5 rfl) ?_
  refine lv_iconst (v := (2 : Int32)) hx hb dL_law_269 (by decide) ?_
  refine lv_iadd hx hb dL_law_270 ?_
  rw [a2]
  refine va_sld hx hb hX9 hbs hbA hS v2 dL_law_271 ?_
  rw [c2]
  refine lv_aload_n hx hb dL_law_272 rfl (lv_at hl 1 rfl) ?_
  refine lv_iload hx hb dL_law_273 (lv_at hl 5 rfl) ?_
  refine lv_iconst (v := (3 : Int32)) hx hb dL_law_275 (by decide) ?_
  refine lv_iadd hx hb dL_law_276 ?_
  rw [a3]
  refine va_sld hx hb hX9 hbs hbA hS v3 dL_law_277 ?_
  rw [c3]
  refine lv_aload_n hx hb dL_law_278 rfl (lv_at hl 1 rfl) ?_
  refine lv_iload hx hb dL_law_279 (lv_at hl 5 rfl) ?_
  refine lv_iconst (v := (4 : Int32)) hx hb dL_law_281 (by decide) ?_
  refine lv_iadd hx hb dL_law_282 ?_
  rw [a4]
  refine va_sld hx hb hX9 hbs hbA hS v4 dL_law_283 ?_
  rw [c4]
  rw [← hKp.a20]
  refine cey_qi (P := fun u : Wd × Ly => WFm κ u.2) (fw := fun u : Wd × Ly => u.1) (fy := fun u => u.2) (cr_V (n := 4) (As := [.int (xs (j + 1)), .int (xs (j + 2)), .int (xs (j + 3)), .int (xs (j + 4))]) (rest := []) ⟨hx, hb, hml, hown, hts⟩ hK hR (m_X8_village hM1 hM1.mro h) q2016 q2017 q2018 q85 q2019 rfl rfl hd_X8_village ⟨Nat.le_of_ble_eq_true rfl, Nat.le_of_ble_eq_true rfl⟩ (rv hK hR hM1.mro (ci := 11) rfl rfl) rfl rfl hl.1 rfl (lv_room (Nat.le_of_ble_eq_true rfl)) dL_law_284 ⟨(Nat.le_trans (show cells + 9 + 5 ≤ cells + 9300 from by omega) hC), (Nat.le_trans (show slots + 60 + 36 ≤ slots + 100000 from by omega) hSl)⟩) hR hS (fun b9 u H1 locs1 hp hP9 hR _ hS => ?_)
  obtain ⟨w2, y2⟩ := u
  dsimp only at hp hP9 hR
  have hM2 := hP9
  obtain ⟨hW2, hKp2, h⟩ := hp
  have hKp := ((Keeps.rf.tr hKp).tr hKp2)
  obtain ⟨e7, e9, h⟩ := h
  refine lv_istore (lv' := [(6, .int b9), (5, .int k9), (0, .ref b), (1, .ref (y.2 0 0)), (2, .ref (y.2 20 0)), (3, .ref oa), (4, .int (nI j))]) hx hb dL_law_287 hl (by decide) rfl (fun ls hl => ?_)
  refine lv_aload_n hx hb dL_law_289 rfl (lv_at hl 4 rfl) ?_
  rw [← hKp.a20]
  refine ce_qi (fw := fun u => u) (fy := fun _ => y2) (cr_V (n := 0) (As := []) (rest := []) ⟨hx, hb, hml, hown, hts⟩ hK hR (m_X8_thrown (post := fun r9 u9 => r9 = gv w2 20 0 0 ∧ u9 = w2) hM2 hM2.mro ⟨rfl, rfl⟩) q2012 q2013 q2014 q85 q2015 rfl rfl hd_X8_thrown ⟨Nat.le_of_ble_eq_true rfl, Nat.le_of_ble_eq_true rfl⟩ (rv hK hR hM2.mro (ci := 11) rfl rfl) rfl rfl hl.1 rfl (lv_room (Nat.le_of_ble_eq_true rfl)) dL_law_290 ⟨(Nat.le_trans (show cells + 9 + 5 + 0 ≤ cells + 9300 from by omega) hC), (Nat.le_trans (show slots + 60 + 36 + 0 ≤ slots + 100000 from by omega) hSl)⟩) hR hS (fun t9 w3 H1 locs1 ht9 hR _ hS => ?_)
  obtain ⟨et9, rfl⟩ := ht9
  rw [et9, e7]
  refine lv_iload hx hb dL_law_293 (lv_at hl 1 rfl) ?_
  refine lv_icmp_eq (tgt := 300) hx hb dL_law_295 (by decide) (fun _ => ?_) (fun c9 => absurd rfl c9)
  refine lv_iload hx hb dL_law_300 (lv_at hl 1 rfl) ?_
  refine lv_if_ne (tgt := 318) hx hb dL_law_302 (by decide) (fun c9 => ?_) (fun c9 => ?_)
  · skip
    refine lv_goto (tgt := 3023) hx hb dL_law_318 (by decide) ?_
    refine W.widen (k := cells + 9300) (n := slots + 100000) (by omega) (by omega) ?_
    exact kk _ _ _ _ _ _ _ _ h ((Keeps.rf.tr hKp).tr hKp2) hR hS (lv_sub (hl) [2, 3, 4, 5, 6] rfl)
  · have c9 : k9 = 0 := by first | exact c9 | exact Decidable.of_not_not c9
    have e9 := e9 c9
    refine lv_aload_n hx hb dL_law_305 rfl (lv_at hl 5 rfl) ?_
    refine va_getN (host := "PublicanryLaw") (T := TX9) (N := 3) (v := .long n1) hx hb hts in_X9 hown hK.1 (va_P1 (hR.2.2.2.1 _ _ ⟨rfl, rfl⟩).1) 0 rfl rfl 0 (by decide) (va_Nw.use rfl (hK.2.1.2.1 _ (List.mem_of_getElem? (i := 1) rfl))) (fun _ h => h) rfl dL_law_306 ?_
    refine lv_iload hx hb dL_law_309 (lv_at hl 0 rfl) ?_
    refine lv_i2l hx hb dL_law_311 rfl ?_
    refine W.lcmp hx hb dL_law_312 ?_
    refine lv_if_eq (tgt := 318) hx hb dL_law_313 (by decide) (fun _ => ?_) (fun c9 => absurd (by rw [e9]; exact lg_cmp_self _) c9)
    refine lv_goto (tgt := 3023) hx hb dL_law_318 (by decide) ?_
    refine W.widen (k := cells + 9300) (n := slots + 100000) (by omega) (by omega) ?_
    exact kk _ _ _ _ _ _ _ _ h ((Keeps.rf.tr hKp).tr hKp2) hR hS (lv_sub (hl) [2, 3, 4, 5, 6] rfl)
def sL_1 (κ : Kx) (y : Ly) (post : Wd → Ly → Prop) (n0 : Int64) (w : Wd) (x1 : Int32) (x2 : Int32) : Prop := sp_X0_clear κ y (fun k9 n1 w1 => sp_X8_clear κ y (fun b9 w2 => gv w2 20 0 0 = k9 ∧ (k9 = 0 → n1 = b9.toInt64) ∧ post w2 y) w1 x1 x2) n0 w x1 x2
set_option maxHeartbeats 4000000 in
theorem lc_1 {p : Program} {l : Launch} {e : Env} {s : State} {m : MethodId} {below : List Frame} {meth : Method} {c : Code} {b L : Nat} {xs : Nat → Int32} {κ : Kx} {Q : State → Prop} {w : Wd} {y : Ly} {oa : Nat} {n0 : Int64} {d0 : UInt64} {s0 : Value} {H : Heap} {locs : List Loc} {ls : Array Slot} {cells slots j : Nat} {post : Wd → Ly → Prop} (F : LF p l s m meth c b L xs κ) (hm : mon s.heap (y.2 3 0)) (hR : Rp κ w y (oX oa n0 d0 s0) [] H) (hS : va_S (Af κ) s.heap H locs) (hW : WFc κ y) (hM : WFm κ y) (hl : lv_has ls 8 [(0, .ref b), (1, .ref (y.2 0 0)), (2, .ref (y.2 20 0)), (3, .ref oa), (4, .int (nI j))]) (hj : j + 5 ≤ L) (hC : cells + 9300 ≤ rmL.cells) (hSl : slots + 100000 ≤ rmL.slots) (h : sL_1 κ y post n0 w (xs (j + 1)) (xs (j + 2))) (kk : ∀ (w2 : Wd) (y2 : Ly) (n1 : Int64) (d1 : UInt64) (s1 : Value) (H1 : Heap) (locs1 : List Loc) (ls1 : Array Slot), post w2 y2 → Keeps y y2 → Rp κ w2 y2 (oX oa n1 d1 s1) [] H1 → va_S (Af κ) s.heap H1 locs1 → lv_has ls1 8 [(0, .ref b), (1, .ref (y.2 0 0)), (2, .ref (y.2 20 0)), (3, .ref oa), (4, .int (nI j))] → W p l e rmL s m #[.ref b] below meth c H1 locs1 (cells + 9300) (slots + 100000) Q (F0 m 3023 ls1 [])) : W p l e rmL s m #[.ref b] below meth c H locs cells slots Q (F0 m 321 ls []) := by
  obtain ⟨hx, hb, hr, hml, hlk, hown, hts, hfl, hK, hPx, hX9, hbl, hz9, hL9⟩ := F
  have hbA : ¬ Af κ b := fun h9 => Nat.lt_irrefl _ (Nat.lt_of_lt_of_le hbl h9)
  have hbs : b < s.heap.size := Nat.lt_of_lt_of_le hbl hz9
  have a1 : nI j + (1 : Int32) = nI (j + 1) := nI_add j 1
  have c1 : (nI (j + 1)).toNatClampNeg = j + 1 := nI_clamp (by omega)
  have v1 : vp_in (nI (j + 1)) L := vp_in_nI (by omega) (by omega)
  have a2 : nI j + (2 : Int32) = nI (j + 2) := nI_add j 2
  have c2 : (nI (j + 2)).toNatClampNeg = j + 2 := nI_clamp (by omega)
  have v2 : vp_in (nI (j + 2)) L := vp_in_nI (by omega) (by omega)
  unfold sL_1 at h
  refine lv_aload_n hx hb dL_law_321 rfl (lv_at hl 1 rfl) ?_
  refine lv_aload_n hx hb dL_law_322 rfl (lv_at hl 0 rfl) ?_
  refine lv_iload hx hb dL_law_323 (lv_at hl 4 rfl) ?_
  refine lv_iconst (v := (1 : Int32)) hx hb dL_law_325 (by decide) ?_
  refine lv_iadd hx hb dL_law_326 ?_
  rw [a1]
  refine va_sld hx hb hX9 hbs hbA hS v1 dL_law_327 ?_
  rw [c1]
  refine lv_aload_n hx hb dL_law_328 rfl (lv_at hl 0 rfl) ?_
  refine lv_iload hx hb dL_law_329 (lv_at hl 4 rfl) ?_
  refine lv_iconst (v := (2 : Int32)) hx hb dL_law_331 (by decide) ?_
  refine lv_iadd hx hb dL_law_332 ?_
  rw [a2]
  refine va_sld hx hb hX9 hbs hbA hS v2 dL_law_333 ?_
  rw [c2]
  refine lv_aload_n hx hb dL_law_334 rfl (lv_at hl 3 rfl) ?_
  refine vx_calli (crx_SW (n := 4) (As := [.ref (y.2 0 0), .int (xs (j + 1)), .int (xs (j + 2)), .ref oa]) (rest := []) ⟨hx, hb, hml, hown, hts⟩ hK hR (m_X0_clear (X := xl (oX oa n0 d0 s0) []) hfl hW hW.pub (Or.inl ⟨rfl, rfl⟩) h) q1003 q1004 q73 q1005 rfl rfl hdL_clear ⟨Nat.le_of_ble_eq_true rfl, Nat.le_of_ble_eq_true rfl⟩ rfl rfl hl.1 rfl (lv_room (Nat.le_of_ble_eq_true rfl)) dL_law_335 ⟨(Nat.le_trans (show cells + 2 ≤ cells + 9300 from by omega) hC), (Nat.le_trans (show slots + 12 ≤ slots + 100000 from by omega) hSl)⟩) hS (fun _ _ h => h) (fun _ h => h) (fun _ _ h => h) (fun E9 ce9 q9 u t H1 locs1 e1 _ hu => hu.elim) (fun k9 u t H1 locs1 ht _ hp hB hz8 _ hS => ?_)
  obtain ⟨w1, n1⟩ := u
  dsimp only at hp hB
  replace h := hp
  have hR : Rp κ w1 y (oX oa n1 d0 s0) [] H1 := by rw [← ht]; exact hB.wk (fun _ _ h => by obtain ⟨rfl, rfl⟩ := h; exact Or.inl ⟨rfl, rfl⟩)
  refine lv_istore (lv' := [(5, .int k9), (0, .ref b), (1, .ref (y.2 0 0)), (2, .ref (y.2 20 0)), (3, .ref oa), (4, .int (nI j))]) hx hb dL_law_338 hl (by decide) rfl (fun ls hl => ?_)
  refine lv_aload_n hx hb dL_law_340 rfl (lv_at hl 3 rfl) ?_
  refine lv_aload_n hx hb dL_law_341 rfl (lv_at hl 1 rfl) ?_
  refine lv_iload hx hb dL_law_342 (lv_at hl 5 rfl) ?_
  refine lv_iconst (v := (1 : Int32)) hx hb dL_law_344 (by decide) ?_
  refine lv_iadd hx hb dL_law_345 ?_
  rw [a1]
  refine va_sld hx hb hX9 hbs hbA hS v1 dL_law_346 ?_
  rw [c1]
  refine lv_aload_n hx hb dL_law_347 rfl (lv_at hl 1 rfl) ?_
  refine lv_iload hx hb dL_law_348 (lv_at hl 5 rfl) ?_
  refine lv_iconst (v := (2 : Int32)) hx hb dL_law_350 (by decide) ?_
  refine lv_iadd hx hb dL_law_351 ?_
  rw [a2]
  refine va_sld hx hb hX9 hbs hbA hS v2 dL_law_352 ?_
  rw [c2]
  refine ce_qi (fw := fun u => u) (fy := fun _ => y) (cr_V (n := 2) (As := [.int (xs (j + 1)), .int (xs (j + 2))]) (rest := []) ⟨hx, hb, hml, hown, hts⟩ hK hR (m_X8_clear hM hM.mro h) q2105 q2106 q2107 q85 q2108 rfl rfl hd_X8_clear ⟨Nat.le_of_ble_eq_true rfl, Nat.le_of_ble_eq_true rfl⟩ (rv hK hR hM.mro (ci := 11) rfl rfl) rfl rfl hl.1 rfl (lv_room (Nat.le_of_ble_eq_true rfl)) dL_law_353 ⟨(Nat.le_trans (show cells + 2 + 0 ≤ cells + 9300 from by omega) hC), (Nat.le_trans (show slots + 12 + 0 ≤ slots + 100000 from by omega) hSl)⟩) hR hS (fun b9 w2 H1 locs1 h hR _ hS => ?_)
  obtain ⟨e7, e9, h⟩ := h
  refine lv_istore (lv' := [(6, .int b9), (5, .int k9), (0, .ref b), (1, .ref (y.2 0 0)), (2, .ref (y.2 20 0)), (3, .ref oa), (4, .int (nI j))]) hx hb dL_law_356 hl (by decide) rfl (fun ls hl => ?_)
  refine lv_aload_n hx hb dL_law_358 rfl (lv_at hl 4 rfl) ?_
  refine ce_qi (fw := fun u => u) (fy := fun _ => y) (cr_V (n := 0) (As := []) (rest := []) ⟨hx, hb, hml, hown, hts⟩ hK hR (m_X8_thrown (post := fun r9 u9 => r9 = gv w2 20 0 0 ∧ u9 = w2) hM hM.mro ⟨rfl, rfl⟩) q2012 q2013 q2014 q85 q2015 rfl rfl hd_X8_thrown ⟨Nat.le_of_ble_eq_true rfl, Nat.le_of_ble_eq_true rfl⟩ (rv hK hR hM.mro (ci := 11) rfl rfl) rfl rfl hl.1 rfl (lv_room (Nat.le_of_ble_eq_true rfl)) dL_law_359 ⟨(Nat.le_trans (show cells + 2 + 0 + 0 ≤ cells + 9300 from by omega) hC), (Nat.le_trans (show slots + 12 + 0 + 0 ≤ slots + 100000 from by omega) hSl)⟩) hR hS (fun t9 w3 H1 locs1 ht9 hR _ hS => ?_)
  obtain ⟨et9, rfl⟩ := ht9
  rw [et9, e7]
  refine lv_iload hx hb dL_law_362 (lv_at hl 1 rfl) ?_
  refine lv_icmp_eq (tgt := 369) hx hb dL_law_364 (by decide) (fun _ => ?_) (fun c9 => absurd rfl c9)
  refine lv_iload hx hb dL_law_369 (lv_at hl 1 rfl) ?_
  refine lv_if_ne (tgt := 387) hx hb dL_law_371 (by decide) (fun c9 => ?_) (fun c9 => ?_)
  · skip
    refine lv_goto (tgt := 3023) hx hb dL_law_387 (by decide) ?_
    refine W.widen (k := cells + 9300) (n := slots + 100000) (by omega) (by omega) ?_
    exact kk _ _ _ _ _ _ _ _ h Keeps.rf hR hS (lv_sub (hl) [2, 3, 4, 5, 6] rfl)
  · have c9 : k9 = 0 := by first | exact c9 | exact Decidable.of_not_not c9
    have e9 := e9 c9
    refine lv_aload_n hx hb dL_law_374 rfl (lv_at hl 5 rfl) ?_
    refine va_getN (host := "PublicanryLaw") (T := TX9) (N := 3) (v := .long n1) hx hb hts in_X9 hown hK.1 (va_P1 (hR.2.2.2.1 _ _ ⟨rfl, rfl⟩).1) 0 rfl rfl 0 (by decide) (va_Nw.use rfl (hK.2.1.2.1 _ (List.mem_of_getElem? (i := 1) rfl))) (fun _ h => h) rfl dL_law_375 ?_
    refine lv_iload hx hb dL_law_378 (lv_at hl 0 rfl) ?_
    refine lv_i2l hx hb dL_law_380 rfl ?_
    refine W.lcmp hx hb dL_law_381 ?_
    refine lv_if_eq (tgt := 387) hx hb dL_law_382 (by decide) (fun _ => ?_) (fun c9 => absurd (by rw [e9]; exact lg_cmp_self _) c9)
    refine lv_goto (tgt := 3023) hx hb dL_law_387 (by decide) ?_
    refine W.widen (k := cells + 9300) (n := slots + 100000) (by omega) (by omega) ?_
    exact kk _ _ _ _ _ _ _ _ h Keeps.rf hR hS (lv_sub (hl) [2, 3, 4, 5, 6] rfl)
def sL_2 (κ : Kx) (y : Ly) (post : Wd → Ly → Prop) (n0 : Int64) (w : Wd) (x1 : Int32) : Prop := sp_X0_survey κ y (fun k9 n1 w1 => sp_X8_survey κ y (fun b9 w2 => gv w2 20 0 0 = k9 ∧ (k9 = 0 → n1 = b9.toInt64) ∧ post w2 y) w1 x1) n0 w x1
set_option maxHeartbeats 4000000 in
theorem lc_2 {p : Program} {l : Launch} {e : Env} {s : State} {m : MethodId} {below : List Frame} {meth : Method} {c : Code} {b L : Nat} {xs : Nat → Int32} {κ : Kx} {Q : State → Prop} {w : Wd} {y : Ly} {oa : Nat} {n0 : Int64} {d0 : UInt64} {s0 : Value} {H : Heap} {locs : List Loc} {ls : Array Slot} {cells slots j : Nat} {post : Wd → Ly → Prop} (F : LF p l s m meth c b L xs κ) (hm : mon s.heap (y.2 3 0)) (hR : Rp κ w y (oX oa n0 d0 s0) [] H) (hS : va_S (Af κ) s.heap H locs) (hW : WFc κ y) (hM : WFm κ y) (hl : lv_has ls 8 [(0, .ref b), (1, .ref (y.2 0 0)), (2, .ref (y.2 20 0)), (3, .ref oa), (4, .int (nI j))]) (hj : j + 5 ≤ L) (hC : cells + 9300 ≤ rmL.cells) (hSl : slots + 100000 ≤ rmL.slots) (h : sL_2 κ y post n0 w (xs (j + 1))) (kk : ∀ (w2 : Wd) (y2 : Ly) (n1 : Int64) (d1 : UInt64) (s1 : Value) (H1 : Heap) (locs1 : List Loc) (ls1 : Array Slot), post w2 y2 → Keeps y y2 → Rp κ w2 y2 (oX oa n1 d1 s1) [] H1 → va_S (Af κ) s.heap H1 locs1 → lv_has ls1 8 [(0, .ref b), (1, .ref (y.2 0 0)), (2, .ref (y.2 20 0)), (3, .ref oa), (4, .int (nI j))] → W p l e rmL s m #[.ref b] below meth c H1 locs1 (cells + 9300) (slots + 100000) Q (F0 m 3023 ls1 [])) : W p l e rmL s m #[.ref b] below meth c H locs cells slots Q (F0 m 390 ls []) := by
  obtain ⟨hx, hb, hr, hml, hlk, hown, hts, hfl, hK, hPx, hX9, hbl, hz9, hL9⟩ := F
  have hbA : ¬ Af κ b := fun h9 => Nat.lt_irrefl _ (Nat.lt_of_lt_of_le hbl h9)
  have hbs : b < s.heap.size := Nat.lt_of_lt_of_le hbl hz9
  have a1 : nI j + (1 : Int32) = nI (j + 1) := nI_add j 1
  have c1 : (nI (j + 1)).toNatClampNeg = j + 1 := nI_clamp (by omega)
  have v1 : vp_in (nI (j + 1)) L := vp_in_nI (by omega) (by omega)
  unfold sL_2 at h
  refine lv_aload_n hx hb dL_law_390 rfl (lv_at hl 1 rfl) ?_
  refine lv_aload_n hx hb dL_law_391 rfl (lv_at hl 0 rfl) ?_
  refine lv_iload hx hb dL_law_392 (lv_at hl 4 rfl) ?_
  refine lv_iconst (v := (1 : Int32)) hx hb dL_law_394 (by decide) ?_
  refine lv_iadd hx hb dL_law_395 ?_
  rw [a1]
  refine va_sld hx hb hX9 hbs hbA hS v1 dL_law_396 ?_
  rw [c1]
  refine lv_aload_n hx hb dL_law_397 rfl (lv_at hl 3 rfl) ?_
  refine vx_calli (crx_SW (n := 3) (As := [.ref (y.2 0 0), .int (xs (j + 1)), .ref oa]) (rest := []) ⟨hx, hb, hml, hown, hts⟩ hK hR (m_X0_survey (X := xl (oX oa n0 d0 s0) []) hfl hW hW.pub (Or.inl ⟨rfl, rfl⟩) h) q1049 q1050 q73 q1051 rfl rfl hdL_survey ⟨Nat.le_of_ble_eq_true rfl, Nat.le_of_ble_eq_true rfl⟩ rfl rfl hl.1 rfl (lv_room (Nat.le_of_ble_eq_true rfl)) dL_law_398 ⟨(Nat.le_trans (show cells + 1 ≤ cells + 9300 from by omega) hC), (Nat.le_trans (show slots + 6 ≤ slots + 100000 from by omega) hSl)⟩) hS (fun _ _ h => h) (fun _ h => h) (fun _ _ h => h) (fun E9 ce9 q9 u t H1 locs1 e1 _ hu => hu.elim) (fun k9 u t H1 locs1 ht _ hp hB hz8 _ hS => ?_)
  obtain ⟨w1, n1⟩ := u
  dsimp only at hp hB
  replace h := hp
  have hR : Rp κ w1 y (oX oa n1 d0 s0) [] H1 := by rw [← ht]; exact hB.wk (fun _ _ h => by obtain ⟨rfl, rfl⟩ := h; exact Or.inl ⟨rfl, rfl⟩)
  refine lv_istore (lv' := [(5, .int k9), (0, .ref b), (1, .ref (y.2 0 0)), (2, .ref (y.2 20 0)), (3, .ref oa), (4, .int (nI j))]) hx hb dL_law_401 hl (by decide) rfl (fun ls hl => ?_)
  refine lv_aload_n hx hb dL_law_403 rfl (lv_at hl 3 rfl) ?_
  refine lv_aload_n hx hb dL_law_404 rfl (lv_at hl 1 rfl) ?_
  refine lv_iload hx hb dL_law_405 (lv_at hl 5 rfl) ?_
  refine lv_iconst (v := (1 : Int32)) hx hb dL_law_407 (by decide) ?_
  refine lv_iadd hx hb dL_law_408 ?_
  rw [a1]
  refine va_sld hx hb hX9 hbs hbA hS v1 dL_law_409 ?_
  rw [c1]
  refine ce_qi (fw := fun u => u) (fy := fun _ => y) (cr_V (n := 1) (As := [.int (xs (j + 1))]) (rest := []) ⟨hx, hb, hml, hown, hts⟩ hK hR (m_X8_survey hM hM.mro h) q2114 q2115 q2116 q85 q2117 rfl rfl hd_X8_survey ⟨Nat.le_of_ble_eq_true rfl, Nat.le_of_ble_eq_true rfl⟩ (rv hK hR hM.mro (ci := 11) rfl rfl) rfl rfl hl.1 rfl (lv_room (Nat.le_of_ble_eq_true rfl)) dL_law_410 ⟨(Nat.le_trans (show cells + 1 + 0 ≤ cells + 9300 from by omega) hC), (Nat.le_trans (show slots + 6 + 0 ≤ slots + 100000 from by omega) hSl)⟩) hR hS (fun b9 w2 H1 locs1 h hR _ hS => ?_)
  obtain ⟨e7, e9, h⟩ := h
  refine lv_istore (lv' := [(6, .int b9), (5, .int k9), (0, .ref b), (1, .ref (y.2 0 0)), (2, .ref (y.2 20 0)), (3, .ref oa), (4, .int (nI j))]) hx hb dL_law_413 hl (by decide) rfl (fun ls hl => ?_)
  refine lv_aload_n hx hb dL_law_415 rfl (lv_at hl 4 rfl) ?_
  refine ce_qi (fw := fun u => u) (fy := fun _ => y) (cr_V (n := 0) (As := []) (rest := []) ⟨hx, hb, hml, hown, hts⟩ hK hR (m_X8_thrown (post := fun r9 u9 => r9 = gv w2 20 0 0 ∧ u9 = w2) hM hM.mro ⟨rfl, rfl⟩) q2012 q2013 q2014 q85 q2015 rfl rfl hd_X8_thrown ⟨Nat.le_of_ble_eq_true rfl, Nat.le_of_ble_eq_true rfl⟩ (rv hK hR hM.mro (ci := 11) rfl rfl) rfl rfl hl.1 rfl (lv_room (Nat.le_of_ble_eq_true rfl)) dL_law_416 ⟨(Nat.le_trans (show cells + 1 + 0 + 0 ≤ cells + 9300 from by omega) hC), (Nat.le_trans (show slots + 6 + 0 + 0 ≤ slots + 100000 from by omega) hSl)⟩) hR hS (fun t9 w3 H1 locs1 ht9 hR _ hS => ?_)
  obtain ⟨et9, rfl⟩ := ht9
  rw [et9, e7]
  refine lv_iload hx hb dL_law_419 (lv_at hl 1 rfl) ?_
  refine lv_icmp_eq (tgt := 426) hx hb dL_law_421 (by decide) (fun _ => ?_) (fun c9 => absurd rfl c9)
  refine lv_iload hx hb dL_law_426 (lv_at hl 1 rfl) ?_
  refine lv_if_ne (tgt := 444) hx hb dL_law_428 (by decide) (fun c9 => ?_) (fun c9 => ?_)
  · skip
    refine lv_goto (tgt := 3023) hx hb dL_law_444 (by decide) ?_
    refine W.widen (k := cells + 9300) (n := slots + 100000) (by omega) (by omega) ?_
    exact kk _ _ _ _ _ _ _ _ h Keeps.rf hR hS (lv_sub (hl) [2, 3, 4, 5, 6] rfl)
  · have c9 : k9 = 0 := by first | exact c9 | exact Decidable.of_not_not c9
    have e9 := e9 c9
    refine lv_aload_n hx hb dL_law_431 rfl (lv_at hl 5 rfl) ?_
    refine va_getN (host := "PublicanryLaw") (T := TX9) (N := 3) (v := .long n1) hx hb hts in_X9 hown hK.1 (va_P1 (hR.2.2.2.1 _ _ ⟨rfl, rfl⟩).1) 0 rfl rfl 0 (by decide) (va_Nw.use rfl (hK.2.1.2.1 _ (List.mem_of_getElem? (i := 1) rfl))) (fun _ h => h) rfl dL_law_432 ?_
    refine lv_iload hx hb dL_law_435 (lv_at hl 0 rfl) ?_
    refine lv_i2l hx hb dL_law_437 rfl ?_
    refine W.lcmp hx hb dL_law_438 ?_
    refine lv_if_eq (tgt := 444) hx hb dL_law_439 (by decide) (fun _ => ?_) (fun c9 => absurd (by rw [e9]; exact lg_cmp_self _) c9)
    refine lv_goto (tgt := 3023) hx hb dL_law_444 (by decide) ?_
    refine W.widen (k := cells + 9300) (n := slots + 100000) (by omega) (by omega) ?_
    exact kk _ _ _ _ _ _ _ _ h Keeps.rf hR hS (lv_sub (hl) [2, 3, 4, 5, 6] rfl)
def sL_3 (κ : Kx) (y : Ly) (post : Wd → Ly → Prop) (n0 : Int64) (w : Wd) (x1 : Int32) : Prop := sp_X0_war κ y (fun k9 n1 w1 => sp_X8_war κ y (fun b9 w2 => gv w2 20 0 0 = k9 ∧ (k9 = 0 → n1 = b9.toInt64) ∧ post w2 y) w1 x1) n0 w x1
set_option maxHeartbeats 4000000 in
theorem lc_3 {p : Program} {l : Launch} {e : Env} {s : State} {m : MethodId} {below : List Frame} {meth : Method} {c : Code} {b L : Nat} {xs : Nat → Int32} {κ : Kx} {Q : State → Prop} {w : Wd} {y : Ly} {oa : Nat} {n0 : Int64} {d0 : UInt64} {s0 : Value} {H : Heap} {locs : List Loc} {ls : Array Slot} {cells slots j : Nat} {post : Wd → Ly → Prop} (F : LF p l s m meth c b L xs κ) (hm : mon s.heap (y.2 3 0)) (hR : Rp κ w y (oX oa n0 d0 s0) [] H) (hS : va_S (Af κ) s.heap H locs) (hW : WFc κ y) (hM : WFm κ y) (hl : lv_has ls 8 [(0, .ref b), (1, .ref (y.2 0 0)), (2, .ref (y.2 20 0)), (3, .ref oa), (4, .int (nI j))]) (hj : j + 5 ≤ L) (hC : cells + 9300 ≤ rmL.cells) (hSl : slots + 100000 ≤ rmL.slots) (h : sL_3 κ y post n0 w (xs (j + 1))) (kk : ∀ (w2 : Wd) (y2 : Ly) (n1 : Int64) (d1 : UInt64) (s1 : Value) (H1 : Heap) (locs1 : List Loc) (ls1 : Array Slot), post w2 y2 → Keeps y y2 → Rp κ w2 y2 (oX oa n1 d1 s1) [] H1 → va_S (Af κ) s.heap H1 locs1 → lv_has ls1 8 [(0, .ref b), (1, .ref (y.2 0 0)), (2, .ref (y.2 20 0)), (3, .ref oa), (4, .int (nI j))] → W p l e rmL s m #[.ref b] below meth c H1 locs1 (cells + 9300) (slots + 100000) Q (F0 m 3023 ls1 [])) : W p l e rmL s m #[.ref b] below meth c H locs cells slots Q (F0 m 447 ls []) := by
  obtain ⟨hx, hb, hr, hml, hlk, hown, hts, hfl, hK, hPx, hX9, hbl, hz9, hL9⟩ := F
  have hbA : ¬ Af κ b := fun h9 => Nat.lt_irrefl _ (Nat.lt_of_lt_of_le hbl h9)
  have hbs : b < s.heap.size := Nat.lt_of_lt_of_le hbl hz9
  have a1 : nI j + (1 : Int32) = nI (j + 1) := nI_add j 1
  have c1 : (nI (j + 1)).toNatClampNeg = j + 1 := nI_clamp (by omega)
  have v1 : vp_in (nI (j + 1)) L := vp_in_nI (by omega) (by omega)
  unfold sL_3 at h
  refine lv_aload_n hx hb dL_law_447 rfl (lv_at hl 1 rfl) ?_
  refine lv_aload_n hx hb dL_law_448 rfl (lv_at hl 0 rfl) ?_
  refine lv_iload hx hb dL_law_449 (lv_at hl 4 rfl) ?_
  refine lv_iconst (v := (1 : Int32)) hx hb dL_law_451 (by decide) ?_
  refine lv_iadd hx hb dL_law_452 ?_
  rw [a1]
  refine va_sld hx hb hX9 hbs hbA hS v1 dL_law_453 ?_
  rw [c1]
  refine lv_aload_n hx hb dL_law_454 rfl (lv_at hl 3 rfl) ?_
  refine vx_calli (crx_SW (n := 3) (As := [.ref (y.2 0 0), .int (xs (j + 1)), .ref oa]) (rest := []) ⟨hx, hb, hml, hown, hts⟩ hK hR (m_X0_war (X := xl (oX oa n0 d0 s0) []) hfl hW hW.pub (Or.inl ⟨rfl, rfl⟩) h) q1056 q1057 q73 q1058 rfl rfl hdL_war ⟨Nat.le_of_ble_eq_true rfl, Nat.le_of_ble_eq_true rfl⟩ rfl rfl hl.1 rfl (lv_room (Nat.le_of_ble_eq_true rfl)) dL_law_455 ⟨(Nat.le_trans (show cells + 2 ≤ cells + 9300 from by omega) hC), (Nat.le_trans (show slots + 10 ≤ slots + 100000 from by omega) hSl)⟩) hS (fun _ _ h => h) (fun _ h => h) (fun _ _ h => h) (fun E9 ce9 q9 u t H1 locs1 e1 _ hu => hu.elim) (fun k9 u t H1 locs1 ht _ hp hB hz8 _ hS => ?_)
  obtain ⟨w1, n1⟩ := u
  dsimp only at hp hB
  replace h := hp
  have hR : Rp κ w1 y (oX oa n1 d0 s0) [] H1 := by rw [← ht]; exact hB.wk (fun _ _ h => by obtain ⟨rfl, rfl⟩ := h; exact Or.inl ⟨rfl, rfl⟩)
  refine lv_istore (lv' := [(5, .int k9), (0, .ref b), (1, .ref (y.2 0 0)), (2, .ref (y.2 20 0)), (3, .ref oa), (4, .int (nI j))]) hx hb dL_law_458 hl (by decide) rfl (fun ls hl => ?_)
  refine lv_aload_n hx hb dL_law_460 rfl (lv_at hl 3 rfl) ?_
  refine lv_aload_n hx hb dL_law_461 rfl (lv_at hl 1 rfl) ?_
  refine lv_iload hx hb dL_law_462 (lv_at hl 5 rfl) ?_
  refine lv_iconst (v := (1 : Int32)) hx hb dL_law_464 (by decide) ?_
  refine lv_iadd hx hb dL_law_465 ?_
  rw [a1]
  refine va_sld hx hb hX9 hbs hbA hS v1 dL_law_466 ?_
  rw [c1]
  refine ce_qi (fw := fun u => u) (fy := fun _ => y) (cr_V (n := 1) (As := [.int (xs (j + 1))]) (rest := []) ⟨hx, hb, hml, hown, hts⟩ hK hR (m_X8_war hM hM.mro h) q2122 q2123 q2124 q85 q2125 rfl rfl hd_X8_war ⟨Nat.le_of_ble_eq_true rfl, Nat.le_of_ble_eq_true rfl⟩ (rv hK hR hM.mro (ci := 11) rfl rfl) rfl rfl hl.1 rfl (lv_room (Nat.le_of_ble_eq_true rfl)) dL_law_467 ⟨(Nat.le_trans (show cells + 2 + 0 ≤ cells + 9300 from by omega) hC), (Nat.le_trans (show slots + 10 + 0 ≤ slots + 100000 from by omega) hSl)⟩) hR hS (fun b9 w2 H1 locs1 h hR _ hS => ?_)
  obtain ⟨e7, e9, h⟩ := h
  refine lv_istore (lv' := [(6, .int b9), (5, .int k9), (0, .ref b), (1, .ref (y.2 0 0)), (2, .ref (y.2 20 0)), (3, .ref oa), (4, .int (nI j))]) hx hb dL_law_470 hl (by decide) rfl (fun ls hl => ?_)
  refine lv_aload_n hx hb dL_law_472 rfl (lv_at hl 4 rfl) ?_
  refine ce_qi (fw := fun u => u) (fy := fun _ => y) (cr_V (n := 0) (As := []) (rest := []) ⟨hx, hb, hml, hown, hts⟩ hK hR (m_X8_thrown (post := fun r9 u9 => r9 = gv w2 20 0 0 ∧ u9 = w2) hM hM.mro ⟨rfl, rfl⟩) q2012 q2013 q2014 q85 q2015 rfl rfl hd_X8_thrown ⟨Nat.le_of_ble_eq_true rfl, Nat.le_of_ble_eq_true rfl⟩ (rv hK hR hM.mro (ci := 11) rfl rfl) rfl rfl hl.1 rfl (lv_room (Nat.le_of_ble_eq_true rfl)) dL_law_473 ⟨(Nat.le_trans (show cells + 2 + 0 + 0 ≤ cells + 9300 from by omega) hC), (Nat.le_trans (show slots + 10 + 0 + 0 ≤ slots + 100000 from by omega) hSl)⟩) hR hS (fun t9 w3 H1 locs1 ht9 hR _ hS => ?_)
  obtain ⟨et9, rfl⟩ := ht9
  rw [et9, e7]
  refine lv_iload hx hb dL_law_476 (lv_at hl 1 rfl) ?_
  refine lv_icmp_eq (tgt := 483) hx hb dL_law_478 (by decide) (fun _ => ?_) (fun c9 => absurd rfl c9)
  refine lv_iload hx hb dL_law_483 (lv_at hl 1 rfl) ?_
  refine lv_if_ne (tgt := 501) hx hb dL_law_485 (by decide) (fun c9 => ?_) (fun c9 => ?_)
  · skip
    refine lv_goto (tgt := 3023) hx hb dL_law_501 (by decide) ?_
    refine W.widen (k := cells + 9300) (n := slots + 100000) (by omega) (by omega) ?_
    exact kk _ _ _ _ _ _ _ _ h Keeps.rf hR hS (lv_sub (hl) [2, 3, 4, 5, 6] rfl)
  · have c9 : k9 = 0 := by first | exact c9 | exact Decidable.of_not_not c9
    have e9 := e9 c9
    refine lv_aload_n hx hb dL_law_488 rfl (lv_at hl 5 rfl) ?_
    refine va_getN (host := "PublicanryLaw") (T := TX9) (N := 3) (v := .long n1) hx hb hts in_X9 hown hK.1 (va_P1 (hR.2.2.2.1 _ _ ⟨rfl, rfl⟩).1) 0 rfl rfl 0 (by decide) (va_Nw.use rfl (hK.2.1.2.1 _ (List.mem_of_getElem? (i := 1) rfl))) (fun _ h => h) rfl dL_law_489 ?_
    refine lv_iload hx hb dL_law_492 (lv_at hl 0 rfl) ?_
    refine lv_i2l hx hb dL_law_494 rfl ?_
    refine W.lcmp hx hb dL_law_495 ?_
    refine lv_if_eq (tgt := 501) hx hb dL_law_496 (by decide) (fun _ => ?_) (fun c9 => absurd (by rw [e9]; exact lg_cmp_self _) c9)
    refine lv_goto (tgt := 3023) hx hb dL_law_501 (by decide) ?_
    refine W.widen (k := cells + 9300) (n := slots + 100000) (by omega) (by omega) ?_
    exact kk _ _ _ _ _ _ _ _ h Keeps.rf hR hS (lv_sub (hl) [2, 3, 4, 5, 6] rfl)
def sL_4 (κ : Kx) (y : Ly) (post : Wd → Ly → Prop) (n0 : Int64) (w : Wd) (x1 : Int32) (x2 : Int32) (x3 : Int32) : Prop := sp_X0_edict κ y (fun k9 n1 w1 => sp_X8_edict κ y (fun b9 w2 => gv w2 20 0 0 = k9 ∧ (k9 = 0 → n1 = b9.toInt64) ∧ post w2 y) w1 x1 x2 x3) n0 w x1 x2 x3
set_option maxHeartbeats 4000000 in
theorem lc_4 {p : Program} {l : Launch} {e : Env} {s : State} {m : MethodId} {below : List Frame} {meth : Method} {c : Code} {b L : Nat} {xs : Nat → Int32} {κ : Kx} {Q : State → Prop} {w : Wd} {y : Ly} {oa : Nat} {n0 : Int64} {d0 : UInt64} {s0 : Value} {H : Heap} {locs : List Loc} {ls : Array Slot} {cells slots j : Nat} {post : Wd → Ly → Prop} (F : LF p l s m meth c b L xs κ) (hm : mon s.heap (y.2 3 0)) (hR : Rp κ w y (oX oa n0 d0 s0) [] H) (hS : va_S (Af κ) s.heap H locs) (hW : WFc κ y) (hM : WFm κ y) (hl : lv_has ls 8 [(0, .ref b), (1, .ref (y.2 0 0)), (2, .ref (y.2 20 0)), (3, .ref oa), (4, .int (nI j))]) (hj : j + 5 ≤ L) (hC : cells + 9300 ≤ rmL.cells) (hSl : slots + 100000 ≤ rmL.slots) (h : sL_4 κ y post n0 w (xs (j + 1)) (xs (j + 2)) (xs (j + 3))) (kk : ∀ (w2 : Wd) (y2 : Ly) (n1 : Int64) (d1 : UInt64) (s1 : Value) (H1 : Heap) (locs1 : List Loc) (ls1 : Array Slot), post w2 y2 → Keeps y y2 → Rp κ w2 y2 (oX oa n1 d1 s1) [] H1 → va_S (Af κ) s.heap H1 locs1 → lv_has ls1 8 [(0, .ref b), (1, .ref (y.2 0 0)), (2, .ref (y.2 20 0)), (3, .ref oa), (4, .int (nI j))] → W p l e rmL s m #[.ref b] below meth c H1 locs1 (cells + 9300) (slots + 100000) Q (F0 m 3023 ls1 [])) : W p l e rmL s m #[.ref b] below meth c H locs cells slots Q (F0 m 504 ls []) := by
  obtain ⟨hx, hb, hr, hml, hlk, hown, hts, hfl, hK, hPx, hX9, hbl, hz9, hL9⟩ := F
  have hbA : ¬ Af κ b := fun h9 => Nat.lt_irrefl _ (Nat.lt_of_lt_of_le hbl h9)
  have hbs : b < s.heap.size := Nat.lt_of_lt_of_le hbl hz9
  have a1 : nI j + (1 : Int32) = nI (j + 1) := nI_add j 1
  have c1 : (nI (j + 1)).toNatClampNeg = j + 1 := nI_clamp (by omega)
  have v1 : vp_in (nI (j + 1)) L := vp_in_nI (by omega) (by omega)
  have a2 : nI j + (2 : Int32) = nI (j + 2) := nI_add j 2
  have c2 : (nI (j + 2)).toNatClampNeg = j + 2 := nI_clamp (by omega)
  have v2 : vp_in (nI (j + 2)) L := vp_in_nI (by omega) (by omega)
  have a3 : nI j + (3 : Int32) = nI (j + 3) := nI_add j 3
  have c3 : (nI (j + 3)).toNatClampNeg = j + 3 := nI_clamp (by omega)
  have v3 : vp_in (nI (j + 3)) L := vp_in_nI (by omega) (by omega)
  unfold sL_4 at h
  refine lv_aload_n hx hb dL_law_504 rfl (lv_at hl 1 rfl) ?_
  refine lv_aload_n hx hb dL_law_505 rfl (lv_at hl 0 rfl) ?_
  refine lv_iload hx hb dL_law_506 (lv_at hl 4 rfl) ?_
  refine lv_iconst (v := (1 : Int32)) hx hb dL_law_508 (by decide) ?_
  refine lv_iadd hx hb dL_law_509 ?_
  rw [a1]
  refine va_sld hx hb hX9 hbs hbA hS v1 dL_law_510 ?_
  rw [c1]
  refine lv_aload_n hx hb dL_law_511 rfl (lv_at hl 0 rfl) ?_
  refine lv_iload hx hb dL_law_512 (lv_at hl 4 rfl) ?_
  refine lv_iconst (v := (2 : Int32)) hx hb dL_law_514 (by decide) ?_
  refine lv_iadd hx hb dL_law_515 ?_
  rw [a2]
  refine va_sld hx hb hX9 hbs hbA hS v2 dL_law_516 ?_
  rw [c2]
  refine lv_aload_n hx hb dL_law_517 rfl (lv_at hl 0 rfl) ?_
  refine lv_iload hx hb dL_law_518 (lv_at hl 4 rfl) ?_
  refine lv_iconst (v := (3 : Int32)) hx hb dL_law_520 (by decide) ?_
  refine lv_iadd hx hb dL_law_521 ?_
  rw [a3]
  refine va_sld hx hb hX9 hbs hbA hS v3 dL_law_522 ?_
  rw [c3]
  refine lv_aload_n hx hb dL_law_523 rfl (lv_at hl 3 rfl) ?_
  refine vx_calli (crx_SW (n := 5) (As := [.ref (y.2 0 0), .int (xs (j + 1)), .int (xs (j + 2)), .int (xs (j + 3)), .ref oa]) (rest := []) ⟨hx, hb, hml, hown, hts⟩ hK hR (m_X0_edict (X := xl (oX oa n0 d0 s0) []) hfl hW hW.pub (Or.inl ⟨rfl, rfl⟩) h) q1068 q1069 q73 q1070 rfl rfl hdL_edict ⟨Nat.le_of_ble_eq_true rfl, Nat.le_of_ble_eq_true rfl⟩ rfl rfl hl.1 rfl (lv_room (Nat.le_of_ble_eq_true rfl)) dL_law_524 ⟨(Nat.le_trans (show cells + 3 ≤ cells + 9300 from by omega) hC), (Nat.le_trans (show slots + 15 ≤ slots + 100000 from by omega) hSl)⟩) hS (fun _ _ h => h) (fun _ h => h) (fun _ _ h => h) (fun E9 ce9 q9 u t H1 locs1 e1 _ hu => hu.elim) (fun k9 u t H1 locs1 ht _ hp hB hz8 _ hS => ?_)
  obtain ⟨w1, n1⟩ := u
  dsimp only at hp hB
  replace h := hp
  have hR : Rp κ w1 y (oX oa n1 d0 s0) [] H1 := by rw [← ht]; exact hB.wk (fun _ _ h => by obtain ⟨rfl, rfl⟩ := h; exact Or.inl ⟨rfl, rfl⟩)
  refine lv_istore (lv' := [(5, .int k9), (0, .ref b), (1, .ref (y.2 0 0)), (2, .ref (y.2 20 0)), (3, .ref oa), (4, .int (nI j))]) hx hb dL_law_527 hl (by decide) rfl (fun ls hl => ?_)
  refine lv_aload_n hx hb dL_law_529 rfl (lv_at hl 3 rfl) ?_
  refine lv_aload_n hx hb dL_law_530 rfl (lv_at hl 1 rfl) ?_
  refine lv_iload hx hb dL_law_531 (lv_at hl 5 rfl) ?_
  refine lv_iconst (v := (1 : Int32)) hx hb dL_law_533 (by decide) ?_
  refine lv_iadd hx hb dL_law_534 ?_
  rw [a1]
  refine va_sld hx hb hX9 hbs hbA hS v1 dL_law_535 ?_
  rw [c1]
  refine lv_aload_n hx hb dL_law_536 rfl (lv_at hl 1 rfl) ?_
  refine lv_iload hx hb dL_law_537 (lv_at hl 5 rfl) ?_
  refine lv_iconst (v := (2 : Int32)) hx hb dL_law_539 (by decide) ?_
  refine lv_iadd hx hb dL_law_540 ?_
  rw [a2]
  refine va_sld hx hb hX9 hbs hbA hS v2 dL_law_541 ?_
  rw [c2]
  refine lv_aload_n hx hb dL_law_542 rfl (lv_at hl 1 rfl) ?_
  refine lv_iload hx hb dL_law_543 (lv_at hl 5 rfl) ?_
  refine lv_iconst (v := (3 : Int32)) hx hb dL_law_545 (by decide) ?_
  refine lv_iadd hx hb dL_law_546 ?_
  rw [a3]
  refine va_sld hx hb hX9 hbs hbA hS v3 dL_law_547 ?_
  rw [c3]
  refine ce_qi (fw := fun u => u) (fy := fun _ => y) (cr_V (n := 3) (As := [.int (xs (j + 1)), .int (xs (j + 2)), .int (xs (j + 3))]) (rest := []) ⟨hx, hb, hml, hown, hts⟩ hK hR (m_X8_edict hM hM.mro h) q2126 q2127 q2128 q85 q2129 rfl rfl hd_X8_edict ⟨Nat.le_of_ble_eq_true rfl, Nat.le_of_ble_eq_true rfl⟩ (rv hK hR hM.mro (ci := 11) rfl rfl) rfl rfl hl.1 rfl (lv_room (Nat.le_of_ble_eq_true rfl)) dL_law_548 ⟨(Nat.le_trans (show cells + 3 + 0 ≤ cells + 9300 from by omega) hC), (Nat.le_trans (show slots + 15 + 0 ≤ slots + 100000 from by omega) hSl)⟩) hR hS (fun b9 w2 H1 locs1 h hR _ hS => ?_)
  obtain ⟨e7, e9, h⟩ := h
  refine lv_istore (lv' := [(6, .int b9), (5, .int k9), (0, .ref b), (1, .ref (y.2 0 0)), (2, .ref (y.2 20 0)), (3, .ref oa), (4, .int (nI j))]) hx hb dL_law_551 hl (by decide) rfl (fun ls hl => ?_)
  refine lv_aload_n hx hb dL_law_553 rfl (lv_at hl 4 rfl) ?_
  refine ce_qi (fw := fun u => u) (fy := fun _ => y) (cr_V (n := 0) (As := []) (rest := []) ⟨hx, hb, hml, hown, hts⟩ hK hR (m_X8_thrown (post := fun r9 u9 => r9 = gv w2 20 0 0 ∧ u9 = w2) hM hM.mro ⟨rfl, rfl⟩) q2012 q2013 q2014 q85 q2015 rfl rfl hd_X8_thrown ⟨Nat.le_of_ble_eq_true rfl, Nat.le_of_ble_eq_true rfl⟩ (rv hK hR hM.mro (ci := 11) rfl rfl) rfl rfl hl.1 rfl (lv_room (Nat.le_of_ble_eq_true rfl)) dL_law_554 ⟨(Nat.le_trans (show cells + 3 + 0 + 0 ≤ cells + 9300 from by omega) hC), (Nat.le_trans (show slots + 15 + 0 + 0 ≤ slots + 100000 from by omega) hSl)⟩) hR hS (fun t9 w3 H1 locs1 ht9 hR _ hS => ?_)
  obtain ⟨et9, rfl⟩ := ht9
  rw [et9, e7]
  refine lv_iload hx hb dL_law_557 (lv_at hl 1 rfl) ?_
  refine lv_icmp_eq (tgt := 564) hx hb dL_law_559 (by decide) (fun _ => ?_) (fun c9 => absurd rfl c9)
  refine lv_iload hx hb dL_law_564 (lv_at hl 1 rfl) ?_
  refine lv_if_ne (tgt := 582) hx hb dL_law_566 (by decide) (fun c9 => ?_) (fun c9 => ?_)
  · skip
    refine lv_goto (tgt := 3023) hx hb dL_law_582 (by decide) ?_
    refine W.widen (k := cells + 9300) (n := slots + 100000) (by omega) (by omega) ?_
    exact kk _ _ _ _ _ _ _ _ h Keeps.rf hR hS (lv_sub (hl) [2, 3, 4, 5, 6] rfl)
  · have c9 : k9 = 0 := by first | exact c9 | exact Decidable.of_not_not c9
    have e9 := e9 c9
    refine lv_aload_n hx hb dL_law_569 rfl (lv_at hl 5 rfl) ?_
    refine va_getN (host := "PublicanryLaw") (T := TX9) (N := 3) (v := .long n1) hx hb hts in_X9 hown hK.1 (va_P1 (hR.2.2.2.1 _ _ ⟨rfl, rfl⟩).1) 0 rfl rfl 0 (by decide) (va_Nw.use rfl (hK.2.1.2.1 _ (List.mem_of_getElem? (i := 1) rfl))) (fun _ h => h) rfl dL_law_570 ?_
    refine lv_iload hx hb dL_law_573 (lv_at hl 0 rfl) ?_
    refine lv_i2l hx hb dL_law_575 rfl ?_
    refine W.lcmp hx hb dL_law_576 ?_
    refine lv_if_eq (tgt := 582) hx hb dL_law_577 (by decide) (fun _ => ?_) (fun c9 => absurd (by rw [e9]; exact lg_cmp_self _) c9)
    refine lv_goto (tgt := 3023) hx hb dL_law_582 (by decide) ?_
    refine W.widen (k := cells + 9300) (n := slots + 100000) (by omega) (by omega) ?_
    exact kk _ _ _ _ _ _ _ _ h Keeps.rf hR hS (lv_sub (hl) [2, 3, 4, 5, 6] rfl)
def sL_5 (κ : Kx) (y : Ly) (post : Wd → Ly → Prop) (n0 : Int64) (w : Wd) (x1 : Int32) : Prop := sp_X0_cut κ y (fun k9 n1 w1 => sp_X8_cut κ y (fun b9 w2 => gv w2 20 0 0 = k9 ∧ (k9 = 0 → n1 = b9.toInt64) ∧ post w2 y) w1 x1) n0 w x1
set_option maxHeartbeats 4000000 in
theorem lc_5 {p : Program} {l : Launch} {e : Env} {s : State} {m : MethodId} {below : List Frame} {meth : Method} {c : Code} {b L : Nat} {xs : Nat → Int32} {κ : Kx} {Q : State → Prop} {w : Wd} {y : Ly} {oa : Nat} {n0 : Int64} {d0 : UInt64} {s0 : Value} {H : Heap} {locs : List Loc} {ls : Array Slot} {cells slots j : Nat} {post : Wd → Ly → Prop} (F : LF p l s m meth c b L xs κ) (hm : mon s.heap (y.2 3 0)) (hR : Rp κ w y (oX oa n0 d0 s0) [] H) (hS : va_S (Af κ) s.heap H locs) (hW : WFc κ y) (hM : WFm κ y) (hl : lv_has ls 8 [(0, .ref b), (1, .ref (y.2 0 0)), (2, .ref (y.2 20 0)), (3, .ref oa), (4, .int (nI j))]) (hj : j + 5 ≤ L) (hC : cells + 9300 ≤ rmL.cells) (hSl : slots + 100000 ≤ rmL.slots) (h : sL_5 κ y post n0 w (xs (j + 1))) (kk : ∀ (w2 : Wd) (y2 : Ly) (n1 : Int64) (d1 : UInt64) (s1 : Value) (H1 : Heap) (locs1 : List Loc) (ls1 : Array Slot), post w2 y2 → Keeps y y2 → Rp κ w2 y2 (oX oa n1 d1 s1) [] H1 → va_S (Af κ) s.heap H1 locs1 → lv_has ls1 8 [(0, .ref b), (1, .ref (y.2 0 0)), (2, .ref (y.2 20 0)), (3, .ref oa), (4, .int (nI j))] → W p l e rmL s m #[.ref b] below meth c H1 locs1 (cells + 9300) (slots + 100000) Q (F0 m 3023 ls1 [])) : W p l e rmL s m #[.ref b] below meth c H locs cells slots Q (F0 m 585 ls []) := by
  obtain ⟨hx, hb, hr, hml, hlk, hown, hts, hfl, hK, hPx, hX9, hbl, hz9, hL9⟩ := F
  have hbA : ¬ Af κ b := fun h9 => Nat.lt_irrefl _ (Nat.lt_of_lt_of_le hbl h9)
  have hbs : b < s.heap.size := Nat.lt_of_lt_of_le hbl hz9
  have a1 : nI j + (1 : Int32) = nI (j + 1) := nI_add j 1
  have c1 : (nI (j + 1)).toNatClampNeg = j + 1 := nI_clamp (by omega)
  have v1 : vp_in (nI (j + 1)) L := vp_in_nI (by omega) (by omega)
  unfold sL_5 at h
  refine lv_aload_n hx hb dL_law_585 rfl (lv_at hl 1 rfl) ?_
  refine lv_aload_n hx hb dL_law_586 rfl (lv_at hl 0 rfl) ?_
  refine lv_iload hx hb dL_law_587 (lv_at hl 4 rfl) ?_
  refine lv_iconst (v := (1 : Int32)) hx hb dL_law_589 (by decide) ?_
  refine lv_iadd hx hb dL_law_590 ?_
  rw [a1]
  refine va_sld hx hb hX9 hbs hbA hS v1 dL_law_591 ?_
  rw [c1]
  refine lv_aload_n hx hb dL_law_592 rfl (lv_at hl 3 rfl) ?_
  refine vx_calli (crx_SW (n := 3) (As := [.ref (y.2 0 0), .int (xs (j + 1)), .ref oa]) (rest := []) ⟨hx, hb, hml, hown, hts⟩ hK hR (m_X0_cut (X := xl (oX oa n0 d0 s0) []) hfl hW hW.pub (Or.inl ⟨rfl, rfl⟩) h) q1096 q1097 q73 q1098 rfl rfl hdL_cut ⟨Nat.le_of_ble_eq_true rfl, Nat.le_of_ble_eq_true rfl⟩ rfl rfl hl.1 rfl (lv_room (Nat.le_of_ble_eq_true rfl)) dL_law_593 ⟨(Nat.le_trans (show cells + 1 ≤ cells + 9300 from by omega) hC), (Nat.le_trans (show slots + 6 ≤ slots + 100000 from by omega) hSl)⟩) hS (fun _ _ h => h) (fun _ h => h) (fun _ _ h => h) (fun E9 ce9 q9 u t H1 locs1 e1 _ hu => hu.elim) (fun k9 u t H1 locs1 ht _ hp hB hz8 _ hS => ?_)
  obtain ⟨w1, n1⟩ := u
  dsimp only at hp hB
  replace h := hp
  have hR : Rp κ w1 y (oX oa n1 d0 s0) [] H1 := by rw [← ht]; exact hB.wk (fun _ _ h => by obtain ⟨rfl, rfl⟩ := h; exact Or.inl ⟨rfl, rfl⟩)
  refine lv_istore (lv' := [(5, .int k9), (0, .ref b), (1, .ref (y.2 0 0)), (2, .ref (y.2 20 0)), (3, .ref oa), (4, .int (nI j))]) hx hb dL_law_596 hl (by decide) rfl (fun ls hl => ?_)
  refine lv_aload_n hx hb dL_law_598 rfl (lv_at hl 3 rfl) ?_
  refine lv_aload_n hx hb dL_law_599 rfl (lv_at hl 1 rfl) ?_
  refine lv_iload hx hb dL_law_600 (lv_at hl 5 rfl) ?_
  refine lv_iconst (v := (1 : Int32)) hx hb dL_law_602 (by decide) ?_
  refine lv_iadd hx hb dL_law_603 ?_
  rw [a1]
  refine va_sld hx hb hX9 hbs hbA hS v1 dL_law_604 ?_
  rw [c1]
  refine ce_qi (fw := fun u => u) (fy := fun _ => y) (cr_V (n := 1) (As := [.int (xs (j + 1))]) (rest := []) ⟨hx, hb, hml, hown, hts⟩ hK hR (m_X8_cut hM hM.mro h) q2133 q2134 q2135 q85 q2136 rfl rfl hd_X8_cut ⟨Nat.le_of_ble_eq_true rfl, Nat.le_of_ble_eq_true rfl⟩ (rv hK hR hM.mro (ci := 11) rfl rfl) rfl rfl hl.1 rfl (lv_room (Nat.le_of_ble_eq_true rfl)) dL_law_605 ⟨(Nat.le_trans (show cells + 1 + 0 ≤ cells + 9300 from by omega) hC), (Nat.le_trans (show slots + 6 + 0 ≤ slots + 100000 from by omega) hSl)⟩) hR hS (fun b9 w2 H1 locs1 h hR _ hS => ?_)
  obtain ⟨e7, e9, h⟩ := h
  refine lv_istore (lv' := [(6, .int b9), (5, .int k9), (0, .ref b), (1, .ref (y.2 0 0)), (2, .ref (y.2 20 0)), (3, .ref oa), (4, .int (nI j))]) hx hb dL_law_608 hl (by decide) rfl (fun ls hl => ?_)
  refine lv_aload_n hx hb dL_law_610 rfl (lv_at hl 4 rfl) ?_
  refine ce_qi (fw := fun u => u) (fy := fun _ => y) (cr_V (n := 0) (As := []) (rest := []) ⟨hx, hb, hml, hown, hts⟩ hK hR (m_X8_thrown (post := fun r9 u9 => r9 = gv w2 20 0 0 ∧ u9 = w2) hM hM.mro ⟨rfl, rfl⟩) q2012 q2013 q2014 q85 q2015 rfl rfl hd_X8_thrown ⟨Nat.le_of_ble_eq_true rfl, Nat.le_of_ble_eq_true rfl⟩ (rv hK hR hM.mro (ci := 11) rfl rfl) rfl rfl hl.1 rfl (lv_room (Nat.le_of_ble_eq_true rfl)) dL_law_611 ⟨(Nat.le_trans (show cells + 1 + 0 + 0 ≤ cells + 9300 from by omega) hC), (Nat.le_trans (show slots + 6 + 0 + 0 ≤ slots + 100000 from by omega) hSl)⟩) hR hS (fun t9 w3 H1 locs1 ht9 hR _ hS => ?_)
  obtain ⟨et9, rfl⟩ := ht9
  rw [et9, e7]
  refine lv_iload hx hb dL_law_614 (lv_at hl 1 rfl) ?_
  refine lv_icmp_eq (tgt := 621) hx hb dL_law_616 (by decide) (fun _ => ?_) (fun c9 => absurd rfl c9)
  refine lv_iload hx hb dL_law_621 (lv_at hl 1 rfl) ?_
  refine lv_if_ne (tgt := 639) hx hb dL_law_623 (by decide) (fun c9 => ?_) (fun c9 => ?_)
  · skip
    refine lv_goto (tgt := 3023) hx hb dL_law_639 (by decide) ?_
    refine W.widen (k := cells + 9300) (n := slots + 100000) (by omega) (by omega) ?_
    exact kk _ _ _ _ _ _ _ _ h Keeps.rf hR hS (lv_sub (hl) [2, 3, 4, 5, 6] rfl)
  · have c9 : k9 = 0 := by first | exact c9 | exact Decidable.of_not_not c9
    have e9 := e9 c9
    refine lv_aload_n hx hb dL_law_626 rfl (lv_at hl 5 rfl) ?_
    refine va_getN (host := "PublicanryLaw") (T := TX9) (N := 3) (v := .long n1) hx hb hts in_X9 hown hK.1 (va_P1 (hR.2.2.2.1 _ _ ⟨rfl, rfl⟩).1) 0 rfl rfl 0 (by decide) (va_Nw.use rfl (hK.2.1.2.1 _ (List.mem_of_getElem? (i := 1) rfl))) (fun _ h => h) rfl dL_law_627 ?_
    refine lv_iload hx hb dL_law_630 (lv_at hl 0 rfl) ?_
    refine lv_i2l hx hb dL_law_632 rfl ?_
    refine W.lcmp hx hb dL_law_633 ?_
    refine lv_if_eq (tgt := 639) hx hb dL_law_634 (by decide) (fun _ => ?_) (fun c9 => absurd (by rw [e9]; exact lg_cmp_self _) c9)
    refine lv_goto (tgt := 3023) hx hb dL_law_639 (by decide) ?_
    refine W.widen (k := cells + 9300) (n := slots + 100000) (by omega) (by omega) ?_
    exact kk _ _ _ _ _ _ _ _ h Keeps.rf hR hS (lv_sub (hl) [2, 3, 4, 5, 6] rfl)
def sL_6 (κ : Kx) (y : Ly) (post : Wd → Ly → Prop) (n0 : Int64) (w : Wd) (x1 : Int32) (x2 : Int32) : Prop := sp_X0_company κ y (fun k9 n1 w1 y1 => WFm κ y1 ∧ Keeps y y1 ∧ sp_X8_company κ y1 (fun b9 w2 y2 => WFc κ y2 ∧ Keeps y1 y2 ∧ gv w2 20 0 0 = k9 ∧ (k9 = 0 → n1 = b9.toInt64) ∧ post w2 y2) w1 x1 x2) n0 w x1 x2
set_option maxHeartbeats 4000000 in
theorem lc_6 {p : Program} {l : Launch} {e : Env} {s : State} {m : MethodId} {below : List Frame} {meth : Method} {c : Code} {b L : Nat} {xs : Nat → Int32} {κ : Kx} {Q : State → Prop} {w : Wd} {y : Ly} {oa : Nat} {n0 : Int64} {d0 : UInt64} {s0 : Value} {H : Heap} {locs : List Loc} {ls : Array Slot} {cells slots j : Nat} {post : Wd → Ly → Prop} (F : LF p l s m meth c b L xs κ) (hm : mon s.heap (y.2 3 0)) (hR : Rp κ w y (oX oa n0 d0 s0) [] H) (hS : va_S (Af κ) s.heap H locs) (hW : WFc κ y) (hM : WFm κ y) (hl : lv_has ls 8 [(0, .ref b), (1, .ref (y.2 0 0)), (2, .ref (y.2 20 0)), (3, .ref oa), (4, .int (nI j))]) (hj : j + 5 ≤ L) (hC : cells + 9300 ≤ rmL.cells) (hSl : slots + 100000 ≤ rmL.slots) (h : sL_6 κ y post n0 w (xs (j + 1)) (xs (j + 2))) (kk : ∀ (w2 : Wd) (y2 : Ly) (n1 : Int64) (d1 : UInt64) (s1 : Value) (H1 : Heap) (locs1 : List Loc) (ls1 : Array Slot), post w2 y2 → Keeps y y2 → Rp κ w2 y2 (oX oa n1 d1 s1) [] H1 → va_S (Af κ) s.heap H1 locs1 → lv_has ls1 8 [(0, .ref b), (1, .ref (y.2 0 0)), (2, .ref (y.2 20 0)), (3, .ref oa), (4, .int (nI j))] → W p l e rmL s m #[.ref b] below meth c H1 locs1 (cells + 9300) (slots + 100000) Q (F0 m 3023 ls1 [])) : W p l e rmL s m #[.ref b] below meth c H locs cells slots Q (F0 m 642 ls []) := by
  obtain ⟨hx, hb, hr, hml, hlk, hown, hts, hfl, hK, hPx, hX9, hbl, hz9, hL9⟩ := F
  have hbA : ¬ Af κ b := fun h9 => Nat.lt_irrefl _ (Nat.lt_of_lt_of_le hbl h9)
  have hbs : b < s.heap.size := Nat.lt_of_lt_of_le hbl hz9
  have a1 : nI j + (1 : Int32) = nI (j + 1) := nI_add j 1
  have c1 : (nI (j + 1)).toNatClampNeg = j + 1 := nI_clamp (by omega)
  have v1 : vp_in (nI (j + 1)) L := vp_in_nI (by omega) (by omega)
  have a2 : nI j + (2 : Int32) = nI (j + 2) := nI_add j 2
  have c2 : (nI (j + 2)).toNatClampNeg = j + 2 := nI_clamp (by omega)
  have v2 : vp_in (nI (j + 2)) L := vp_in_nI (by omega) (by omega)
  unfold sL_6 at h
  refine lv_aload_n hx hb dL_law_642 rfl (lv_at hl 1 rfl) ?_
  refine lv_aload_n hx hb dL_law_643 rfl (lv_at hl 0 rfl) ?_
  refine lv_iload hx hb dL_law_644 (lv_at hl 4 rfl) ?_
  refine lv_iconst (v := (1 : Int32)) hx hb dL_law_646 (by decide) ?_
  refine lv_iadd hx hb dL_law_647 ?_
  rw [a1]
  refine va_sld hx hb hX9 hbs hbA hS v1 dL_law_648 ?_
  rw [c1]
  refine lv_aload_n hx hb dL_law_649 rfl (lv_at hl 0 rfl) ?_
  refine lv_iload hx hb dL_law_650 (lv_at hl 4 rfl) ?_
  refine lv_iconst (v := (2 : Int32)) hx hb dL_law_652 (by decide) ?_
  refine lv_iadd hx hb dL_law_653 ?_
  rw [a2]
  refine va_sld hx hb hX9 hbs hbA hS v2 dL_law_654 ?_
  rw [c2]
  refine lv_aload_n hx hb dL_law_655 rfl (lv_at hl 3 rfl) ?_
  refine vx_calli (crx_SW (n := 4) (As := [.ref (y.2 0 0), .int (xs (j + 1)), .int (xs (j + 2)), .ref oa]) (rest := []) ⟨hx, hb, hml, hown, hts⟩ hK hR (m_X0_company (X := xl (oX oa n0 d0 s0) []) hfl hW hW.pub (Or.inl ⟨rfl, rfl⟩) h) q1103 q1104 q73 q1105 rfl rfl hdL_company ⟨Nat.le_of_ble_eq_true rfl, Nat.le_of_ble_eq_true rfl⟩ rfl rfl hl.1 rfl (lv_room (Nat.le_of_ble_eq_true rfl)) dL_law_656 ⟨(Nat.le_trans (show cells + 6 ≤ cells + 9300 from by omega) hC), (Nat.le_trans (show slots + 38 ≤ slots + 100000 from by omega) hSl)⟩) hS (fun _ _ h => h) (fun _ h => h) (fun _ _ h => h) (fun E9 ce9 q9 u t H1 locs1 e1 _ hu => hu.elim) (fun k9 u t H1 locs1 ht _ hp hB hz8 _ hS => ?_)
  obtain ⟨w1, y1, n1⟩ := u
  dsimp only at hp hB
  obtain ⟨hB, hW1⟩ := hB
  obtain ⟨hM1, hKp, h⟩ := hp
  have hR : Rp κ w1 y1 (oX oa n1 d0 s0) [] H1 := by rw [← ht]; exact hB.wk (fun _ _ h => by obtain ⟨rfl, rfl⟩ := h; exact Or.inl ⟨rfl, rfl⟩)
  have eL20 := hKp.a20
  refine lv_istore (lv' := [(5, .int k9), (0, .ref b), (1, .ref (y.2 0 0)), (2, .ref (y.2 20 0)), (3, .ref oa), (4, .int (nI j))]) hx hb dL_law_659 hl (by decide) rfl (fun ls hl => ?_)
  refine lv_aload_n hx hb dL_law_661 rfl (lv_at hl 3 rfl) ?_
  refine lv_aload_n hx hb dL_law_662 rfl (lv_at hl 1 rfl) ?_
  refine lv_iload hx hb dL_law_663 (lv_at hl 5 rfl) ?_
  refine lv_iconst (v := (1 : Int32)) hx hb dL_law_665 (by decide) ?_
  refine lv_iadd hx hb dL_law_666 ?_
  rw [a1]
  refine va_sld hx hb hX9 hbs hbA hS v1 dL_law_667 ?_
  rw [c1]
  refine lv_aload_n hx hb dL_law_668 rfl (lv_at hl 1 rfl) ?_
  refine lv_iload hx hb dL_law_669 (lv_at hl 5 rfl) ?_
  refine lv_iconst (v := (2 : Int32)) hx hb dL_law_671 (by decide) ?_
  refine lv_iadd hx hb dL_law_672 ?_
  rw [a2]
  refine va_sld hx hb hX9 hbs hbA hS v2 dL_law_673 ?_
  rw [c2]
  rw [← hKp.a20]
  refine cey_qi (P := fun u : Wd × Ly => WFm κ u.2) (fw := fun u : Wd × Ly => u.1) (fy := fun u => u.2) (cr_V (n := 2) (As := [.int (xs (j + 1)), .int (xs (j + 2))]) (rest := []) ⟨hx, hb, hml, hown, hts⟩ hK hR (m_X8_company hM1 hM1.mro h) q2137 q2138 q2139 q85 q2140 rfl rfl hd_X8_company ⟨Nat.le_of_ble_eq_true rfl, Nat.le_of_ble_eq_true rfl⟩ (rv hK hR hM1.mro (ci := 11) rfl rfl) rfl rfl hl.1 rfl (lv_room (Nat.le_of_ble_eq_true rfl)) dL_law_674 ⟨(Nat.le_trans (show cells + 6 + 4 ≤ cells + 9300 from by omega) hC), (Nat.le_trans (show slots + 38 + 27 ≤ slots + 100000 from by omega) hSl)⟩) hR hS (fun b9 u H1 locs1 hp hP9 hR _ hS => ?_)
  obtain ⟨w2, y2⟩ := u
  dsimp only at hp hP9 hR
  have hM2 := hP9
  obtain ⟨hW2, hKp2, h⟩ := hp
  have hKp := ((Keeps.rf.tr hKp).tr hKp2)
  obtain ⟨e7, e9, h⟩ := h
  refine lv_istore (lv' := [(6, .int b9), (5, .int k9), (0, .ref b), (1, .ref (y.2 0 0)), (2, .ref (y.2 20 0)), (3, .ref oa), (4, .int (nI j))]) hx hb dL_law_677 hl (by decide) rfl (fun ls hl => ?_)
  refine lv_aload_n hx hb dL_law_679 rfl (lv_at hl 4 rfl) ?_
  rw [← hKp.a20]
  refine ce_qi (fw := fun u => u) (fy := fun _ => y2) (cr_V (n := 0) (As := []) (rest := []) ⟨hx, hb, hml, hown, hts⟩ hK hR (m_X8_thrown (post := fun r9 u9 => r9 = gv w2 20 0 0 ∧ u9 = w2) hM2 hM2.mro ⟨rfl, rfl⟩) q2012 q2013 q2014 q85 q2015 rfl rfl hd_X8_thrown ⟨Nat.le_of_ble_eq_true rfl, Nat.le_of_ble_eq_true rfl⟩ (rv hK hR hM2.mro (ci := 11) rfl rfl) rfl rfl hl.1 rfl (lv_room (Nat.le_of_ble_eq_true rfl)) dL_law_680 ⟨(Nat.le_trans (show cells + 6 + 4 + 0 ≤ cells + 9300 from by omega) hC), (Nat.le_trans (show slots + 38 + 27 + 0 ≤ slots + 100000 from by omega) hSl)⟩) hR hS (fun t9 w3 H1 locs1 ht9 hR _ hS => ?_)
  obtain ⟨et9, rfl⟩ := ht9
  rw [et9, e7]
  refine lv_iload hx hb dL_law_683 (lv_at hl 1 rfl) ?_
  refine lv_icmp_eq (tgt := 690) hx hb dL_law_685 (by decide) (fun _ => ?_) (fun c9 => absurd rfl c9)
  refine lv_iload hx hb dL_law_690 (lv_at hl 1 rfl) ?_
  refine lv_if_ne (tgt := 708) hx hb dL_law_692 (by decide) (fun c9 => ?_) (fun c9 => ?_)
  · skip
    refine lv_goto (tgt := 3023) hx hb dL_law_708 (by decide) ?_
    refine W.widen (k := cells + 9300) (n := slots + 100000) (by omega) (by omega) ?_
    exact kk _ _ _ _ _ _ _ _ h ((Keeps.rf.tr hKp).tr hKp2) hR hS (lv_sub (hl) [2, 3, 4, 5, 6] rfl)
  · have c9 : k9 = 0 := by first | exact c9 | exact Decidable.of_not_not c9
    have e9 := e9 c9
    refine lv_aload_n hx hb dL_law_695 rfl (lv_at hl 5 rfl) ?_
    refine va_getN (host := "PublicanryLaw") (T := TX9) (N := 3) (v := .long n1) hx hb hts in_X9 hown hK.1 (va_P1 (hR.2.2.2.1 _ _ ⟨rfl, rfl⟩).1) 0 rfl rfl 0 (by decide) (va_Nw.use rfl (hK.2.1.2.1 _ (List.mem_of_getElem? (i := 1) rfl))) (fun _ h => h) rfl dL_law_696 ?_
    refine lv_iload hx hb dL_law_699 (lv_at hl 0 rfl) ?_
    refine lv_i2l hx hb dL_law_701 rfl ?_
    refine W.lcmp hx hb dL_law_702 ?_
    refine lv_if_eq (tgt := 708) hx hb dL_law_703 (by decide) (fun _ => ?_) (fun c9 => absurd (by rw [e9]; exact lg_cmp_self _) c9)
    refine lv_goto (tgt := 3023) hx hb dL_law_708 (by decide) ?_
    refine W.widen (k := cells + 9300) (n := slots + 100000) (by omega) (by omega) ?_
    exact kk _ _ _ _ _ _ _ _ h ((Keeps.rf.tr hKp).tr hKp2) hR hS (lv_sub (hl) [2, 3, 4, 5, 6] rfl)
def sL_7 (κ : Kx) (y : Ly) (post : Wd → Ly → Prop) (n0 : Int64) (w : Wd) (x1 : Int32) (x2 : Int32) : Prop := sp_X0_join κ y (fun k9 n1 w1 y1 => WFm κ y1 ∧ Keeps y y1 ∧ sp_X8_join κ y1 (fun b9 w2 y2 => WFc κ y2 ∧ Keeps y1 y2 ∧ gv w2 20 0 0 = k9 ∧ (k9 = 0 → n1 = b9.toInt64) ∧ post w2 y2) w1 x1 x2) n0 w x1 x2
set_option maxHeartbeats 4000000 in
theorem lc_7 {p : Program} {l : Launch} {e : Env} {s : State} {m : MethodId} {below : List Frame} {meth : Method} {c : Code} {b L : Nat} {xs : Nat → Int32} {κ : Kx} {Q : State → Prop} {w : Wd} {y : Ly} {oa : Nat} {n0 : Int64} {d0 : UInt64} {s0 : Value} {H : Heap} {locs : List Loc} {ls : Array Slot} {cells slots j : Nat} {post : Wd → Ly → Prop} (F : LF p l s m meth c b L xs κ) (hm : mon s.heap (y.2 3 0)) (hR : Rp κ w y (oX oa n0 d0 s0) [] H) (hS : va_S (Af κ) s.heap H locs) (hW : WFc κ y) (hM : WFm κ y) (hl : lv_has ls 8 [(0, .ref b), (1, .ref (y.2 0 0)), (2, .ref (y.2 20 0)), (3, .ref oa), (4, .int (nI j))]) (hj : j + 5 ≤ L) (hC : cells + 9300 ≤ rmL.cells) (hSl : slots + 100000 ≤ rmL.slots) (h : sL_7 κ y post n0 w (xs (j + 1)) (xs (j + 2))) (kk : ∀ (w2 : Wd) (y2 : Ly) (n1 : Int64) (d1 : UInt64) (s1 : Value) (H1 : Heap) (locs1 : List Loc) (ls1 : Array Slot), post w2 y2 → Keeps y y2 → Rp κ w2 y2 (oX oa n1 d1 s1) [] H1 → va_S (Af κ) s.heap H1 locs1 → lv_has ls1 8 [(0, .ref b), (1, .ref (y.2 0 0)), (2, .ref (y.2 20 0)), (3, .ref oa), (4, .int (nI j))] → W p l e rmL s m #[.ref b] below meth c H1 locs1 (cells + 9300) (slots + 100000) Q (F0 m 3023 ls1 [])) : W p l e rmL s m #[.ref b] below meth c H locs cells slots Q (F0 m 711 ls []) := by
  obtain ⟨hx, hb, hr, hml, hlk, hown, hts, hfl, hK, hPx, hX9, hbl, hz9, hL9⟩ := F
  have hbA : ¬ Af κ b := fun h9 => Nat.lt_irrefl _ (Nat.lt_of_lt_of_le hbl h9)
  have hbs : b < s.heap.size := Nat.lt_of_lt_of_le hbl hz9
  have a1 : nI j + (1 : Int32) = nI (j + 1) := nI_add j 1
  have c1 : (nI (j + 1)).toNatClampNeg = j + 1 := nI_clamp (by omega)
  have v1 : vp_in (nI (j + 1)) L := vp_in_nI (by omega) (by omega)
  have a2 : nI j + (2 : Int32) = nI (j + 2) := nI_add j 2
  have c2 : (nI (j + 2)).toNatClampNeg = j + 2 := nI_clamp (by omega)
  have v2 : vp_in (nI (j + 2)) L := vp_in_nI (by omega) (by omega)
  unfold sL_7 at h
  refine lv_aload_n hx hb dL_law_711 rfl (lv_at hl 1 rfl) ?_
  refine lv_aload_n hx hb dL_law_712 rfl (lv_at hl 0 rfl) ?_
  refine lv_iload hx hb dL_law_713 (lv_at hl 4 rfl) ?_
  refine lv_iconst (v := (1 : Int32)) hx hb dL_law_715 (by decide) ?_
  refine lv_iadd hx hb dL_law_716 ?_
  rw [a1]
  refine va_sld hx hb hX9 hbs hbA hS v1 dL_law_717 ?_
  rw [c1]
  refine lv_aload_n hx hb dL_law_718 rfl (lv_at hl 0 rfl) ?_
  refine lv_iload hx hb dL_law_719 (lv_at hl 4 rfl) ?_
  refine lv_iconst (v := (2 : Int32)) hx hb dL_law_721 (by decide) ?_
  refine lv_iadd hx hb dL_law_722 ?_
  rw [a2]
  refine va_sld hx hb hX9 hbs hbA hS v2 dL_law_723 ?_
  rw [c2]
  refine lv_aload_n hx hb dL_law_724 rfl (lv_at hl 3 rfl) ?_
  refine vx_calli (crx_SW (n := 4) (As := [.ref (y.2 0 0), .int (xs (j + 1)), .int (xs (j + 2)), .ref oa]) (rest := []) ⟨hx, hb, hml, hown, hts⟩ hK hR (m_X0_join (X := xl (oX oa n0 d0 s0) []) hfl hW hW.pub (Or.inl ⟨rfl, rfl⟩) h) q1169 q1170 q73 q1171 rfl rfl hdL_join ⟨Nat.le_of_ble_eq_true rfl, Nat.le_of_ble_eq_true rfl⟩ rfl rfl hl.1 rfl (lv_room (Nat.le_of_ble_eq_true rfl)) dL_law_725 ⟨(Nat.le_trans (show cells + 5 ≤ cells + 9300 from by omega) hC), (Nat.le_trans (show slots + 30 ≤ slots + 100000 from by omega) hSl)⟩) hS (fun _ _ h => h) (fun _ h => h) (fun _ _ h => h) (fun E9 ce9 q9 u t H1 locs1 e1 _ hu => hu.elim) (fun k9 u t H1 locs1 ht _ hp hB hz8 _ hS => ?_)
  obtain ⟨w1, y1, n1⟩ := u
  dsimp only at hp hB
  obtain ⟨hB, hW1⟩ := hB
  obtain ⟨hM1, hKp, h⟩ := hp
  have hR : Rp κ w1 y1 (oX oa n1 d0 s0) [] H1 := by rw [← ht]; exact hB.wk (fun _ _ h => by obtain ⟨rfl, rfl⟩ := h; exact Or.inl ⟨rfl, rfl⟩)
  have eL20 := hKp.a20
  refine lv_istore (lv' := [(5, .int k9), (0, .ref b), (1, .ref (y.2 0 0)), (2, .ref (y.2 20 0)), (3, .ref oa), (4, .int (nI j))]) hx hb dL_law_728 hl (by decide) rfl (fun ls hl => ?_)
  refine lv_aload_n hx hb dL_law_730 rfl (lv_at hl 3 rfl) ?_
  refine lv_aload_n hx hb dL_law_731 rfl (lv_at hl 1 rfl) ?_
  refine lv_iload hx hb dL_law_732 (lv_at hl 5 rfl) ?_
  refine lv_iconst (v := (1 : Int32)) hx hb dL_law_734 (by decide) ?_
  refine lv_iadd hx hb dL_law_735 ?_
  rw [a1]
  refine va_sld hx hb hX9 hbs hbA hS v1 dL_law_736 ?_
  rw [c1]
  refine lv_aload_n hx hb dL_law_737 rfl (lv_at hl 1 rfl) ?_
  refine lv_iload hx hb dL_law_738 (lv_at hl 5 rfl) ?_
  refine lv_iconst (v := (2 : Int32)) hx hb dL_law_740 (by decide) ?_
  refine lv_iadd hx hb dL_law_741 ?_
  rw [a2]
  refine va_sld hx hb hX9 hbs hbA hS v2 dL_law_742 ?_
  rw [c2]
  rw [← hKp.a20]
  refine cey_qi (P := fun u : Wd × Ly => WFm κ u.2) (fw := fun u : Wd × Ly => u.1) (fy := fun u => u.2) (cr_V (n := 2) (As := [.int (xs (j + 1)), .int (xs (j + 2))]) (rest := []) ⟨hx, hb, hml, hown, hts⟩ hK hR (m_X8_join hM1 hM1.mro h) q2185 q2186 q2187 q85 q2188 rfl rfl hd_X8_join ⟨Nat.le_of_ble_eq_true rfl, Nat.le_of_ble_eq_true rfl⟩ (rv hK hR hM1.mro (ci := 11) rfl rfl) rfl rfl hl.1 rfl (lv_room (Nat.le_of_ble_eq_true rfl)) dL_law_743 ⟨(Nat.le_trans (show cells + 5 + 4 ≤ cells + 9300 from by omega) hC), (Nat.le_trans (show slots + 30 + 22 ≤ slots + 100000 from by omega) hSl)⟩) hR hS (fun b9 u H1 locs1 hp hP9 hR _ hS => ?_)
  obtain ⟨w2, y2⟩ := u
  dsimp only at hp hP9 hR
  have hM2 := hP9
  obtain ⟨hW2, hKp2, h⟩ := hp
  have hKp := ((Keeps.rf.tr hKp).tr hKp2)
  obtain ⟨e7, e9, h⟩ := h
  refine lv_istore (lv' := [(6, .int b9), (5, .int k9), (0, .ref b), (1, .ref (y.2 0 0)), (2, .ref (y.2 20 0)), (3, .ref oa), (4, .int (nI j))]) hx hb dL_law_746 hl (by decide) rfl (fun ls hl => ?_)
  refine lv_aload_n hx hb dL_law_748 rfl (lv_at hl 4 rfl) ?_
  rw [← hKp.a20]
  refine ce_qi (fw := fun u => u) (fy := fun _ => y2) (cr_V (n := 0) (As := []) (rest := []) ⟨hx, hb, hml, hown, hts⟩ hK hR (m_X8_thrown (post := fun r9 u9 => r9 = gv w2 20 0 0 ∧ u9 = w2) hM2 hM2.mro ⟨rfl, rfl⟩) q2012 q2013 q2014 q85 q2015 rfl rfl hd_X8_thrown ⟨Nat.le_of_ble_eq_true rfl, Nat.le_of_ble_eq_true rfl⟩ (rv hK hR hM2.mro (ci := 11) rfl rfl) rfl rfl hl.1 rfl (lv_room (Nat.le_of_ble_eq_true rfl)) dL_law_749 ⟨(Nat.le_trans (show cells + 5 + 4 + 0 ≤ cells + 9300 from by omega) hC), (Nat.le_trans (show slots + 30 + 22 + 0 ≤ slots + 100000 from by omega) hSl)⟩) hR hS (fun t9 w3 H1 locs1 ht9 hR _ hS => ?_)
  obtain ⟨et9, rfl⟩ := ht9
  rw [et9, e7]
  refine lv_iload hx hb dL_law_752 (lv_at hl 1 rfl) ?_
  refine lv_icmp_eq (tgt := 759) hx hb dL_law_754 (by decide) (fun _ => ?_) (fun c9 => absurd rfl c9)
  refine lv_iload hx hb dL_law_759 (lv_at hl 1 rfl) ?_
  refine lv_if_ne (tgt := 777) hx hb dL_law_761 (by decide) (fun c9 => ?_) (fun c9 => ?_)
  · skip
    refine lv_goto (tgt := 3023) hx hb dL_law_777 (by decide) ?_
    refine W.widen (k := cells + 9300) (n := slots + 100000) (by omega) (by omega) ?_
    exact kk _ _ _ _ _ _ _ _ h ((Keeps.rf.tr hKp).tr hKp2) hR hS (lv_sub (hl) [2, 3, 4, 5, 6] rfl)
  · have c9 : k9 = 0 := by first | exact c9 | exact Decidable.of_not_not c9
    have e9 := e9 c9
    refine lv_aload_n hx hb dL_law_764 rfl (lv_at hl 5 rfl) ?_
    refine va_getN (host := "PublicanryLaw") (T := TX9) (N := 3) (v := .long n1) hx hb hts in_X9 hown hK.1 (va_P1 (hR.2.2.2.1 _ _ ⟨rfl, rfl⟩).1) 0 rfl rfl 0 (by decide) (va_Nw.use rfl (hK.2.1.2.1 _ (List.mem_of_getElem? (i := 1) rfl))) (fun _ h => h) rfl dL_law_765 ?_
    refine lv_iload hx hb dL_law_768 (lv_at hl 0 rfl) ?_
    refine lv_i2l hx hb dL_law_770 rfl ?_
    refine W.lcmp hx hb dL_law_771 ?_
    refine lv_if_eq (tgt := 777) hx hb dL_law_772 (by decide) (fun _ => ?_) (fun c9 => absurd (by rw [e9]; exact lg_cmp_self _) c9)
    refine lv_goto (tgt := 3023) hx hb dL_law_777 (by decide) ?_
    refine W.widen (k := cells + 9300) (n := slots + 100000) (by omega) (by omega) ?_
    exact kk _ _ _ _ _ _ _ _ h ((Keeps.rf.tr hKp).tr hKp2) hR hS (lv_sub (hl) [2, 3, 4, 5, 6] rfl)
