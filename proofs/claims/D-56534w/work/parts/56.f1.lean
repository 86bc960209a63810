/-! the law: its wrappers -/
set_option maxRecDepth 100000
set_option maxHeartbeats 4000000 in
theorem wX0_thresholdOn (l : Launch) (G : Gt) (d : Nat) (S : DS) (W : va_W) (o : Nat) (of : Nat → Int64) (v : Int32) (h : DyW G d S W) (hfl : l.stackTraces = false) : CTW l G yX0_thresholdOn cX0_thresholdOn 4 (some .int) [(0, 9, 12, 13)] ({ frames := 9, cells := 2, slots := 8, locals := 184 } : Room) [.ref d, .int v, .ref o] ([(o, .inl (G.2 5, 1, .inr (.inl of)))] ++ (W ++ [])) RH0 (S := (Nat → Int64) × va_W) (fun (u_ : (Nat → Int64) × va_W) => some (.int (nI ((q_thr (dC S) v).1)))) (fun (u_ : (Nat → Int64) × va_W) => ((q_thr (dC S) v).1 = 0 → u_.1 0 = ((q_thr (dC S) v).2).toInt64) ∧ (q_thr (dC S) v).1 < 10 ∧ DyW G d S u_.2) (fun (u_ : (Nat → Int64) × va_W) => ([(o, .inl (G.2 5, 1, .inr (.inl u_.1)))] ++ (u_.2 ++ []))) (fun (u_ : (Nat → Int64) × va_W) (H : Heap) => True) := by
  refine CTW.of (by decide) (Nat.le_of_ble_eq_true rfl) ?_
  intro p e s m below meth c ls A H locs h9 hH0 hP hS hNc htab
  obtain ⟨cf, hr, hlk, hnm, hKB, hE, -, hD, -, hA, hAw, hRH, hl⟩ := h9
  have hx := cf.1
  have hb := cf.2.1
  have hml := cf.2.2.1
  have hown : s.vm.findClass RX0 = some m.cls := cf.2.2.2.1
  have hts := cf.2.2.2.2
  have hK := hKB.1
  have hl : lv_has ls 4 [(0, .ref d), (1, .int v), (2, .ref o)] := hl
  refine lv_aload_n hx hb dX0_thresholdOn_0 rfl (lv_at hl 2 rfl) ?_
  refine lv_iconst (v := nI 0) hx hb dX0_thresholdOn_1 (by decide) ?_
  refine lv_aload_n hx hb dX0_thresholdOn_2 rfl (lv_at hl 0 rfl) ?_
  refine lv_iload_n hx hb dX0_thresholdOn_3 rfl (lv_at hl 1 rfl) ?_
  have hpm_3196 : (([(o, .inl (G.2 5, 1, .inr (.inl of)))] ++ (W ++ [])) : va_W).Perm ((W ++ []) ++ [(o, .inl (G.2 5, 1, .inr (.inl of)))]) := segs_perm [[(o, .inl (G.2 5, 1, .inr (.inl of)))], W] [1] [0] rfl
  have hF := hF_ofP (wc := (W ++ [])) hD hS hA hpm_3196
  refine go_cxP hS hP hD hpm_3196 hF
      (vx_runV (As := [.int v]) (rest := [.int (nI 0), .ref o]) cf (dX1_thresholdOn l G d S W v (show DyW G d S W from by first | assumption | omega) hfl H.size) (cwV 1 hts (lw_V q1038 q1039 q1040 q47 q1041) rfl rfl rfl (by decide +kernel) ⟨Nat.le_of_ble_eq_true rfl, Nat.le_of_ble_eq_true rfl⟩) (preV_of hKB hE hS hF (DyW.recv hK h (seg_at [[(o, .inl (G.2 5, 1, .inr (.inl of)))], W] 1 rfl hP)) (P_left (P_perm hpm_3196 hP)) ((D_left (D_perm hpm_3196 hD)).weaken (fun _ _ _ _ => trivial)) trivial) rfl rfl hl.1 rfl (lv_room (Nat.le_of_ble_eq_true rfl)) dX0_thresholdOn_4 ⟨show 0 + 2 ≤ 2 from by first | decide | omega, show 0 + 8 ≤ 8 from by first | decide | omega⟩)
      (fun u_ H locs ce q9 hq hph (hP : va_P G.1 CL ([(o, .inl (G.2 5, 1, .inr (.inl of)))] ++ (u_.2 ++ [])) H) (hD : va_D A ([(o, .inl (G.2 5, 1, .inr (.inl of)))] ++ (u_.2 ++ []))) hS hfz hfk hce hcv hcl => ?_) (fun u_ H locs hq hph (hP : va_P G.1 CL ([(o, .inl (G.2 5, 1, .inr (.inl of)))] ++ (u_.2 ++ [])) H) (hD : va_D A ([(o, .inl (G.2 5, 1, .inr (.inl of)))] ++ (u_.2 ++ []))) hS hfz hfk => ?_)
  · obtain ⟨kx_3199, W2_3200⟩ := u_
    obtain ⟨hq_3201, hq_3202, hq_3203⟩ : (q_thr (dC S) v).1 = kx_3199 ∧ DyW G d S W2_3200 ∧ 1 ≤ kx_3199 ∧ kx_3199 ≤ 1 := hq
    have hpm_3204 : ([(o, .inl (G.2 5, 1, .inr (.inl of)))] ++ (W2_3200 ++ []) : va_W).Perm ([(o, .inl (G.2 5, 1, .inr (.inl of)))] ++ (W2_3200 ++ [])) := segs_perm2 [[(o, .inl (G.2 5, 1, .inr (.inl of)))]] [W2_3200] [0, 1] rfl
    have hP : va_P G.1 CL ([(o, .inl (G.2 5, 1, .inr (.inl of)))] ++ (W2_3200 ++ [])) H := P_perm hpm_3204 hP
    have hD : va_D A ([(o, .inl (G.2 5, 1, .inr (.inl of)))] ++ (W2_3200 ++ [])) := D_perm hpm_3204 hD
    obtain rfl : kx_3199 = 1 := by omega
    have hcl9 : s.vm.findClass eA = some ce.cls := hcl
    refine vx_catch (name := eA) (E := eA) hown [] (⟨0, 9, 12, 13⟩ : ExceptionTableEntry) [] (by rw [htab]; rfl) (fun z hz => absurd hz List.not_mem_nil) (by decide) (by decide) (hts _ q680) (va_Nw.use rfl (hKB.nest q698 rfl)) hce hcv hcl9 ?_
    refine W.eq (g2 := F0 m 12 ls [.ref q9]) rfl ?_
    refine lv_astore_n (lv' := [(3, .ref q9), (0, .ref d), (1, .int v), (2, .ref o)]) hx hb dX0_thresholdOn_12 rfl hl (by decide) rfl (fun ls hl => ?_)
    refine lv_iconst (v := nI 1) hx hb dX0_thresholdOn_13 (by decide) ?_
    refine vx_ret ?_
    have hpm_3205 : (([(o, .inl (G.2 5, 1, .inr (.inl of)))] ++ (W2_3200 ++ [])) : va_W).Perm (([(o, .inl (G.2 5, 1, .inr (.inl of)))] ++ (W2_3200 ++ [])) ++ []) := segs_perm [[(o, .inl (G.2 5, 1, .inr (.inl of)))], W2_3200] [0, 1] [] rfl
    have hP9 : va_P G.1 CL ([(o, .inl (G.2 5, 1, .inr (.inl of)))] ++ (W2_3200 ++ [])) H := P_left (P_perm hpm_3205 hP)
    have hD9 : va_D A ([(o, .inl (G.2 5, 1, .inr (.inl of)))] ++ (W2_3200 ++ [])) := D_left (D_perm hpm_3205 hD)
    exact end_i hx hb hr hlk (rfl) (qc_of (of, W2_3200) (v := some (.int (nI 1))) (by rw [hq_3201]) (⟨fun z9 => absurd (hq_3201.symm.trans z9) (by decide), by rw [hq_3201]; decide, hq_3202⟩) hP9 hD9 (trivial) hS) hS dX0_thresholdOn_14 (show 0 + 2 ≤ 2 from by first | exact Nat.le_refl _ | decide | omega) (show 0 + 8 ≤ 8 from by first | exact Nat.le_refl _ | decide | omega)
  · obtain ⟨rr_3197, W2_3198⟩ := u_
    obtain ⟨hq_3206, hq_3207⟩ : q_thr (dC S) v = (0, rr_3197) ∧ DyW G d S W2_3198 := hq
    have hpm_3208 : ([(o, .inl (G.2 5, 1, .inr (.inl of)))] ++ (W2_3198 ++ []) : va_W).Perm ([(o, .inl (G.2 5, 1, .inr (.inl of)))] ++ (W2_3198 ++ [])) := segs_perm2 [[(o, .inl (G.2 5, 1, .inr (.inl of)))]] [W2_3198] [0, 1] rfl
    have hP : va_P G.1 CL ([(o, .inl (G.2 5, 1, .inr (.inl of)))] ++ (W2_3198 ++ [])) H := P_perm hpm_3208 hP
    have hD : va_D A ([(o, .inl (G.2 5, 1, .inr (.inl of)))] ++ (W2_3198 ++ [])) := D_perm hpm_3208 hD
    refine W.eq (g2 := F0 m 7 ls [.int rr_3197, .int (nI 0), .ref o]) rfl ?_
    refine lv_i2l (v := (rr_3197).toInt64) hx hb dX0_thresholdOn_7 rfl ?_
    refine r_last hx hb hK hP hD hS 0 5 rfl rfl (i := 0) (by omega) (by omega) dX0_thresholdOn_8 (fun H locs (hP : va_P G.1 CL ([(o, .inl (G.2 5, 1, .inr (.inl (vp_updL of 0 ((rr_3197).toInt64)))))] ++ (W2_3198 ++ [])) H) (hD : va_D A ([(o, .inl (G.2 5, 1, .inr (.inl (vp_updL of 0 ((rr_3197).toInt64)))))] ++ (W2_3198 ++ []))) hS => ?_)
    refine lv_goto (tgt := 15) hx hb dX0_thresholdOn_9 (by decide) ?_
    refine lv_iconst (v := nI 0) hx hb dX0_thresholdOn_15 (by decide) ?_
    refine vx_ret ?_
    have hpm_3209 : (([(o, .inl (G.2 5, 1, .inr (.inl (vp_updL of 0 ((rr_3197).toInt64)))))] ++ (W2_3198 ++ [])) : va_W).Perm (([(o, .inl (G.2 5, 1, .inr (.inl (vp_updL of 0 ((rr_3197).toInt64)))))] ++ (W2_3198 ++ [])) ++ []) := segs_perm [[(o, .inl (G.2 5, 1, .inr (.inl (vp_updL of 0 ((rr_3197).toInt64)))))], W2_3198] [0, 1] [] rfl
    have hP9 : va_P G.1 CL ([(o, .inl (G.2 5, 1, .inr (.inl (vp_updL of 0 ((rr_3197).toInt64)))))] ++ (W2_3198 ++ [])) H := P_left (P_perm hpm_3209 hP)
    have hD9 : va_D A ([(o, .inl (G.2 5, 1, .inr (.inl (vp_updL of 0 ((rr_3197).toInt64)))))] ++ (W2_3198 ++ [])) := D_left (D_perm hpm_3209 hD)
    exact end_i hx hb hr hlk (rfl) (qc_of (vp_updL of 0 ((rr_3197).toInt64), W2_3198) (v := some (.int (nI 0))) (by rw [hq_3206]) (⟨fun _ => by rw [hq_3206]; exact pk_uLs, by rw [hq_3206]; exact (by decide : (0 : Nat) < 10), hq_3207⟩) hP9 hD9 (trivial) hS) hS dX0_thresholdOn_16 (show 0 + 2 ≤ 2 from by first | exact Nat.le_refl _ | decide | omega) (show 0 + 8 ≤ 8 from by first | exact Nat.le_refl _ | decide | omega)

set_option maxHeartbeats 4000000 in
theorem wX0_boundOf (l : Launch) (G : Gt) (d : Nat) (S : DS) (W : va_W) (o : Nat) (of : Nat → Int64) (v : Int32) (h : DyW G d S W) (hfl : l.stackTraces = false) : CTW l G yX0_boundOf cX0_boundOf 4 (some .int) [(0, 9, 12, 13)] ({ frames := 8, cells := 2, slots := 8, locals := 123 } : Room) [.ref d, .int v, .ref o] ([(o, .inl (G.2 5, 1, .inr (.inl of)))] ++ (W ++ [])) RH0 (S := (Nat → Int64) × va_W) (fun (u_ : (Nat → Int64) × va_W) => some (.int (nI ((q_bound (dC S) v).1)))) (fun (u_ : (Nat → Int64) × va_W) => ((q_bound (dC S) v).1 = 0 → u_.1 0 = ((q_bound (dC S) v).2).toInt64) ∧ (q_bound (dC S) v).1 < 10 ∧ DyW G d S u_.2) (fun (u_ : (Nat → Int64) × va_W) => ([(o, .inl (G.2 5, 1, .inr (.inl u_.1)))] ++ (u_.2 ++ []))) (fun (u_ : (Nat → Int64) × va_W) (H : Heap) => True) := by
  refine CTW.of (by decide) (Nat.le_of_ble_eq_true rfl) ?_
  intro p e s m below meth c ls A H locs h9 hH0 hP hS hNc htab
  obtain ⟨cf, hr, hlk, hnm, hKB, hE, -, hD, -, hA, hAw, hRH, hl⟩ := h9
  have hx := cf.1
  have hb := cf.2.1
  have hml := cf.2.2.1
  have hown : s.vm.findClass RX0 = some m.cls := cf.2.2.2.1
  have hts := cf.2.2.2.2
  have hK := hKB.1
  have hl : lv_has ls 4 [(0, .ref d), (1, .int v), (2, .ref o)] := hl
  refine lv_aload_n hx hb dX0_boundOf_0 rfl (lv_at hl 2 rfl) ?_
  refine lv_iconst (v := nI 0) hx hb dX0_boundOf_1 (by decide) ?_
  refine lv_aload_n hx hb dX0_boundOf_2 rfl (lv_at hl 0 rfl) ?_
  refine lv_iload_n hx hb dX0_boundOf_3 rfl (lv_at hl 1 rfl) ?_
  have hpm_3210 : (([(o, .inl (G.2 5, 1, .inr (.inl of)))] ++ (W ++ [])) : va_W).Perm ((W ++ []) ++ [(o, .inl (G.2 5, 1, .inr (.inl of)))]) := segs_perm [[(o, .inl (G.2 5, 1, .inr (.inl of)))], W] [1] [0] rfl
  have hF := hF_ofP (wc := (W ++ [])) hD hS hA hpm_3210
  refine go_cxP hS hP hD hpm_3210 hF
      (vx_runV (As := [.int v]) (rest := [.int (nI 0), .ref o]) cf (dX1_boundOf l G d S W v (show DyW G d S W from by first | assumption | omega) hfl H.size) (cwV 1 hts (lw_V q1059 q1060 q1061 q47 q1062) rfl rfl rfl (by decide +kernel) ⟨Nat.le_of_ble_eq_true rfl, Nat.le_of_ble_eq_true rfl⟩) (preV_of hKB hE hS hF (DyW.recv hK h (seg_at [[(o, .inl (G.2 5, 1, .inr (.inl of)))], W] 1 rfl hP)) (P_left (P_perm hpm_3210 hP)) ((D_left (D_perm hpm_3210 hD)).weaken (fun _ _ _ _ => trivial)) trivial) rfl rfl hl.1 rfl (lv_room (Nat.le_of_ble_eq_true rfl)) dX0_boundOf_4 ⟨show 0 + 2 ≤ 2 from by first | decide | omega, show 0 + 8 ≤ 8 from by first | decide | omega⟩)
      (fun u_ H locs ce q9 hq hph (hP : va_P G.1 CL ([(o, .inl (G.2 5, 1, .inr (.inl of)))] ++ (u_.2 ++ [])) H) (hD : va_D A ([(o, .inl (G.2 5, 1, .inr (.inl of)))] ++ (u_.2 ++ []))) hS hfz hfk hce hcv hcl => ?_) (fun u_ H locs hq hph (hP : va_P G.1 CL ([(o, .inl (G.2 5, 1, .inr (.inl of)))] ++ (u_.2 ++ [])) H) (hD : va_D A ([(o, .inl (G.2 5, 1, .inr (.inl of)))] ++ (u_.2 ++ []))) hS hfz hfk => ?_)
  · obtain ⟨kx_3213, W2_3214⟩ := u_
    obtain ⟨hq_3215, hq_3216, hq_3217⟩ : (q_bound (dC S) v).1 = kx_3213 ∧ DyW G d S W2_3214 ∧ 1 ≤ kx_3213 ∧ kx_3213 ≤ 1 := hq
    have hpm_3218 : ([(o, .inl (G.2 5, 1, .inr (.inl of)))] ++ (W2_3214 ++ []) : va_W).Perm ([(o, .inl (G.2 5, 1, .inr (.inl of)))] ++ (W2_3214 ++ [])) := segs_perm2 [[(o, .inl (G.2 5, 1, .inr (.inl of)))]] [W2_3214] [0, 1] rfl
    have hP : va_P G.1 CL ([(o, .inl (G.2 5, 1, .inr (.inl of)))] ++ (W2_3214 ++ [])) H := P_perm hpm_3218 hP
    have hD : va_D A ([(o, .inl (G.2 5, 1, .inr (.inl of)))] ++ (W2_3214 ++ [])) := D_perm hpm_3218 hD
    obtain rfl : kx_3213 = 1 := by omega
    have hcl9 : s.vm.findClass eA = some ce.cls := hcl
    refine vx_catch (name := eA) (E := eA) hown [] (⟨0, 9, 12, 13⟩ : ExceptionTableEntry) [] (by rw [htab]; rfl) (fun z hz => absurd hz List.not_mem_nil) (by decide) (by decide) (hts _ q680) (va_Nw.use rfl (hKB.nest q698 rfl)) hce hcv hcl9 ?_
    refine W.eq (g2 := F0 m 12 ls [.ref q9]) rfl ?_
    refine lv_astore_n (lv' := [(3, .ref q9), (0, .ref d), (1, .int v), (2, .ref o)]) hx hb dX0_boundOf_12 rfl hl (by decide) rfl (fun ls hl => ?_)
    refine lv_iconst (v := nI 1) hx hb dX0_boundOf_13 (by decide) ?_
    refine vx_ret ?_
    have hpm_3219 : (([(o, .inl (G.2 5, 1, .inr (.inl of)))] ++ (W2_3214 ++ [])) : va_W).Perm (([(o, .inl (G.2 5, 1, .inr (.inl of)))] ++ (W2_3214 ++ [])) ++ []) := segs_perm [[(o, .inl (G.2 5, 1, .inr (.inl of)))], W2_3214] [0, 1] [] rfl
    have hP9 : va_P G.1 CL ([(o, .inl (G.2 5, 1, .inr (.inl of)))] ++ (W2_3214 ++ [])) H := P_left (P_perm hpm_3219 hP)
    have hD9 : va_D A ([(o, .inl (G.2 5, 1, .inr (.inl of)))] ++ (W2_3214 ++ [])) := D_left (D_perm hpm_3219 hD)
    exact end_i hx hb hr hlk (rfl) (qc_of (of, W2_3214) (v := some (.int (nI 1))) (by rw [hq_3215]) (⟨fun z9 => absurd (hq_3215.symm.trans z9) (by decide), by rw [hq_3215]; decide, hq_3216⟩) hP9 hD9 (trivial) hS) hS dX0_boundOf_14 (show 0 + 2 ≤ 2 from by first | exact Nat.le_refl _ | decide | omega) (show 0 + 8 ≤ 8 from by first | exact Nat.le_refl _ | decide | omega)
  · obtain ⟨rr_3211, W2_3212⟩ := u_
    obtain ⟨hq_3220, hq_3221⟩ : q_bound (dC S) v = (0, rr_3211) ∧ DyW G d S W2_3212 := hq
    have hpm_3222 : ([(o, .inl (G.2 5, 1, .inr (.inl of)))] ++ (W2_3212 ++ []) : va_W).Perm ([(o, .inl (G.2 5, 1, .inr (.inl of)))] ++ (W2_3212 ++ [])) := segs_perm2 [[(o, .inl (G.2 5, 1, .inr (.inl of)))]] [W2_3212] [0, 1] rfl
    have hP : va_P G.1 CL ([(o, .inl (G.2 5, 1, .inr (.inl of)))] ++ (W2_3212 ++ [])) H := P_perm hpm_3222 hP
    have hD : va_D A ([(o, .inl (G.2 5, 1, .inr (.inl of)))] ++ (W2_3212 ++ [])) := D_perm hpm_3222 hD
    refine W.eq (g2 := F0 m 7 ls [.int rr_3211, .int (nI 0), .ref o]) rfl ?_
    refine lv_i2l (v := (rr_3211).toInt64) hx hb dX0_boundOf_7 rfl ?_
    refine r_last hx hb hK hP hD hS 0 5 rfl rfl (i := 0) (by omega) (by omega) dX0_boundOf_8 (fun H locs (hP : va_P G.1 CL ([(o, .inl (G.2 5, 1, .inr (.inl (vp_updL of 0 ((rr_3211).toInt64)))))] ++ (W2_3212 ++ [])) H) (hD : va_D A ([(o, .inl (G.2 5, 1, .inr (.inl (vp_updL of 0 ((rr_3211).toInt64)))))] ++ (W2_3212 ++ []))) hS => ?_)
    refine lv_goto (tgt := 15) hx hb dX0_boundOf_9 (by decide) ?_
    refine lv_iconst (v := nI 0) hx hb dX0_boundOf_15 (by decide) ?_
    refine vx_ret ?_
    have hpm_3223 : (([(o, .inl (G.2 5, 1, .inr (.inl (vp_updL of 0 ((rr_3211).toInt64)))))] ++ (W2_3212 ++ [])) : va_W).Perm (([(o, .inl (G.2 5, 1, .inr (.inl (vp_updL of 0 ((rr_3211).toInt64)))))] ++ (W2_3212 ++ [])) ++ []) := segs_perm [[(o, .inl (G.2 5, 1, .inr (.inl (vp_updL of 0 ((rr_3211).toInt64)))))], W2_3212] [0, 1] [] rfl
    have hP9 : va_P G.1 CL ([(o, .inl (G.2 5, 1, .inr (.inl (vp_updL of 0 ((rr_3211).toInt64)))))] ++ (W2_3212 ++ [])) H := P_left (P_perm hpm_3223 hP)
    have hD9 : va_D A ([(o, .inl (G.2 5, 1, .inr (.inl (vp_updL of 0 ((rr_3211).toInt64)))))] ++ (W2_3212 ++ [])) := D_left (D_perm hpm_3223 hD)
    exact end_i hx hb hr hlk (rfl) (qc_of (vp_updL of 0 ((rr_3211).toInt64), W2_3212) (v := some (.int (nI 0))) (by rw [hq_3220]) (⟨fun _ => by rw [hq_3220]; exact pk_uLs, by rw [hq_3220]; exact (by decide : (0 : Nat) < 10), hq_3221⟩) hP9 hD9 (trivial) hS) hS dX0_boundOf_16 (show 0 + 2 ≤ 2 from by first | exact Nat.le_refl _ | decide | omega) (show 0 + 8 ≤ 8 from by first | exact Nat.le_refl _ | decide | omega)

set_option maxHeartbeats 4000000 in
theorem wX0_weightOf (l : Launch) (G : Gt) (d : Nat) (S : DS) (W : va_W) (o : Nat) (of : Nat → Int64) (v : Int32) (h : DyW G d S W) (hfl : l.stackTraces = false) : CTW l G yX0_weightOf cX0_weightOf 4 (some .int) [(0, 9, 12, 13)] ({ frames := 9, cells := 2, slots := 8, locals := 143 } : Room) [.ref d, .int v, .ref o] ([(o, .inl (G.2 5, 1, .inr (.inl of)))] ++ (W ++ [])) RH0 (S := (Nat → Int64) × va_W) (fun (u_ : (Nat → Int64) × va_W) => some (.int (nI ((q_weight (dC S) v).1)))) (fun (u_ : (Nat → Int64) × va_W) => ((q_weight (dC S) v).1 = 0 → u_.1 0 = ((q_weight (dC S) v).2).toInt64) ∧ (q_weight (dC S) v).1 < 10 ∧ DyW G d S u_.2) (fun (u_ : (Nat → Int64) × va_W) => ([(o, .inl (G.2 5, 1, .inr (.inl u_.1)))] ++ (u_.2 ++ []))) (fun (u_ : (Nat → Int64) × va_W) (H : Heap) => True) := by
  refine CTW.of (by decide) (Nat.le_of_ble_eq_true rfl) ?_
  intro p e s m below meth c ls A H locs h9 hH0 hP hS hNc htab
  obtain ⟨cf, hr, hlk, hnm, hKB, hE, -, hD, -, hA, hAw, hRH, hl⟩ := h9
  have hx := cf.1
  have hb := cf.2.1
  have hml := cf.2.2.1
  have hown : s.vm.findClass RX0 = some m.cls := cf.2.2.2.1
  have hts := cf.2.2.2.2
  have hK := hKB.1
  have hl : lv_has ls 4 [(0, .ref d), (1, .int v), (2, .ref o)] := hl
  refine lv_aload_n hx hb dX0_weightOf_0 rfl (lv_at hl 2 rfl) ?_
  refine lv_iconst (v := nI 0) hx hb dX0_weightOf_1 (by decide) ?_
  refine lv_aload_n hx hb dX0_weightOf_2 rfl (lv_at hl 0 rfl) ?_
  refine lv_iload_n hx hb dX0_weightOf_3 rfl (lv_at hl 1 rfl) ?_
  have hpm_3224 : (([(o, .inl (G.2 5, 1, .inr (.inl of)))] ++ (W ++ [])) : va_W).Perm ((W ++ []) ++ [(o, .inl (G.2 5, 1, .inr (.inl of)))]) := segs_perm [[(o, .inl (G.2 5, 1, .inr (.inl of)))], W] [1] [0] rfl
  have hF := hF_ofP (wc := (W ++ [])) hD hS hA hpm_3224
  refine go_cxP hS hP hD hpm_3224 hF
      (vx_runV (As := [.int v]) (rest := [.int (nI 0), .ref o]) cf (dX1_weightOf l G d S W v (show DyW G d S W from by first | assumption | omega) hfl H.size) (cwV 1 hts (lw_V q1077 q1078 q1079 q47 q1080) rfl rfl rfl (by decide +kernel) ⟨Nat.le_of_ble_eq_true rfl, Nat.le_of_ble_eq_true rfl⟩) (preV_of hKB hE hS hF (DyW.recv hK h (seg_at [[(o, .inl (G.2 5, 1, .inr (.inl of)))], W] 1 rfl hP)) (P_left (P_perm hpm_3224 hP)) ((D_left (D_perm hpm_3224 hD)).weaken (fun _ _ _ _ => trivial)) trivial) rfl rfl hl.1 rfl (lv_room (Nat.le_of_ble_eq_true rfl)) dX0_weightOf_4 ⟨show 0 + 2 ≤ 2 from by first | decide | omega, show 0 + 8 ≤ 8 from by first | decide | omega⟩)
      (fun u_ H locs ce q9 hq hph (hP : va_P G.1 CL ([(o, .inl (G.2 5, 1, .inr (.inl of)))] ++ (u_.2 ++ [])) H) (hD : va_D A ([(o, .inl (G.2 5, 1, .inr (.inl of)))] ++ (u_.2 ++ []))) hS hfz hfk hce hcv hcl => ?_) (fun u_ H locs hq hph (hP : va_P G.1 CL ([(o, .inl (G.2 5, 1, .inr (.inl of)))] ++ (u_.2 ++ [])) H) (hD : va_D A ([(o, .inl (G.2 5, 1, .inr (.inl of)))] ++ (u_.2 ++ []))) hS hfz hfk => ?_)
  · obtain ⟨kx_3227, W2_3228⟩ := u_
    obtain ⟨hq_3229, hq_3230, hq_3231⟩ : (q_weight (dC S) v).1 = kx_3227 ∧ DyW G d S W2_3228 ∧ 1 ≤ kx_3227 ∧ kx_3227 ≤ 1 := hq
    have hpm_3232 : ([(o, .inl (G.2 5, 1, .inr (.inl of)))] ++ (W2_3228 ++ []) : va_W).Perm ([(o, .inl (G.2 5, 1, .inr (.inl of)))] ++ (W2_3228 ++ [])) := segs_perm2 [[(o, .inl (G.2 5, 1, .inr (.inl of)))]] [W2_3228] [0, 1] rfl
    have hP : va_P G.1 CL ([(o, .inl (G.2 5, 1, .inr (.inl of)))] ++ (W2_3228 ++ [])) H := P_perm hpm_3232 hP
    have hD : va_D A ([(o, .inl (G.2 5, 1, .inr (.inl of)))] ++ (W2_3228 ++ [])) := D_perm hpm_3232 hD
    obtain rfl : kx_3227 = 1 := by omega
    have hcl9 : s.vm.findClass eA = some ce.cls := hcl
    refine vx_catch (name := eA) (E := eA) hown [] (⟨0, 9, 12, 13⟩ : ExceptionTableEntry) [] (by rw [htab]; rfl) (fun z hz => absurd hz List.not_mem_nil) (by decide) (by decide) (hts _ q680) (va_Nw.use rfl (hKB.nest q698 rfl)) hce hcv hcl9 ?_
    refine W.eq (g2 := F0 m 12 ls [.ref q9]) rfl ?_
    refine lv_astore_n (lv' := [(3, .ref q9), (0, .ref d), (1, .int v), (2, .ref o)]) hx hb dX0_weightOf_12 rfl hl (by decide) rfl (fun ls hl => ?_)
    refine lv_iconst (v := nI 1) hx hb dX0_weightOf_13 (by decide) ?_
    refine vx_ret ?_
    have hpm_3233 : (([(o, .inl (G.2 5, 1, .inr (.inl of)))] ++ (W2_3228 ++ [])) : va_W).Perm (([(o, .inl (G.2 5, 1, .inr (.inl of)))] ++ (W2_3228 ++ [])) ++ []) := segs_perm [[(o, .inl (G.2 5, 1, .inr (.inl of)))], W2_3228] [0, 1] [] rfl
    have hP9 : va_P G.1 CL ([(o, .inl (G.2 5, 1, .inr (.inl of)))] ++ (W2_3228 ++ [])) H := P_left (P_perm hpm_3233 hP)
    have hD9 : va_D A ([(o, .inl (G.2 5, 1, .inr (.inl of)))] ++ (W2_3228 ++ [])) := D_left (D_perm hpm_3233 hD)
    exact end_i hx hb hr hlk (rfl) (qc_of (of, W2_3228) (v := some (.int (nI 1))) (by rw [hq_3229]) (⟨fun z9 => absurd (hq_3229.symm.trans z9) (by decide), by rw [hq_3229]; decide, hq_3230⟩) hP9 hD9 (trivial) hS) hS dX0_weightOf_14 (show 0 + 2 ≤ 2 from by first | exact Nat.le_refl _ | decide | omega) (show 0 + 8 ≤ 8 from by first | exact Nat.le_refl _ | decide | omega)
  · obtain ⟨rr_3225, W2_3226⟩ := u_
    obtain ⟨hq_3234, hq_3235⟩ : q_weight (dC S) v = (0, rr_3225) ∧ DyW G d S W2_3226 := hq
    have hpm_3236 : ([(o, .inl (G.2 5, 1, .inr (.inl of)))] ++ (W2_3226 ++ []) : va_W).Perm ([(o, .inl (G.2 5, 1, .inr (.inl of)))] ++ (W2_3226 ++ [])) := segs_perm2 [[(o, .inl (G.2 5, 1, .inr (.inl of)))]] [W2_3226] [0, 1] rfl
    have hP : va_P G.1 CL ([(o, .inl (G.2 5, 1, .inr (.inl of)))] ++ (W2_3226 ++ [])) H := P_perm hpm_3236 hP
    have hD : va_D A ([(o, .inl (G.2 5, 1, .inr (.inl of)))] ++ (W2_3226 ++ [])) := D_perm hpm_3236 hD
    refine W.eq (g2 := F0 m 7 ls [.int rr_3225, .int (nI 0), .ref o]) rfl ?_
    refine lv_i2l (v := (rr_3225).toInt64) hx hb dX0_weightOf_7 rfl ?_
    refine r_last hx hb hK hP hD hS 0 5 rfl rfl (i := 0) (by omega) (by omega) dX0_weightOf_8 (fun H locs (hP : va_P G.1 CL ([(o, .inl (G.2 5, 1, .inr (.inl (vp_updL of 0 ((rr_3225).toInt64)))))] ++ (W2_3226 ++ [])) H) (hD : va_D A ([(o, .inl (G.2 5, 1, .inr (.inl (vp_updL of 0 ((rr_3225).toInt64)))))] ++ (W2_3226 ++ []))) hS => ?_)
    refine lv_goto (tgt := 15) hx hb dX0_weightOf_9 (by decide) ?_
    refine lv_iconst (v := nI 0) hx hb dX0_weightOf_15 (by decide) ?_
    refine vx_ret ?_
    have hpm_3237 : (([(o, .inl (G.2 5, 1, .inr (.inl (vp_updL of 0 ((rr_3225).toInt64)))))] ++ (W2_3226 ++ [])) : va_W).Perm (([(o, .inl (G.2 5, 1, .inr (.inl (vp_updL of 0 ((rr_3225).toInt64)))))] ++ (W2_3226 ++ [])) ++ []) := segs_perm [[(o, .inl (G.2 5, 1, .inr (.inl (vp_updL of 0 ((rr_3225).toInt64)))))], W2_3226] [0, 1] [] rfl
    have hP9 : va_P G.1 CL ([(o, .inl (G.2 5, 1, .inr (.inl (vp_updL of 0 ((rr_3225).toInt64)))))] ++ (W2_3226 ++ [])) H := P_left (P_perm hpm_3237 hP)
    have hD9 : va_D A ([(o, .inl (G.2 5, 1, .inr (.inl (vp_updL of 0 ((rr_3225).toInt64)))))] ++ (W2_3226 ++ [])) := D_left (D_perm hpm_3237 hD)
    exact end_i hx hb hr hlk (rfl) (qc_of (vp_updL of 0 ((rr_3225).toInt64), W2_3226) (v := some (.int (nI 0))) (by rw [hq_3234]) (⟨fun _ => by rw [hq_3234]; exact pk_uLs, by rw [hq_3234]; exact (by decide : (0 : Nat) < 10), hq_3235⟩) hP9 hD9 (trivial) hS) hS dX0_weightOf_16 (show 0 + 2 ≤ 2 from by first | exact Nat.le_refl _ | decide | omega) (show 0 + 8 ≤ 8 from by first | exact Nat.le_refl _ | decide | omega)

set_option maxHeartbeats 4000000 in
theorem wX0_zoneOf (l : Launch) (G : Gt) (d : Nat) (S : DS) (W : va_W) (o : Nat) (of : Nat → Int64) (v : Int32) (w : Int32) (h : DyW G d S W) (hfl : l.stackTraces = false) : CTW l G yX0_zoneOf cX0_zoneOf 5 (some .int) [(0, 10, 13, 13)] ({ frames := 9, cells := 2, slots := 8, locals := 185 } : Room) [.ref d, .int v, .int w, .ref o] ([(o, .inl (G.2 5, 1, .inr (.inl of)))] ++ (W ++ [])) RH0 (S := (Nat → Int64) × va_W) (fun (u_ : (Nat → Int64) × va_W) => some (.int (nI ((q_zone (dC S) v w).1)))) (fun (u_ : (Nat → Int64) × va_W) => ((q_zone (dC S) v w).1 = 0 → u_.1 0 = ((q_zone (dC S) v w).2).toInt64) ∧ (q_zone (dC S) v w).1 < 10 ∧ DyW G d S u_.2) (fun (u_ : (Nat → Int64) × va_W) => ([(o, .inl (G.2 5, 1, .inr (.inl u_.1)))] ++ (u_.2 ++ []))) (fun (u_ : (Nat → Int64) × va_W) (H : Heap) => True) := by
  refine CTW.of (by decide) (Nat.le_of_ble_eq_true rfl) ?_
  intro p e s m below meth c ls A H locs h9 hH0 hP hS hNc htab
  obtain ⟨cf, hr, hlk, hnm, hKB, hE, -, hD, -, hA, hAw, hRH, hl⟩ := h9
  have hx := cf.1
  have hb := cf.2.1
  have hml := cf.2.2.1
  have hown : s.vm.findClass RX0 = some m.cls := cf.2.2.2.1
  have hts := cf.2.2.2.2
  have hK := hKB.1
  have hl : lv_has ls 5 [(0, .ref d), (1, .int v), (2, .int w), (3, .ref o)] := hl
  refine lv_aload_n hx hb dX0_zoneOf_0 rfl (lv_at hl 3 rfl) ?_
  refine lv_iconst (v := nI 0) hx hb dX0_zoneOf_1 (by decide) ?_
  refine lv_aload_n hx hb dX0_zoneOf_2 rfl (lv_at hl 0 rfl) ?_
  refine lv_iload_n hx hb dX0_zoneOf_3 rfl (lv_at hl 1 rfl) ?_
  refine lv_iload_n hx hb dX0_zoneOf_4 rfl (lv_at hl 2 rfl) ?_
  have hpm_3238 : (([(o, .inl (G.2 5, 1, .inr (.inl of)))] ++ (W ++ [])) : va_W).Perm ((W ++ []) ++ [(o, .inl (G.2 5, 1, .inr (.inl of)))]) := segs_perm [[(o, .inl (G.2 5, 1, .inr (.inl of)))], W] [1] [0] rfl
  have hF := hF_ofP (wc := (W ++ [])) hD hS hA hpm_3238
  refine go_cxP hS hP hD hpm_3238 hF
      (vx_runV (As := [.int v, .int w]) (rest := [.int (nI 0), .ref o]) cf (dX1_zoneOf l G d S W v w (show DyW G d S W from by first | assumption | omega) hfl H.size) (cwV 2 hts (lw_V q1087 q1088 q1089 q47 q1090) rfl rfl rfl (by decide +kernel) ⟨Nat.le_of_ble_eq_true rfl, Nat.le_of_ble_eq_true rfl⟩) (preV_of hKB hE hS hF (DyW.recv hK h (seg_at [[(o, .inl (G.2 5, 1, .inr (.inl of)))], W] 1 rfl hP)) (P_left (P_perm hpm_3238 hP)) ((D_left (D_perm hpm_3238 hD)).weaken (fun _ _ _ _ => trivial)) trivial) rfl rfl hl.1 rfl (lv_room (Nat.le_of_ble_eq_true rfl)) dX0_zoneOf_5 ⟨show 0 + 2 ≤ 2 from by first | decide | omega, show 0 + 8 ≤ 8 from by first | decide | omega⟩)
      (fun u_ H locs ce q9 hq hph (hP : va_P G.1 CL ([(o, .inl (G.2 5, 1, .inr (.inl of)))] ++ (u_.2 ++ [])) H) (hD : va_D A ([(o, .inl (G.2 5, 1, .inr (.inl of)))] ++ (u_.2 ++ []))) hS hfz hfk hce hcv hcl => ?_) (fun u_ H locs hq hph (hP : va_P G.1 CL ([(o, .inl (G.2 5, 1, .inr (.inl of)))] ++ (u_.2 ++ [])) H) (hD : va_D A ([(o, .inl (G.2 5, 1, .inr (.inl of)))] ++ (u_.2 ++ []))) hS hfz hfk => ?_)
  · obtain ⟨kx_3241, W2_3242⟩ := u_
    obtain ⟨hq_3243, hq_3244, hq_3245⟩ : (q_zone (dC S) v w).1 = kx_3241 ∧ DyW G d S W2_3242 ∧ 1 ≤ kx_3241 ∧ kx_3241 ≤ 1 := hq
    have hpm_3246 : ([(o, .inl (G.2 5, 1, .inr (.inl of)))] ++ (W2_3242 ++ []) : va_W).Perm ([(o, .inl (G.2 5, 1, .inr (.inl of)))] ++ (W2_3242 ++ [])) := segs_perm2 [[(o, .inl (G.2 5, 1, .inr (.inl of)))]] [W2_3242] [0, 1] rfl
    have hP : va_P G.1 CL ([(o, .inl (G.2 5, 1, .inr (.inl of)))] ++ (W2_3242 ++ [])) H := P_perm hpm_3246 hP
    have hD : va_D A ([(o, .inl (G.2 5, 1, .inr (.inl of)))] ++ (W2_3242 ++ [])) := D_perm hpm_3246 hD
    obtain rfl : kx_3241 = 1 := by omega
    have hcl9 : s.vm.findClass eA = some ce.cls := hcl
    refine vx_catch (name := eA) (E := eA) hown [] (⟨0, 10, 13, 13⟩ : ExceptionTableEntry) [] (by rw [htab]; rfl) (fun z hz => absurd hz List.not_mem_nil) (by decide) (by decide) (hts _ q680) (va_Nw.use rfl (hKB.nest q698 rfl)) hce hcv hcl9 ?_
    refine W.eq (g2 := F0 m 13 ls [.ref q9]) rfl ?_
    refine lv_astore (lv' := [(4, .ref q9), (0, .ref d), (1, .int v), (2, .int w), (3, .ref o)]) hx hb dX0_zoneOf_13 hl (by decide) rfl (fun ls hl => ?_)
    refine lv_iconst (v := nI 1) hx hb dX0_zoneOf_15 (by decide) ?_
    refine vx_ret ?_
    have hpm_3247 : (([(o, .inl (G.2 5, 1, .inr (.inl of)))] ++ (W2_3242 ++ [])) : va_W).Perm (([(o, .inl (G.2 5, 1, .inr (.inl of)))] ++ (W2_3242 ++ [])) ++ []) := segs_perm [[(o, .inl (G.2 5, 1, .inr (.inl of)))], W2_3242] [0, 1] [] rfl
    have hP9 : va_P G.1 CL ([(o, .inl (G.2 5, 1, .inr (.inl of)))] ++ (W2_3242 ++ [])) H := P_left (P_perm hpm_3247 hP)
    have hD9 : va_D A ([(o, .inl (G.2 5, 1, .inr (.inl of)))] ++ (W2_3242 ++ [])) := D_left (D_perm hpm_3247 hD)
    exact end_i hx hb hr hlk (rfl) (qc_of (of, W2_3242) (v := some (.int (nI 1))) (by rw [hq_3243]) (⟨fun z9 => absurd (hq_3243.symm.trans z9) (by decide), by rw [hq_3243]; decide, hq_3244⟩) hP9 hD9 (trivial) hS) hS dX0_zoneOf_16 (show 0 + 2 ≤ 2 from by first | exact Nat.le_refl _ | decide | omega) (show 0 + 8 ≤ 8 from by first | exact Nat.le_refl _ | decide | omega)
  · obtain ⟨rr_3239, W2_3240⟩ := u_
    obtain ⟨hq_3248, hq_3249⟩ : q_zone (dC S) v w = (0, rr_3239) ∧ DyW G d S W2_3240 := hq
    have hpm_3250 : ([(o, .inl (G.2 5, 1, .inr (.inl of)))] ++ (W2_3240 ++ []) : va_W).Perm ([(o, .inl (G.2 5, 1, .inr (.inl of)))] ++ (W2_3240 ++ [])) := segs_perm2 [[(o, .inl (G.2 5, 1, .inr (.inl of)))]] [W2_3240] [0, 1] rfl
    have hP : va_P G.1 CL ([(o, .inl (G.2 5, 1, .inr (.inl of)))] ++ (W2_3240 ++ [])) H := P_perm hpm_3250 hP
    have hD : va_D A ([(o, .inl (G.2 5, 1, .inr (.inl of)))] ++ (W2_3240 ++ [])) := D_perm hpm_3250 hD
    refine W.eq (g2 := F0 m 8 ls [.int rr_3239, .int (nI 0), .ref o]) rfl ?_
    refine lv_i2l (v := (rr_3239).toInt64) hx hb dX0_zoneOf_8 rfl ?_
    refine r_last hx hb hK hP hD hS 0 5 rfl rfl (i := 0) (by omega) (by omega) dX0_zoneOf_9 (fun H locs (hP : va_P G.1 CL ([(o, .inl (G.2 5, 1, .inr (.inl (vp_updL of 0 ((rr_3239).toInt64)))))] ++ (W2_3240 ++ [])) H) (hD : va_D A ([(o, .inl (G.2 5, 1, .inr (.inl (vp_updL of 0 ((rr_3239).toInt64)))))] ++ (W2_3240 ++ []))) hS => ?_)
    refine lv_goto (tgt := 17) hx hb dX0_zoneOf_10 (by decide) ?_
    refine lv_iconst (v := nI 0) hx hb dX0_zoneOf_17 (by decide) ?_
    refine vx_ret ?_
    have hpm_3251 : (([(o, .inl (G.2 5, 1, .inr (.inl (vp_updL of 0 ((rr_3239).toInt64)))))] ++ (W2_3240 ++ [])) : va_W).Perm (([(o, .inl (G.2 5, 1, .inr (.inl (vp_updL of 0 ((rr_3239).toInt64)))))] ++ (W2_3240 ++ [])) ++ []) := segs_perm [[(o, .inl (G.2 5, 1, .inr (.inl (vp_updL of 0 ((rr_3239).toInt64)))))], W2_3240] [0, 1] [] rfl
    have hP9 : va_P G.1 CL ([(o, .inl (G.2 5, 1, .inr (.inl (vp_updL of 0 ((rr_3239).toInt64)))))] ++ (W2_3240 ++ [])) H := P_left (P_perm hpm_3251 hP)
    have hD9 : va_D A ([(o, .inl (G.2 5, 1, .inr (.inl (vp_updL of 0 ((rr_3239).toInt64)))))] ++ (W2_3240 ++ [])) := D_left (D_perm hpm_3251 hD)
    exact end_i hx hb hr hlk (rfl) (qc_of (vp_updL of 0 ((rr_3239).toInt64), W2_3240) (v := some (.int (nI 0))) (by rw [hq_3248]) (⟨fun _ => by rw [hq_3248]; exact pk_uLs, by rw [hq_3248]; exact (by decide : (0 : Nat) < 10), hq_3249⟩) hP9 hD9 (trivial) hS) hS dX0_zoneOf_18 (show 0 + 2 ≤ 2 from by first | exact Nat.le_refl _ | decide | omega) (show 0 + 8 ≤ 8 from by first | exact Nat.le_refl _ | decide | omega)

set_option maxHeartbeats 4000000 in
theorem wX0_sessionAt (l : Launch) (G : Gt) (d : Nat) (S : DS) (W : va_W) (o : Nat) (of : Nat → Int64) (v : Int32) (h : DyW G d S W) (hfl : l.stackTraces = false) : CTW l G yX0_sessionAt cX0_sessionAt 4 (some .int) [(0, 9, 12, 63)] ({ frames := 8, cells := 2, slots := 8, locals := 123 } : Room) [.ref d, .int v, .ref o] ([(o, .inl (G.2 5, 1, .inr (.inl of)))] ++ (W ++ [])) RH0 (S := (Nat → Int64) × va_W) (fun (u_ : (Nat → Int64) × va_W) => some (.int (nI ((q_sAt (dC S) v).1)))) (fun (u_ : (Nat → Int64) × va_W) => ((q_sAt (dC S) v).1 = 0 → u_.1 0 = ((q_sAt (dC S) v).2).toInt64) ∧ (q_sAt (dC S) v).1 < 10 ∧ DyW G d S u_.2) (fun (u_ : (Nat → Int64) × va_W) => ([(o, .inl (G.2 5, 1, .inr (.inl u_.1)))] ++ (u_.2 ++ []))) (fun (u_ : (Nat → Int64) × va_W) (H : Heap) => True) := by
  refine CTW.of (by decide) (Nat.le_of_ble_eq_true rfl) ?_
  intro p e s m below meth c ls A H locs h9 hH0 hP hS hNc htab
  obtain ⟨cf, hr, hlk, hnm, hKB, hE, -, hD, -, hA, hAw, hRH, hl⟩ := h9
  have hx := cf.1
  have hb := cf.2.1
  have hml := cf.2.2.1
  have hown : s.vm.findClass RX0 = some m.cls := cf.2.2.2.1
  have hts := cf.2.2.2.2
  have hK := hKB.1
  have hl : lv_has ls 4 [(0, .ref d), (1, .int v), (2, .ref o)] := hl
  refine lv_aload_n hx hb dX0_sessionAt_0 rfl (lv_at hl 2 rfl) ?_
  refine lv_iconst (v := nI 0) hx hb dX0_sessionAt_1 (by decide) ?_
  refine lv_aload_n hx hb dX0_sessionAt_2 rfl (lv_at hl 0 rfl) ?_
  refine lv_iload_n hx hb dX0_sessionAt_3 rfl (lv_at hl 1 rfl) ?_
  have hpm_3252 : (([(o, .inl (G.2 5, 1, .inr (.inl of)))] ++ (W ++ [])) : va_W).Perm ((W ++ []) ++ [(o, .inl (G.2 5, 1, .inr (.inl of)))]) := segs_perm [[(o, .inl (G.2 5, 1, .inr (.inl of)))], W] [1] [0] rfl
  have hF := hF_ofP (wc := (W ++ [])) hD hS hA hpm_3252
  refine go_cxP hS hP hD hpm_3252 hF
      (vx_runV (As := [.int v]) (rest := [.int (nI 0), .ref o]) cf (dX1_sessionAt l G d S W v (show DyW G d S W from by first | assumption | omega) hfl H.size) (cwV 1 hts (lw_V q1213 q1214 q1215 q47 q1216) rfl rfl rfl (by decide +kernel) ⟨Nat.le_of_ble_eq_true rfl, Nat.le_of_ble_eq_true rfl⟩) (preV_of hKB hE hS hF (DyW.recv hK h (seg_at [[(o, .inl (G.2 5, 1, .inr (.inl of)))], W] 1 rfl hP)) (P_left (P_perm hpm_3252 hP)) ((D_left (D_perm hpm_3252 hD)).weaken (fun _ _ _ _ => trivial)) trivial) rfl rfl hl.1 rfl (lv_room (Nat.le_of_ble_eq_true rfl)) dX0_sessionAt_4 ⟨show 0 + 2 ≤ 2 from by first | decide | omega, show 0 + 8 ≤ 8 from by first | decide | omega⟩)
      (fun u_ H locs ce q9 hq hph (hP : va_P G.1 CL ([(o, .inl (G.2 5, 1, .inr (.inl of)))] ++ (u_.2 ++ [])) H) (hD : va_D A ([(o, .inl (G.2 5, 1, .inr (.inl of)))] ++ (u_.2 ++ []))) hS hfz hfk hce hcv hcl => ?_) (fun u_ H locs hq hph (hP : va_P G.1 CL ([(o, .inl (G.2 5, 1, .inr (.inl of)))] ++ (u_.2 ++ [])) H) (hD : va_D A ([(o, .inl (G.2 5, 1, .inr (.inl of)))] ++ (u_.2 ++ []))) hS hfz hfk => ?_)
  · obtain ⟨kx_3255, W2_3256⟩ := u_
    obtain ⟨hq_3257, hq_3258, hq_3259⟩ : (q_sAt (dC S) v).1 = kx_3255 ∧ DyW G d S W2_3256 ∧ 1 ≤ kx_3255 ∧ kx_3255 ≤ 1 := hq
    have hpm_3260 : ([(o, .inl (G.2 5, 1, .inr (.inl of)))] ++ (W2_3256 ++ []) : va_W).Perm ([(o, .inl (G.2 5, 1, .inr (.inl of)))] ++ (W2_3256 ++ [])) := segs_perm2 [[(o, .inl (G.2 5, 1, .inr (.inl of)))]] [W2_3256] [0, 1] rfl
    have hP : va_P G.1 CL ([(o, .inl (G.2 5, 1, .inr (.inl of)))] ++ (W2_3256 ++ [])) H := P_perm hpm_3260 hP
    have hD : va_D A ([(o, .inl (G.2 5, 1, .inr (.inl of)))] ++ (W2_3256 ++ [])) := D_perm hpm_3260 hD
    obtain rfl : kx_3255 = 1 := by omega
    have hcl9 : s.vm.findClass eI = some ce.cls := hcl
    refine vx_catch (name := eI) (E := eI) hown [] (⟨0, 9, 12, 63⟩ : ExceptionTableEntry) [] (by rw [htab]; rfl) (fun z hz => absurd hz List.not_mem_nil) (by decide) (by decide) (hts _ q1197) (va_Nw.use rfl (hKB.nest q785 rfl)) hce hcv hcl9 ?_
    refine W.eq (g2 := F0 m 12 ls [.ref q9]) rfl ?_
    refine lv_astore_n (lv' := [(3, .ref q9), (0, .ref d), (1, .int v), (2, .ref o)]) hx hb dX0_sessionAt_12 rfl hl (by decide) rfl (fun ls hl => ?_)
    refine lv_iconst (v := nI 1) hx hb dX0_sessionAt_13 (by decide) ?_
    refine vx_ret ?_
    have hpm_3261 : (([(o, .inl (G.2 5, 1, .inr (.inl of)))] ++ (W2_3256 ++ [])) : va_W).Perm (([(o, .inl (G.2 5, 1, .inr (.inl of)))] ++ (W2_3256 ++ [])) ++ []) := segs_perm [[(o, .inl (G.2 5, 1, .inr (.inl of)))], W2_3256] [0, 1] [] rfl
    have hP9 : va_P G.1 CL ([(o, .inl (G.2 5, 1, .inr (.inl of)))] ++ (W2_3256 ++ [])) H := P_left (P_perm hpm_3261 hP)
    have hD9 : va_D A ([(o, .inl (G.2 5, 1, .inr (.inl of)))] ++ (W2_3256 ++ [])) := D_left (D_perm hpm_3261 hD)
    exact end_i hx hb hr hlk (rfl) (qc_of (of, W2_3256) (v := some (.int (nI 1))) (by rw [hq_3257]) (⟨fun z9 => absurd (hq_3257.symm.trans z9) (by decide), by rw [hq_3257]; decide, hq_3258⟩) hP9 hD9 (trivial) hS) hS dX0_sessionAt_14 (show 0 + 2 ≤ 2 from by first | exact Nat.le_refl _ | decide | omega) (show 0 + 8 ≤ 8 from by first | exact Nat.le_refl _ | decide | omega)
  · obtain ⟨rr_3253, W2_3254⟩ := u_
    obtain ⟨hq_3262, hq_3263⟩ : q_sAt (dC S) v = (0, rr_3253) ∧ DyW G d S W2_3254 := hq
    have hpm_3264 : ([(o, .inl (G.2 5, 1, .inr (.inl of)))] ++ (W2_3254 ++ []) : va_W).Perm ([(o, .inl (G.2 5, 1, .inr (.inl of)))] ++ (W2_3254 ++ [])) := segs_perm2 [[(o, .inl (G.2 5, 1, .inr (.inl of)))]] [W2_3254] [0, 1] rfl
    have hP : va_P G.1 CL ([(o, .inl (G.2 5, 1, .inr (.inl of)))] ++ (W2_3254 ++ [])) H := P_perm hpm_3264 hP
    have hD : va_D A ([(o, .inl (G.2 5, 1, .inr (.inl of)))] ++ (W2_3254 ++ [])) := D_perm hpm_3264 hD
    refine W.eq (g2 := F0 m 7 ls [.int rr_3253, .int (nI 0), .ref o]) rfl ?_
    refine lv_i2l (v := (rr_3253).toInt64) hx hb dX0_sessionAt_7 rfl ?_
    refine r_last hx hb hK hP hD hS 0 5 rfl rfl (i := 0) (by omega) (by omega) dX0_sessionAt_8 (fun H locs (hP : va_P G.1 CL ([(o, .inl (G.2 5, 1, .inr (.inl (vp_updL of 0 ((rr_3253).toInt64)))))] ++ (W2_3254 ++ [])) H) (hD : va_D A ([(o, .inl (G.2 5, 1, .inr (.inl (vp_updL of 0 ((rr_3253).toInt64)))))] ++ (W2_3254 ++ []))) hS => ?_)
    refine lv_goto (tgt := 15) hx hb dX0_sessionAt_9 (by decide) ?_
    refine lv_iconst (v := nI 0) hx hb dX0_sessionAt_15 (by decide) ?_
    refine vx_ret ?_
    have hpm_3265 : (([(o, .inl (G.2 5, 1, .inr (.inl (vp_updL of 0 ((rr_3253).toInt64)))))] ++ (W2_3254 ++ [])) : va_W).Perm (([(o, .inl (G.2 5, 1, .inr (.inl (vp_updL of 0 ((rr_3253).toInt64)))))] ++ (W2_3254 ++ [])) ++ []) := segs_perm [[(o, .inl (G.2 5, 1, .inr (.inl (vp_updL of 0 ((rr_3253).toInt64)))))], W2_3254] [0, 1] [] rfl
    have hP9 : va_P G.1 CL ([(o, .inl (G.2 5, 1, .inr (.inl (vp_updL of 0 ((rr_3253).toInt64)))))] ++ (W2_3254 ++ [])) H := P_left (P_perm hpm_3265 hP)
    have hD9 : va_D A ([(o, .inl (G.2 5, 1, .inr (.inl (vp_updL of 0 ((rr_3253).toInt64)))))] ++ (W2_3254 ++ [])) := D_left (D_perm hpm_3265 hD)
    exact end_i hx hb hr hlk (rfl) (qc_of (vp_updL of 0 ((rr_3253).toInt64), W2_3254) (v := some (.int (nI 0))) (by rw [hq_3262]) (⟨fun _ => by rw [hq_3262]; exact pk_uLs, by rw [hq_3262]; exact (by decide : (0 : Nat) < 10), hq_3263⟩) hP9 hD9 (trivial) hS) hS dX0_sessionAt_16 (show 0 + 2 ≤ 2 from by first | exact Nat.le_refl _ | decide | omega) (show 0 + 8 ≤ 8 from by first | exact Nat.le_refl _ | decide | omega)

set_option maxHeartbeats 4000000 in
theorem wX0_dayOf (l : Launch) (G : Gt) (d : Nat) (S : DS) (W : va_W) (o : Nat) (of : Nat → Int64) (v : Int32) (h : DyW G d S W) (hfl : l.stackTraces = false) : CTW l G yX0_dayOf cX0_dayOf 4 (some .int) [(0, 9, 12, 24)] ({ frames := 10, cells := 2, slots := 8, locals := 167 } : Room) [.ref d, .int v, .ref o] ([(o, .inl (G.2 5, 1, .inr (.inl of)))] ++ (W ++ [])) RH0 (S := (Nat → Int64) × va_W) (fun (u_ : (Nat → Int64) × va_W) => some (.int (nI ((q_dayOf (dC S) v).1)))) (fun (u_ : (Nat → Int64) × va_W) => ((q_dayOf (dC S) v).1 = 0 → u_.1 0 = ((q_dayOf (dC S) v).2).toInt64) ∧ (q_dayOf (dC S) v).1 < 10 ∧ DyW G d S u_.2) (fun (u_ : (Nat → Int64) × va_W) => ([(o, .inl (G.2 5, 1, .inr (.inl u_.1)))] ++ (u_.2 ++ []))) (fun (u_ : (Nat → Int64) × va_W) (H : Heap) => True) := by
  refine CTW.of (by decide) (Nat.le_of_ble_eq_true rfl) ?_
  intro p e s m below meth c ls A H locs h9 hH0 hP hS hNc htab
  obtain ⟨cf, hr, hlk, hnm, hKB, hE, -, hD, -, hA, hAw, hRH, hl⟩ := h9
  have hx := cf.1
  have hb := cf.2.1
  have hml := cf.2.2.1
  have hown : s.vm.findClass RX0 = some m.cls := cf.2.2.2.1
  have hts := cf.2.2.2.2
  have hK := hKB.1
  have hl : lv_has ls 4 [(0, .ref d), (1, .int v), (2, .ref o)] := hl
  refine lv_aload_n hx hb dX0_dayOf_0 rfl (lv_at hl 2 rfl) ?_
  refine lv_iconst (v := nI 0) hx hb dX0_dayOf_1 (by decide) ?_
  refine lv_aload_n hx hb dX0_dayOf_2 rfl (lv_at hl 0 rfl) ?_
  refine lv_iload_n hx hb dX0_dayOf_3 rfl (lv_at hl 1 rfl) ?_
  have hpm_3266 : (([(o, .inl (G.2 5, 1, .inr (.inl of)))] ++ (W ++ [])) : va_W).Perm ((W ++ []) ++ [(o, .inl (G.2 5, 1, .inr (.inl of)))]) := segs_perm [[(o, .inl (G.2 5, 1, .inr (.inl of)))], W] [1] [0] rfl
  have hF := hF_ofP (wc := (W ++ [])) hD hS hA hpm_3266
  refine go_cxP hS hP hD hpm_3266 hF
      (vx_runV (As := [.int v]) (rest := [.int (nI 0), .ref o]) cf (dX1_dayOf l G d S W v (show DyW G d S W from by first | assumption | omega) hfl H.size) (cwV 1 hts (lw_V q1228 q1229 q1230 q47 q1231) rfl rfl rfl (by decide +kernel) ⟨Nat.le_of_ble_eq_true rfl, Nat.le_of_ble_eq_true rfl⟩) (preV_of hKB hE hS hF (DyW.recv hK h (seg_at [[(o, .inl (G.2 5, 1, .inr (.inl of)))], W] 1 rfl hP)) (P_left (P_perm hpm_3266 hP)) ((D_left (D_perm hpm_3266 hD)).weaken (fun _ _ _ _ => trivial)) trivial) rfl rfl hl.1 rfl (lv_room (Nat.le_of_ble_eq_true rfl)) dX0_dayOf_4 ⟨show 0 + 2 ≤ 2 from by first | decide | omega, show 0 + 8 ≤ 8 from by first | decide | omega⟩)
      (fun u_ H locs ce q9 hq hph (hP : va_P G.1 CL ([(o, .inl (G.2 5, 1, .inr (.inl of)))] ++ (u_.2 ++ [])) H) (hD : va_D A ([(o, .inl (G.2 5, 1, .inr (.inl of)))] ++ (u_.2 ++ []))) hS hfz hfk hce hcv hcl => ?_) (fun u_ H locs hq hph (hP : va_P G.1 CL ([(o, .inl (G.2 5, 1, .inr (.inl of)))] ++ (u_.2 ++ [])) H) (hD : va_D A ([(o, .inl (G.2 5, 1, .inr (.inl of)))] ++ (u_.2 ++ []))) hS hfz hfk => ?_)
  · obtain ⟨kx_3269, W2_3270⟩ := u_
    obtain ⟨hq_3271, hq_3272, hq_3273⟩ : (q_dayOf (dC S) v).1 = kx_3269 ∧ DyW G d S W2_3270 ∧ 1 ≤ kx_3269 ∧ kx_3269 ≤ 1 := hq
    have hpm_3274 : ([(o, .inl (G.2 5, 1, .inr (.inl of)))] ++ (W2_3270 ++ []) : va_W).Perm ([(o, .inl (G.2 5, 1, .inr (.inl of)))] ++ (W2_3270 ++ [])) := segs_perm2 [[(o, .inl (G.2 5, 1, .inr (.inl of)))]] [W2_3270] [0, 1] rfl
    have hP : va_P G.1 CL ([(o, .inl (G.2 5, 1, .inr (.inl of)))] ++ (W2_3270 ++ [])) H := P_perm hpm_3274 hP
    have hD : va_D A ([(o, .inl (G.2 5, 1, .inr (.inl of)))] ++ (W2_3270 ++ [])) := D_perm hpm_3274 hD
    obtain rfl : kx_3269 = 1 := by omega
    have hcl9 : s.vm.findClass eN = some ce.cls := hcl
    refine vx_catch (name := eN) (E := eN) hown [] (⟨0, 9, 12, 24⟩ : ExceptionTableEntry) [] (by rw [htab]; rfl) (fun z hz => absurd hz List.not_mem_nil) (by decide) (by decide) (hts _ q1013) (va_Nw.use rfl (hKB.nest q334 rfl)) hce hcv hcl9 ?_
    refine W.eq (g2 := F0 m 12 ls [.ref q9]) rfl ?_
    refine lv_astore_n (lv' := [(3, .ref q9), (0, .ref d), (1, .int v), (2, .ref o)]) hx hb dX0_dayOf_12 rfl hl (by decide) rfl (fun ls hl => ?_)
    refine lv_iconst (v := nI 1) hx hb dX0_dayOf_13 (by decide) ?_
    refine vx_ret ?_
    have hpm_3275 : (([(o, .inl (G.2 5, 1, .inr (.inl of)))] ++ (W2_3270 ++ [])) : va_W).Perm (([(o, .inl (G.2 5, 1, .inr (.inl of)))] ++ (W2_3270 ++ [])) ++ []) := segs_perm [[(o, .inl (G.2 5, 1, .inr (.inl of)))], W2_3270] [0, 1] [] rfl
    have hP9 : va_P G.1 CL ([(o, .inl (G.2 5, 1, .inr (.inl of)))] ++ (W2_3270 ++ [])) H := P_left (P_perm hpm_3275 hP)
    have hD9 : va_D A ([(o, .inl (G.2 5, 1, .inr (.inl of)))] ++ (W2_3270 ++ [])) := D_left (D_perm hpm_3275 hD)
    exact end_i hx hb hr hlk (rfl) (qc_of (of, W2_3270) (v := some (.int (nI 1))) (by rw [hq_3271]) (⟨fun z9 => absurd (hq_3271.symm.trans z9) (by decide), by rw [hq_3271]; decide, hq_3272⟩) hP9 hD9 (trivial) hS) hS dX0_dayOf_14 (show 0 + 2 ≤ 2 from by first | exact Nat.le_refl _ | decide | omega) (show 0 + 8 ≤ 8 from by first | exact Nat.le_refl _ | decide | omega)
  · obtain ⟨rr_3267, W2_3268⟩ := u_
    obtain ⟨hq_3276, hq_3277⟩ : q_dayOf (dC S) v = (0, rr_3267) ∧ DyW G d S W2_3268 := hq
    have hpm_3278 : ([(o, .inl (G.2 5, 1, .inr (.inl of)))] ++ (W2_3268 ++ []) : va_W).Perm ([(o, .inl (G.2 5, 1, .inr (.inl of)))] ++ (W2_3268 ++ [])) := segs_perm2 [[(o, .inl (G.2 5, 1, .inr (.inl of)))]] [W2_3268] [0, 1] rfl
    have hP : va_P G.1 CL ([(o, .inl (G.2 5, 1, .inr (.inl of)))] ++ (W2_3268 ++ [])) H := P_perm hpm_3278 hP
    have hD : va_D A ([(o, .inl (G.2 5, 1, .inr (.inl of)))] ++ (W2_3268 ++ [])) := D_perm hpm_3278 hD
    refine W.eq (g2 := F0 m 7 ls [.int rr_3267, .int (nI 0), .ref o]) rfl ?_
    refine lv_i2l (v := (rr_3267).toInt64) hx hb dX0_dayOf_7 rfl ?_
    refine r_last hx hb hK hP hD hS 0 5 rfl rfl (i := 0) (by omega) (by omega) dX0_dayOf_8 (fun H locs (hP : va_P G.1 CL ([(o, .inl (G.2 5, 1, .inr (.inl (vp_updL of 0 ((rr_3267).toInt64)))))] ++ (W2_3268 ++ [])) H) (hD : va_D A ([(o, .inl (G.2 5, 1, .inr (.inl (vp_updL of 0 ((rr_3267).toInt64)))))] ++ (W2_3268 ++ []))) hS => ?_)
    refine lv_goto (tgt := 15) hx hb dX0_dayOf_9 (by decide) ?_
    refine lv_iconst (v := nI 0) hx hb dX0_dayOf_15 (by decide) ?_
    refine vx_ret ?_
    have hpm_3279 : (([(o, .inl (G.2 5, 1, .inr (.inl (vp_updL of 0 ((rr_3267).toInt64)))))] ++ (W2_3268 ++ [])) : va_W).Perm (([(o, .inl (G.2 5, 1, .inr (.inl (vp_updL of 0 ((rr_3267).toInt64)))))] ++ (W2_3268 ++ [])) ++ []) := segs_perm [[(o, .inl (G.2 5, 1, .inr (.inl (vp_updL of 0 ((rr_3267).toInt64)))))], W2_3268] [0, 1] [] rfl
    have hP9 : va_P G.1 CL ([(o, .inl (G.2 5, 1, .inr (.inl (vp_updL of 0 ((rr_3267).toInt64)))))] ++ (W2_3268 ++ [])) H := P_left (P_perm hpm_3279 hP)
    have hD9 : va_D A ([(o, .inl (G.2 5, 1, .inr (.inl (vp_updL of 0 ((rr_3267).toInt64)))))] ++ (W2_3268 ++ [])) := D_left (D_perm hpm_3279 hD)
    exact end_i hx hb hr hlk (rfl) (qc_of (vp_updL of 0 ((rr_3267).toInt64), W2_3268) (v := some (.int (nI 0))) (by rw [hq_3276]) (⟨fun _ => by rw [hq_3276]; exact pk_uLs, by rw [hq_3276]; exact (by decide : (0 : Nat) < 10), hq_3277⟩) hP9 hD9 (trivial) hS) hS dX0_dayOf_16 (show 0 + 2 ≤ 2 from by first | exact Nat.le_refl _ | decide | omega) (show 0 + 8 ≤ 8 from by first | exact Nat.le_refl _ | decide | omega)

set_option maxHeartbeats 4000000 in
theorem wX0_minutesOf (l : Launch) (G : Gt) (d : Nat) (S : DS) (W : va_W) (o : Nat) (of : Nat → Int64) (v : Int32) (h : DyW G d S W) (hfl : l.stackTraces = false) : CTW l G yX0_minutesOf cX0_minutesOf 4 (some .int) [(0, 9, 12, 24)] ({ frames := 10, cells := 2, slots := 8, locals := 167 } : Room) [.ref d, .int v, .ref o] ([(o, .inl (G.2 5, 1, .inr (.inl of)))] ++ (W ++ [])) RH0 (S := (Nat → Int64) × va_W) (fun (u_ : (Nat → Int64) × va_W) => some (.int (nI ((q_minOf (dC S) v).1)))) (fun (u_ : (Nat → Int64) × va_W) => ((q_minOf (dC S) v).1 = 0 → u_.1 0 = ((q_minOf (dC S) v).2).toInt64) ∧ (q_minOf (dC S) v).1 < 10 ∧ DyW G d S u_.2) (fun (u_ : (Nat → Int64) × va_W) => ([(o, .inl (G.2 5, 1, .inr (.inl u_.1)))] ++ (u_.2 ++ []))) (fun (u_ : (Nat → Int64) × va_W) (H : Heap) => True) := by
  refine CTW.of (by decide) (Nat.le_of_ble_eq_true rfl) ?_
  intro p e s m below meth c ls A H locs h9 hH0 hP hS hNc htab
  obtain ⟨cf, hr, hlk, hnm, hKB, hE, -, hD, -, hA, hAw, hRH, hl⟩ := h9
  have hx := cf.1
  have hb := cf.2.1
  have hml := cf.2.2.1
  have hown : s.vm.findClass RX0 = some m.cls := cf.2.2.2.1
  have hts := cf.2.2.2.2
  have hK := hKB.1
  have hl : lv_has ls 4 [(0, .ref d), (1, .int v), (2, .ref o)] := hl
  refine lv_aload_n hx hb dX0_minutesOf_0 rfl (lv_at hl 2 rfl) ?_
  refine lv_iconst (v := nI 0) hx hb dX0_minutesOf_1 (by decide) ?_
  refine lv_aload_n hx hb dX0_minutesOf_2 rfl (lv_at hl 0 rfl) ?_
  refine lv_iload_n hx hb dX0_minutesOf_3 rfl (lv_at hl 1 rfl) ?_
  have hpm_3280 : (([(o, .inl (G.2 5, 1, .inr (.inl of)))] ++ (W ++ [])) : va_W).Perm ((W ++ []) ++ [(o, .inl (G.2 5, 1, .inr (.inl of)))]) := segs_perm [[(o, .inl (G.2 5, 1, .inr (.inl of)))], W] [1] [0] rfl
  have hF := hF_ofP (wc := (W ++ [])) hD hS hA hpm_3280
  refine go_cxP hS hP hD hpm_3280 hF
      (vx_runV (As := [.int v]) (rest := [.int (nI 0), .ref o]) cf (dX1_minutesOf l G d S W v (show DyW G d S W from by first | assumption | omega) hfl H.size) (cwV 1 hts (lw_V q1240 q1241 q1242 q47 q1243) rfl rfl rfl (by decide +kernel) ⟨Nat.le_of_ble_eq_true rfl, Nat.le_of_ble_eq_true rfl⟩) (preV_of hKB hE hS hF (DyW.recv hK h (seg_at [[(o, .inl (G.2 5, 1, .inr (.inl of)))], W] 1 rfl hP)) (P_left (P_perm hpm_3280 hP)) ((D_left (D_perm hpm_3280 hD)).weaken (fun _ _ _ _ => trivial)) trivial) rfl rfl hl.1 rfl (lv_room (Nat.le_of_ble_eq_true rfl)) dX0_minutesOf_4 ⟨show 0 + 2 ≤ 2 from by first | decide | omega, show 0 + 8 ≤ 8 from by first | decide | omega⟩)
      (fun u_ H locs ce q9 hq hph (hP : va_P G.1 CL ([(o, .inl (G.2 5, 1, .inr (.inl of)))] ++ (u_.2 ++ [])) H) (hD : va_D A ([(o, .inl (G.2 5, 1, .inr (.inl of)))] ++ (u_.2 ++ []))) hS hfz hfk hce hcv hcl => ?_) (fun u_ H locs hq hph (hP : va_P G.1 CL ([(o, .inl (G.2 5, 1, .inr (.inl of)))] ++ (u_.2 ++ [])) H) (hD : va_D A ([(o, .inl (G.2 5, 1, .inr (.inl of)))] ++ (u_.2 ++ []))) hS hfz hfk => ?_)
  · obtain ⟨kx_3283, W2_3284⟩ := u_
    obtain ⟨hq_3285, hq_3286, hq_3287⟩ : (q_minOf (dC S) v).1 = kx_3283 ∧ DyW G d S W2_3284 ∧ 1 ≤ kx_3283 ∧ kx_3283 ≤ 1 := hq
    have hpm_3288 : ([(o, .inl (G.2 5, 1, .inr (.inl of)))] ++ (W2_3284 ++ []) : va_W).Perm ([(o, .inl (G.2 5, 1, .inr (.inl of)))] ++ (W2_3284 ++ [])) := segs_perm2 [[(o, .inl (G.2 5, 1, .inr (.inl of)))]] [W2_3284] [0, 1] rfl
    have hP : va_P G.1 CL ([(o, .inl (G.2 5, 1, .inr (.inl of)))] ++ (W2_3284 ++ [])) H := P_perm hpm_3288 hP
    have hD : va_D A ([(o, .inl (G.2 5, 1, .inr (.inl of)))] ++ (W2_3284 ++ [])) := D_perm hpm_3288 hD
    obtain rfl : kx_3283 = 1 := by omega
    have hcl9 : s.vm.findClass eN = some ce.cls := hcl
    refine vx_catch (name := eN) (E := eN) hown [] (⟨0, 9, 12, 24⟩ : ExceptionTableEntry) [] (by rw [htab]; rfl) (fun z hz => absurd hz List.not_mem_nil) (by decide) (by decide) (hts _ q1013) (va_Nw.use rfl (hKB.nest q334 rfl)) hce hcv hcl9 ?_
    refine W.eq (g2 := F0 m 12 ls [.ref q9]) rfl ?_
    refine lv_astore_n (lv' := [(3, .ref q9), (0, .ref d), (1, .int v), (2, .ref o)]) hx hb dX0_minutesOf_12 rfl hl (by decide) rfl (fun ls hl => ?_)
    refine lv_iconst (v := nI 1) hx hb dX0_minutesOf_13 (by decide) ?_
    refine vx_ret ?_
    have hpm_3289 : (([(o, .inl (G.2 5, 1, .inr (.inl of)))] ++ (W2_3284 ++ [])) : va_W).Perm (([(o, .inl (G.2 5, 1, .inr (.inl of)))] ++ (W2_3284 ++ [])) ++ []) := segs_perm [[(o, .inl (G.2 5, 1, .inr (.inl of)))], W2_3284] [0, 1] [] rfl
    have hP9 : va_P G.1 CL ([(o, .inl (G.2 5, 1, .inr (.inl of)))] ++ (W2_3284 ++ [])) H := P_left (P_perm hpm_3289 hP)
    have hD9 : va_D A ([(o, .inl (G.2 5, 1, .inr (.inl of)))] ++ (W2_3284 ++ [])) := D_left (D_perm hpm_3289 hD)
    exact end_i hx hb hr hlk (rfl) (qc_of (of, W2_3284) (v := some (.int (nI 1))) (by rw [hq_3285]) (⟨fun z9 => absurd (hq_3285.symm.trans z9) (by decide), by rw [hq_3285]; decide, hq_3286⟩) hP9 hD9 (trivial) hS) hS dX0_minutesOf_14 (show 0 + 2 ≤ 2 from by first | exact Nat.le_refl _ | decide | omega) (show 0 + 8 ≤ 8 from by first | exact Nat.le_refl _ | decide | omega)
  · obtain ⟨rr_3281, W2_3282⟩ := u_
    obtain ⟨hq_3290, hq_3291⟩ : q_minOf (dC S) v = (0, rr_3281) ∧ DyW G d S W2_3282 := hq
    have hpm_3292 : ([(o, .inl (G.2 5, 1, .inr (.inl of)))] ++ (W2_3282 ++ []) : va_W).Perm ([(o, .inl (G.2 5, 1, .inr (.inl of)))] ++ (W2_3282 ++ [])) := segs_perm2 [[(o, .inl (G.2 5, 1, .inr (.inl of)))]] [W2_3282] [0, 1] rfl
    have hP : va_P G.1 CL ([(o, .inl (G.2 5, 1, .inr (.inl of)))] ++ (W2_3282 ++ [])) H := P_perm hpm_3292 hP
    have hD : va_D A ([(o, .inl (G.2 5, 1, .inr (.inl of)))] ++ (W2_3282 ++ [])) := D_perm hpm_3292 hD
    refine W.eq (g2 := F0 m 7 ls [.int rr_3281, .int (nI 0), .ref o]) rfl ?_
    refine lv_i2l (v := (rr_3281).toInt64) hx hb dX0_minutesOf_7 rfl ?_
    refine r_last hx hb hK hP hD hS 0 5 rfl rfl (i := 0) (by omega) (by omega) dX0_minutesOf_8 (fun H locs (hP : va_P G.1 CL ([(o, .inl (G.2 5, 1, .inr (.inl (vp_updL of 0 ((rr_3281).toInt64)))))] ++ (W2_3282 ++ [])) H) (hD : va_D A ([(o, .inl (G.2 5, 1, .inr (.inl (vp_updL of 0 ((rr_3281).toInt64)))))] ++ (W2_3282 ++ []))) hS => ?_)
    refine lv_goto (tgt := 15) hx hb dX0_minutesOf_9 (by decide) ?_
    refine lv_iconst (v := nI 0) hx hb dX0_minutesOf_15 (by decide) ?_
    refine vx_ret ?_
    have hpm_3293 : (([(o, .inl (G.2 5, 1, .inr (.inl (vp_updL of 0 ((rr_3281).toInt64)))))] ++ (W2_3282 ++ [])) : va_W).Perm (([(o, .inl (G.2 5, 1, .inr (.inl (vp_updL of 0 ((rr_3281).toInt64)))))] ++ (W2_3282 ++ [])) ++ []) := segs_perm [[(o, .inl (G.2 5, 1, .inr (.inl (vp_updL of 0 ((rr_3281).toInt64)))))], W2_3282] [0, 1] [] rfl
    have hP9 : va_P G.1 CL ([(o, .inl (G.2 5, 1, .inr (.inl (vp_updL of 0 ((rr_3281).toInt64)))))] ++ (W2_3282 ++ [])) H := P_left (P_perm hpm_3293 hP)
    have hD9 : va_D A ([(o, .inl (G.2 5, 1, .inr (.inl (vp_updL of 0 ((rr_3281).toInt64)))))] ++ (W2_3282 ++ [])) := D_left (D_perm hpm_3293 hD)
    exact end_i hx hb hr hlk (rfl) (qc_of (vp_updL of 0 ((rr_3281).toInt64), W2_3282) (v := some (.int (nI 0))) (by rw [hq_3290]) (⟨fun _ => by rw [hq_3290]; exact pk_uLs, by rw [hq_3290]; exact (by decide : (0 : Nat) < 10), hq_3291⟩) hP9 hD9 (trivial) hS) hS dX0_minutesOf_16 (show 0 + 2 ≤ 2 from by first | exact Nat.le_refl _ | decide | omega) (show 0 + 8 ≤ 8 from by first | exact Nat.le_refl _ | decide | omega)

set_option maxHeartbeats 4000000 in
theorem wX0_minutesInZone (l : Launch) (G : Gt) (d : Nat) (S : DS) (W : va_W) (o : Nat) (of : Nat → Int64) (v : Int32) (w : Int32) (h : DyW G d S W) (hfl : l.stackTraces = false) : CTW l G yX0_minutesInZone cX0_minutesInZone 5 (some .int) [(0, 10, 13, 24), (0, 10, 17, 13)] ({ frames := 10, cells := 4, slots := 20, locals := 211 } : Room) [.ref d, .int v, .int w, .ref o] ([(o, .inl (G.2 5, 1, .inr (.inl of)))] ++ (W ++ [])) RH0 (S := (Nat → Int64) × va_W) (fun (u_ : (Nat → Int64) × va_W) => some (.int (nI ((q_minZ (dC S) v w).1)))) (fun (u_ : (Nat → Int64) × va_W) => ((q_minZ (dC S) v w).1 = 0 → u_.1 0 = ((q_minZ (dC S) v w).2).toInt64) ∧ (q_minZ (dC S) v w).1 < 10 ∧ DyW G d S u_.2) (fun (u_ : (Nat → Int64) × va_W) => ([(o, .inl (G.2 5, 1, .inr (.inl u_.1)))] ++ (u_.2 ++ []))) (fun (u_ : (Nat → Int64) × va_W) (H : Heap) => True) := by
  refine CTW.of (by decide) (Nat.le_of_ble_eq_true rfl) ?_
  intro p e s m below meth c ls A H locs h9 hH0 hP hS hNc htab
  obtain ⟨cf, hr, hlk, hnm, hKB, hE, -, hD, -, hA, hAw, hRH, hl⟩ := h9
  have hx := cf.1
  have hb := cf.2.1
  have hml := cf.2.2.1
  have hown : s.vm.findClass RX0 = some m.cls := cf.2.2.2.1
  have hts := cf.2.2.2.2
  have hK := hKB.1
  have hl : lv_has ls 5 [(0, .ref d), (1, .int v), (2, .int w), (3, .ref o)] := hl
  refine lv_aload_n hx hb dX0_minutesInZone_0 rfl (lv_at hl 3 rfl) ?_
  refine lv_iconst (v := nI 0) hx hb dX0_minutesInZone_1 (by decide) ?_
  refine lv_aload_n hx hb dX0_minutesInZone_2 rfl (lv_at hl 0 rfl) ?_
  refine lv_iload_n hx hb dX0_minutesInZone_3 rfl (lv_at hl 1 rfl) ?_
  refine lv_iload_n hx hb dX0_minutesInZone_4 rfl (lv_at hl 2 rfl) ?_
  have hpm_3294 : (([(o, .inl (G.2 5, 1, .inr (.inl of)))] ++ (W ++ [])) : va_W).Perm ((W ++ []) ++ [(o, .inl (G.2 5, 1, .inr (.inl of)))]) := segs_perm [[(o, .inl (G.2 5, 1, .inr (.inl of)))], W] [1] [0] rfl
  have hF := hF_ofP (wc := (W ++ [])) hD hS hA hpm_3294
  refine go_cxP hS hP hD hpm_3294 hF
      (vx_runV (As := [.int v, .int w]) (rest := [.int (nI 0), .ref o]) cf (dX1_minutesInZone l G d S W v w (show DyW G d S W from by first | assumption | omega) hfl H.size) (cwV 2 hts (lw_V q1248 q1249 q1250 q47 q1251) rfl rfl rfl (by decide +kernel) ⟨Nat.le_of_ble_eq_true rfl, Nat.le_of_ble_eq_true rfl⟩) (preV_of hKB hE hS hF (DyW.recv hK h (seg_at [[(o, .inl (G.2 5, 1, .inr (.inl of)))], W] 1 rfl hP)) (P_left (P_perm hpm_3294 hP)) ((D_left (D_perm hpm_3294 hD)).weaken (fun _ _ _ _ => trivial)) trivial) rfl rfl hl.1 rfl (lv_room (Nat.le_of_ble_eq_true rfl)) dX0_minutesInZone_5 ⟨show 0 + 4 ≤ 4 from by first | decide | omega, show 0 + 20 ≤ 20 from by first | decide | omega⟩)
      (fun u_ H locs ce q9 hq hph (hP : va_P G.1 CL ([(o, .inl (G.2 5, 1, .inr (.inl of)))] ++ (u_.2 ++ [])) H) (hD : va_D A ([(o, .inl (G.2 5, 1, .inr (.inl of)))] ++ (u_.2 ++ []))) hS hfz hfk hce hcv hcl => ?_) (fun u_ H locs hq hph (hP : va_P G.1 CL ([(o, .inl (G.2 5, 1, .inr (.inl of)))] ++ (u_.2 ++ [])) H) (hD : va_D A ([(o, .inl (G.2 5, 1, .inr (.inl of)))] ++ (u_.2 ++ []))) hS hfz hfk => ?_)
  · obtain ⟨kx_3297, W2_3298⟩ := u_
    obtain ⟨hq_3299, hq_3300, hq_3301⟩ : (q_minZ (dC S) v w).1 = kx_3297 ∧ DyW G d S W2_3298 ∧ 1 ≤ kx_3297 ∧ kx_3297 ≤ 2 := hq
    have hpm_3302 : ([(o, .inl (G.2 5, 1, .inr (.inl of)))] ++ (W2_3298 ++ []) : va_W).Perm ([(o, .inl (G.2 5, 1, .inr (.inl of)))] ++ (W2_3298 ++ [])) := segs_perm2 [[(o, .inl (G.2 5, 1, .inr (.inl of)))]] [W2_3298] [0, 1] rfl
    have hP : va_P G.1 CL ([(o, .inl (G.2 5, 1, .inr (.inl of)))] ++ (W2_3298 ++ [])) H := P_perm hpm_3302 hP
    have hD : va_D A ([(o, .inl (G.2 5, 1, .inr (.inl of)))] ++ (W2_3298 ++ [])) := D_perm hpm_3302 hD
    rcases (show kx_3297 = 1 ∨ kx_3297 = 2 by omega) with rfl | rfl
    · have hcl9 : s.vm.findClass eN = some ce.cls := hcl
      refine vx_catch (name := eN) (E := eN) hown [] (⟨0, 10, 13, 24⟩ : ExceptionTableEntry) [(⟨0, 10, 17, 13⟩ : ExceptionTableEntry)] (by rw [htab]; rfl) (fun z hz => absurd hz List.not_mem_nil) (by decide) (by decide) (hts _ q1013) (va_Nw.use rfl (hKB.nest q334 rfl)) hce hcv hcl9 ?_
      refine W.eq (g2 := F0 m 13 ls [.ref q9]) rfl ?_
      refine lv_astore (lv' := [(4, .ref q9), (0, .ref d), (1, .int v), (2, .int w), (3, .ref o)]) hx hb dX0_minutesInZone_13 hl (by decide) rfl (fun ls hl => ?_)
      refine lv_iconst (v := nI 1) hx hb dX0_minutesInZone_15 (by decide) ?_
      refine vx_ret ?_
      have hpm_3303 : (([(o, .inl (G.2 5, 1, .inr (.inl of)))] ++ (W2_3298 ++ [])) : va_W).Perm (([(o, .inl (G.2 5, 1, .inr (.inl of)))] ++ (W2_3298 ++ [])) ++ []) := segs_perm [[(o, .inl (G.2 5, 1, .inr (.inl of)))], W2_3298] [0, 1] [] rfl
      have hP9 : va_P G.1 CL ([(o, .inl (G.2 5, 1, .inr (.inl of)))] ++ (W2_3298 ++ [])) H := P_left (P_perm hpm_3303 hP)
      have hD9 : va_D A ([(o, .inl (G.2 5, 1, .inr (.inl of)))] ++ (W2_3298 ++ [])) := D_left (D_perm hpm_3303 hD)
      exact end_i hx hb hr hlk (rfl) (qc_of (of, W2_3298) (v := some (.int (nI 1))) (by rw [hq_3299]) (⟨fun z9 => absurd (hq_3299.symm.trans z9) (by decide), by rw [hq_3299]; decide, hq_3300⟩) hP9 hD9 (trivial) hS) hS dX0_minutesInZone_16 (show 0 + 4 ≤ 4 from by first | exact Nat.le_refl _ | decide | omega) (show 0 + 20 ≤ 20 from by first | exact Nat.le_refl _ | decide | omega)
    · have hcl9 : s.vm.findClass eA = some ce.cls := hcl
      refine vx_catch (name := eA) (E := eA) hown [(⟨0, 10, 13, 24⟩ : ExceptionTableEntry)] (⟨0, 10, 17, 13⟩ : ExceptionTableEntry) [] (by rw [htab]; rfl) (fun z hz => by rcases List.mem_singleton.mp hz with rfl; exact Or.inr ⟨by decide, _, hts _ q1013, hNc _ (List.mem_of_getElem? (i := 1) rfl)⟩) (by decide) (by decide) (hts _ q680) (va_Nw.use rfl (hKB.nest q698 rfl)) hce hcv hcl9 ?_
      refine W.eq (g2 := F0 m 17 ls [.ref q9]) rfl ?_
      refine lv_astore (lv' := [(4, .ref q9), (0, .ref d), (1, .int v), (2, .int w), (3, .ref o)]) hx hb dX0_minutesInZone_17 hl (by decide) rfl (fun ls hl => ?_)
      refine lv_iconst (v := nI 2) hx hb dX0_minutesInZone_19 (by decide) ?_
      refine vx_ret ?_
      have hpm_3304 : (([(o, .inl (G.2 5, 1, .inr (.inl of)))] ++ (W2_3298 ++ [])) : va_W).Perm (([(o, .inl (G.2 5, 1, .inr (.inl of)))] ++ (W2_3298 ++ [])) ++ []) := segs_perm [[(o, .inl (G.2 5, 1, .inr (.inl of)))], W2_3298] [0, 1] [] rfl
      have hP9 : va_P G.1 CL ([(o, .inl (G.2 5, 1, .inr (.inl of)))] ++ (W2_3298 ++ [])) H := P_left (P_perm hpm_3304 hP)
      have hD9 : va_D A ([(o, .inl (G.2 5, 1, .inr (.inl of)))] ++ (W2_3298 ++ [])) := D_left (D_perm hpm_3304 hD)
      exact end_i hx hb hr hlk (rfl) (qc_of (of, W2_3298) (v := some (.int (nI 2))) (by rw [hq_3299]) (⟨fun z9 => absurd (hq_3299.symm.trans z9) (by decide), by rw [hq_3299]; decide, hq_3300⟩) hP9 hD9 (trivial) hS) hS dX0_minutesInZone_20 (show 0 + 4 ≤ 4 from by first | exact Nat.le_refl _ | decide | omega) (show 0 + 20 ≤ 20 from by first | exact Nat.le_refl _ | decide | omega)
  · obtain ⟨rr_3295, W2_3296⟩ := u_
    obtain ⟨hq_3305, hq_3306⟩ : q_minZ (dC S) v w = (0, rr_3295) ∧ DyW G d S W2_3296 := hq
    have hpm_3307 : ([(o, .inl (G.2 5, 1, .inr (.inl of)))] ++ (W2_3296 ++ []) : va_W).Perm ([(o, .inl (G.2 5, 1, .inr (.inl of)))] ++ (W2_3296 ++ [])) := segs_perm2 [[(o, .inl (G.2 5, 1, .inr (.inl of)))]] [W2_3296] [0, 1] rfl
    have hP : va_P G.1 CL ([(o, .inl (G.2 5, 1, .inr (.inl of)))] ++ (W2_3296 ++ [])) H := P_perm hpm_3307 hP
    have hD : va_D A ([(o, .inl (G.2 5, 1, .inr (.inl of)))] ++ (W2_3296 ++ [])) := D_perm hpm_3307 hD
    refine W.eq (g2 := F0 m 8 ls [.int rr_3295, .int (nI 0), .ref o]) rfl ?_
    refine lv_i2l (v := (rr_3295).toInt64) hx hb dX0_minutesInZone_8 rfl ?_
    refine r_last hx hb hK hP hD hS 0 5 rfl rfl (i := 0) (by omega) (by omega) dX0_minutesInZone_9 (fun H locs (hP : va_P G.1 CL ([(o, .inl (G.2 5, 1, .inr (.inl (vp_updL of 0 ((rr_3295).toInt64)))))] ++ (W2_3296 ++ [])) H) (hD : va_D A ([(o, .inl (G.2 5, 1, .inr (.inl (vp_updL of 0 ((rr_3295).toInt64)))))] ++ (W2_3296 ++ []))) hS => ?_)
    refine lv_goto (tgt := 21) hx hb dX0_minutesInZone_10 (by decide) ?_
    refine lv_iconst (v := nI 0) hx hb dX0_minutesInZone_21 (by decide) ?_
    refine vx_ret ?_
    have hpm_3308 : (([(o, .inl (G.2 5, 1, .inr (.inl (vp_updL of 0 ((rr_3295).toInt64)))))] ++ (W2_3296 ++ [])) : va_W).Perm (([(o, .inl (G.2 5, 1, .inr (.inl (vp_updL of 0 ((rr_3295).toInt64)))))] ++ (W2_3296 ++ [])) ++ []) := segs_perm [[(o, .inl (G.2 5, 1, .inr (.inl (vp_updL of 0 ((rr_3295).toInt64)))))], W2_3296] [0, 1] [] rfl
    have hP9 : va_P G.1 CL ([(o, .inl (G.2 5, 1, .inr (.inl (vp_updL of 0 ((rr_3295).toInt64)))))] ++ (W2_3296 ++ [])) H := P_left (P_perm hpm_3308 hP)
    have hD9 : va_D A ([(o, .inl (G.2 5, 1, .inr (.inl (vp_updL of 0 ((rr_3295).toInt64)))))] ++ (W2_3296 ++ [])) := D_left (D_perm hpm_3308 hD)
    exact end_i hx hb hr hlk (rfl) (qc_of (vp_updL of 0 ((rr_3295).toInt64), W2_3296) (v := some (.int (nI 0))) (by rw [hq_3305]) (⟨fun _ => by rw [hq_3305]; exact pk_uLs, by rw [hq_3305]; exact (by decide : (0 : Nat) < 10), hq_3306⟩) hP9 hD9 (trivial) hS) hS dX0_minutesInZone_22 (show 0 + 4 ≤ 4 from by first | exact Nat.le_refl _ | decide | omega) (show 0 + 20 ≤ 20 from by first | exact Nat.le_refl _ | decide | omega)

set_option maxHeartbeats 4000000 in
theorem wX0_loadOf (l : Launch) (G : Gt) (d : Nat) (S : DS) (W : va_W) (o : Nat) (of : Nat → Int64) (v : Int32) (h : DyW G d S W) (hfl : l.stackTraces = false) : CTW l G yX0_loadOf cX0_loadOf 4 (some .int) [(0, 9, 12, 24)] ({ frames := 10, cells := 3, slots := 12, locals := 208 } : Room) [.ref d, .int v, .ref o] ([(o, .inl (G.2 5, 1, .inr (.inl of)))] ++ (W ++ [])) RH0 (S := (Nat → Int64) × va_W) (fun (u_ : (Nat → Int64) × va_W) => some (.int (nI ((q_loadOf (dC S) v).1)))) (fun (u_ : (Nat → Int64) × va_W) => ((q_loadOf (dC S) v).1 = 0 → u_.1 0 = ((q_loadOf (dC S) v).2).toInt64) ∧ (q_loadOf (dC S) v).1 < 10 ∧ DyW G d S u_.2) (fun (u_ : (Nat → Int64) × va_W) => ([(o, .inl (G.2 5, 1, .inr (.inl u_.1)))] ++ (u_.2 ++ []))) (fun (u_ : (Nat → Int64) × va_W) (H : Heap) => True) := by
  refine CTW.of (by decide) (Nat.le_of_ble_eq_true rfl) ?_
  intro p e s m below meth c ls A H locs h9 hH0 hP hS hNc htab
  obtain ⟨cf, hr, hlk, hnm, hKB, hE, -, hD, -, hA, hAw, hRH, hl⟩ := h9
  have hx := cf.1
  have hb := cf.2.1
  have hml := cf.2.2.1
  have hown : s.vm.findClass RX0 = some m.cls := cf.2.2.2.1
  have hts := cf.2.2.2.2
  have hK := hKB.1
  have hl : lv_has ls 4 [(0, .ref d), (1, .int v), (2, .ref o)] := hl
  refine lv_aload_n hx hb dX0_loadOf_0 rfl (lv_at hl 2 rfl) ?_
  refine lv_iconst (v := nI 0) hx hb dX0_loadOf_1 (by decide) ?_
  refine lv_aload_n hx hb dX0_loadOf_2 rfl (lv_at hl 0 rfl) ?_
  refine lv_iload_n hx hb dX0_loadOf_3 rfl (lv_at hl 1 rfl) ?_
  have hpm_3309 : (([(o, .inl (G.2 5, 1, .inr (.inl of)))] ++ (W ++ [])) : va_W).Perm ((W ++ []) ++ [(o, .inl (G.2 5, 1, .inr (.inl of)))]) := segs_perm [[(o, .inl (G.2 5, 1, .inr (.inl of)))], W] [1] [0] rfl
  have hF := hF_ofP (wc := (W ++ [])) hD hS hA hpm_3309
  refine go_cxP hS hP hD hpm_3309 hF
      (vx_runV (As := [.int v]) (rest := [.int (nI 0), .ref o]) cf (dX1_loadOf l G d S W v (show DyW G d S W from by first | assumption | omega) hfl H.size) (cwV 1 hts (lw_V q1259 q1260 q1261 q47 q1262) rfl rfl rfl (by decide +kernel) ⟨Nat.le_of_ble_eq_true rfl, Nat.le_of_ble_eq_true rfl⟩) (preV_of hKB hE hS hF (DyW.recv hK h (seg_at [[(o, .inl (G.2 5, 1, .inr (.inl of)))], W] 1 rfl hP)) (P_left (P_perm hpm_3309 hP)) ((D_left (D_perm hpm_3309 hD)).weaken (fun _ _ _ _ => trivial)) trivial) rfl rfl hl.1 rfl (lv_room (Nat.le_of_ble_eq_true rfl)) dX0_loadOf_4 ⟨show 0 + 3 ≤ 3 from by first | decide | omega, show 0 + 12 ≤ 12 from by first | decide | omega⟩)
      (fun u_ H locs ce q9 hq hph (hP : va_P G.1 CL ([(o, .inl (G.2 5, 1, .inr (.inl of)))] ++ (u_.2 ++ [])) H) (hD : va_D A ([(o, .inl (G.2 5, 1, .inr (.inl of)))] ++ (u_.2 ++ []))) hS hfz hfk hce hcv hcl => ?_) (fun u_ H locs hq hph (hP : va_P G.1 CL ([(o, .inl (G.2 5, 1, .inr (.inl of)))] ++ (u_.2 ++ [])) H) (hD : va_D A ([(o, .inl (G.2 5, 1, .inr (.inl of)))] ++ (u_.2 ++ []))) hS hfz hfk => ?_)
  · obtain ⟨kx_3312, W2_3313⟩ := u_
    obtain ⟨hq_3314, hq_3315, hq_3316⟩ : (q_loadOf (dC S) v).1 = kx_3312 ∧ DyW G d S W2_3313 ∧ 1 ≤ kx_3312 ∧ kx_3312 ≤ 1 := hq
    have hpm_3317 : ([(o, .inl (G.2 5, 1, .inr (.inl of)))] ++ (W2_3313 ++ []) : va_W).Perm ([(o, .inl (G.2 5, 1, .inr (.inl of)))] ++ (W2_3313 ++ [])) := segs_perm2 [[(o, .inl (G.2 5, 1, .inr (.inl of)))]] [W2_3313] [0, 1] rfl
    have hP : va_P G.1 CL ([(o, .inl (G.2 5, 1, .inr (.inl of)))] ++ (W2_3313 ++ [])) H := P_perm hpm_3317 hP
    have hD : va_D A ([(o, .inl (G.2 5, 1, .inr (.inl of)))] ++ (W2_3313 ++ [])) := D_perm hpm_3317 hD
    obtain rfl : kx_3312 = 1 := by omega
    have hcl9 : s.vm.findClass eN = some ce.cls := hcl
    refine vx_catch (name := eN) (E := eN) hown [] (⟨0, 9, 12, 24⟩ : ExceptionTableEntry) [] (by rw [htab]; rfl) (fun z hz => absurd hz List.not_mem_nil) (by decide) (by decide) (hts _ q1013) (va_Nw.use rfl (hKB.nest q334 rfl)) hce hcv hcl9 ?_
    refine W.eq (g2 := F0 m 12 ls [.ref q9]) rfl ?_
    refine lv_astore_n (lv' := [(3, .ref q9), (0, .ref d), (1, .int v), (2, .ref o)]) hx hb dX0_loadOf_12 rfl hl (by decide) rfl (fun ls hl => ?_)
    refine lv_iconst (v := nI 1) hx hb dX0_loadOf_13 (by decide) ?_
    refine vx_ret ?_
    have hpm_3318 : (([(o, .inl (G.2 5, 1, .inr (.inl of)))] ++ (W2_3313 ++ [])) : va_W).Perm (([(o, .inl (G.2 5, 1, .inr (.inl of)))] ++ (W2_3313 ++ [])) ++ []) := segs_perm [[(o, .inl (G.2 5, 1, .inr (.inl of)))], W2_3313] [0, 1] [] rfl
    have hP9 : va_P G.1 CL ([(o, .inl (G.2 5, 1, .inr (.inl of)))] ++ (W2_3313 ++ [])) H := P_left (P_perm hpm_3318 hP)
    have hD9 : va_D A ([(o, .inl (G.2 5, 1, .inr (.inl of)))] ++ (W2_3313 ++ [])) := D_left (D_perm hpm_3318 hD)
    exact end_i hx hb hr hlk (rfl) (qc_of (of, W2_3313) (v := some (.int (nI 1))) (by rw [hq_3314]) (⟨fun z9 => absurd (hq_3314.symm.trans z9) (by decide), by rw [hq_3314]; decide, hq_3315⟩) hP9 hD9 (trivial) hS) hS dX0_loadOf_14 (show 0 + 3 ≤ 3 from by first | exact Nat.le_refl _ | decide | omega) (show 0 + 12 ≤ 12 from by first | exact Nat.le_refl _ | decide | omega)
  · obtain ⟨rr_3310, W2_3311⟩ := u_
    obtain ⟨hq_3319, hq_3320⟩ : q_loadOf (dC S) v = (0, rr_3310) ∧ DyW G d S W2_3311 := hq
    have hpm_3321 : ([(o, .inl (G.2 5, 1, .inr (.inl of)))] ++ (W2_3311 ++ []) : va_W).Perm ([(o, .inl (G.2 5, 1, .inr (.inl of)))] ++ (W2_3311 ++ [])) := segs_perm2 [[(o, .inl (G.2 5, 1, .inr (.inl of)))]] [W2_3311] [0, 1] rfl
    have hP : va_P G.1 CL ([(o, .inl (G.2 5, 1, .inr (.inl of)))] ++ (W2_3311 ++ [])) H := P_perm hpm_3321 hP
    have hD : va_D A ([(o, .inl (G.2 5, 1, .inr (.inl of)))] ++ (W2_3311 ++ [])) := D_perm hpm_3321 hD
    refine W.eq (g2 := F0 m 7 ls [.int rr_3310, .int (nI 0), .ref o]) rfl ?_
    refine lv_i2l (v := (rr_3310).toInt64) hx hb dX0_loadOf_7 rfl ?_
    refine r_last hx hb hK hP hD hS 0 5 rfl rfl (i := 0) (by omega) (by omega) dX0_loadOf_8 (fun H locs (hP : va_P G.1 CL ([(o, .inl (G.2 5, 1, .inr (.inl (vp_updL of 0 ((rr_3310).toInt64)))))] ++ (W2_3311 ++ [])) H) (hD : va_D A ([(o, .inl (G.2 5, 1, .inr (.inl (vp_updL of 0 ((rr_3310).toInt64)))))] ++ (W2_3311 ++ []))) hS => ?_)
    refine lv_goto (tgt := 15) hx hb dX0_loadOf_9 (by decide) ?_
    refine lv_iconst (v := nI 0) hx hb dX0_loadOf_15 (by decide) ?_
    refine vx_ret ?_
    have hpm_3322 : (([(o, .inl (G.2 5, 1, .inr (.inl (vp_updL of 0 ((rr_3310).toInt64)))))] ++ (W2_3311 ++ [])) : va_W).Perm (([(o, .inl (G.2 5, 1, .inr (.inl (vp_updL of 0 ((rr_3310).toInt64)))))] ++ (W2_3311 ++ [])) ++ []) := segs_perm [[(o, .inl (G.2 5, 1, .inr (.inl (vp_updL of 0 ((rr_3310).toInt64)))))], W2_3311] [0, 1] [] rfl
    have hP9 : va_P G.1 CL ([(o, .inl (G.2 5, 1, .inr (.inl (vp_updL of 0 ((rr_3310).toInt64)))))] ++ (W2_3311 ++ [])) H := P_left (P_perm hpm_3322 hP)
    have hD9 : va_D A ([(o, .inl (G.2 5, 1, .inr (.inl (vp_updL of 0 ((rr_3310).toInt64)))))] ++ (W2_3311 ++ [])) := D_left (D_perm hpm_3322 hD)
    exact end_i hx hb hr hlk (rfl) (qc_of (vp_updL of 0 ((rr_3310).toInt64), W2_3311) (v := some (.int (nI 0))) (by rw [hq_3319]) (⟨fun _ => by rw [hq_3319]; exact pk_uLs, by rw [hq_3319]; exact (by decide : (0 : Nat) < 10), hq_3320⟩) hP9 hD9 (trivial) hS) hS dX0_loadOf_16 (show 0 + 3 ≤ 3 from by first | exact Nat.le_refl _ | decide | omega) (show 0 + 12 ≤ 12 from by first | exact Nat.le_refl _ | decide | omega)

set_option maxHeartbeats 4000000 in
theorem wX0_loadOn (l : Launch) (G : Gt) (d : Nat) (S : DS) (W : va_W) (o : Nat) (of : Nat → Int64) (v : Int32) (h : DyW G d S W) (hfl : l.stackTraces = false) : CTW l G yX0_loadOn cX0_loadOn 4 (some .int) [(0, 9, 12, 13)] ({ frames := 13, cells := 8300, slots := 17000, locals := 276 } : Room) [.ref d, .int v, .ref o] ([(o, .inl (G.2 5, 1, .inr (.inl of)))] ++ (W ++ [])) RH0 (S := (Nat → Int64) × va_W) (fun (u_ : (Nat → Int64) × va_W) => some (.int (nI ((q_loadOn (dC S) v).1)))) (fun (u_ : (Nat → Int64) × va_W) => ((q_loadOn (dC S) v).1 = 0 → u_.1 0 = ((q_loadOn (dC S) v).2).toInt64) ∧ (q_loadOn (dC S) v).1 < 10 ∧ DyW G d S u_.2) (fun (u_ : (Nat → Int64) × va_W) => ([(o, .inl (G.2 5, 1, .inr (.inl u_.1)))] ++ (u_.2 ++ []))) (fun (u_ : (Nat → Int64) × va_W) (H : Heap) => True) := by
  refine CTW.of (by decide) (Nat.le_of_ble_eq_true rfl) ?_
  intro p e s m below meth c ls A H locs h9 hH0 hP hS hNc htab
  obtain ⟨cf, hr, hlk, hnm, hKB, hE, -, hD, -, hA, hAw, hRH, hl⟩ := h9
  have hx := cf.1
  have hb := cf.2.1
  have hml := cf.2.2.1
  have hown : s.vm.findClass RX0 = some m.cls := cf.2.2.2.1
  have hts := cf.2.2.2.2
  have hK := hKB.1
  have hl : lv_has ls 4 [(0, .ref d), (1, .int v), (2, .ref o)] := hl
  refine lv_aload_n hx hb dX0_loadOn_0 rfl (lv_at hl 2 rfl) ?_
  refine lv_iconst (v := nI 0) hx hb dX0_loadOn_1 (by decide) ?_
  refine lv_aload_n hx hb dX0_loadOn_2 rfl (lv_at hl 0 rfl) ?_
  refine lv_iload_n hx hb dX0_loadOn_3 rfl (lv_at hl 1 rfl) ?_
  have hpm_3323 : (([(o, .inl (G.2 5, 1, .inr (.inl of)))] ++ (W ++ [])) : va_W).Perm ((W ++ []) ++ [(o, .inl (G.2 5, 1, .inr (.inl of)))]) := segs_perm [[(o, .inl (G.2 5, 1, .inr (.inl of)))], W] [1] [0] rfl
  have hF := hF_ofP (wc := (W ++ [])) hD hS hA hpm_3323
  refine go_cxP hS hP hD hpm_3323 hF
      (vx_runV (As := [.int v]) (rest := [.int (nI 0), .ref o]) cf (dX1_loadOn l G d S W v (show DyW G d S W from by first | assumption | omega) hfl H.size) (cwV 1 hts (lw_V q1267 q1268 q1269 q47 q1270) rfl rfl rfl (by decide +kernel) ⟨Nat.le_of_ble_eq_true rfl, Nat.le_of_ble_eq_true rfl⟩) (preV_of hKB hE hS hF (DyW.recv hK h (seg_at [[(o, .inl (G.2 5, 1, .inr (.inl of)))], W] 1 rfl hP)) (P_left (P_perm hpm_3323 hP)) ((D_left (D_perm hpm_3323 hD)).weaken (fun _ _ _ _ => trivial)) trivial) rfl rfl hl.1 rfl (lv_room (Nat.le_of_ble_eq_true rfl)) dX0_loadOn_4 ⟨show 0 + 8300 ≤ 8300 from by first | decide | omega, show 0 + 17000 ≤ 17000 from by first | decide | omega⟩)
      (fun u_ H locs ce q9 hq hph (hP : va_P G.1 CL ([(o, .inl (G.2 5, 1, .inr (.inl of)))] ++ (u_.2 ++ [])) H) (hD : va_D A ([(o, .inl (G.2 5, 1, .inr (.inl of)))] ++ (u_.2 ++ []))) hS hfz hfk hce hcv hcl => ?_) (fun u_ H locs hq hph (hP : va_P G.1 CL ([(o, .inl (G.2 5, 1, .inr (.inl of)))] ++ (u_.2 ++ [])) H) (hD : va_D A ([(o, .inl (G.2 5, 1, .inr (.inl of)))] ++ (u_.2 ++ []))) hS hfz hfk => ?_)
  · obtain ⟨kx_3326, W2_3327⟩ := u_
    obtain ⟨hq_3328, hq_3329, hq_3330⟩ : (q_loadOn (dC S) v).1 = kx_3326 ∧ DyW G d S W2_3327 ∧ 1 ≤ kx_3326 ∧ kx_3326 ≤ 1 := hq
    have hpm_3331 : ([(o, .inl (G.2 5, 1, .inr (.inl of)))] ++ (W2_3327 ++ []) : va_W).Perm ([(o, .inl (G.2 5, 1, .inr (.inl of)))] ++ (W2_3327 ++ [])) := segs_perm2 [[(o, .inl (G.2 5, 1, .inr (.inl of)))]] [W2_3327] [0, 1] rfl
    have hP : va_P G.1 CL ([(o, .inl (G.2 5, 1, .inr (.inl of)))] ++ (W2_3327 ++ [])) H := P_perm hpm_3331 hP
    have hD : va_D A ([(o, .inl (G.2 5, 1, .inr (.inl of)))] ++ (W2_3327 ++ [])) := D_perm hpm_3331 hD
    obtain rfl : kx_3326 = 1 := by omega
    have hcl9 : s.vm.findClass eA = some ce.cls := hcl
    refine vx_catch (name := eA) (E := eA) hown [] (⟨0, 9, 12, 13⟩ : ExceptionTableEntry) [] (by rw [htab]; rfl) (fun z hz => absurd hz List.not_mem_nil) (by decide) (by decide) (hts _ q680) (va_Nw.use rfl (hKB.nest q698 rfl)) hce hcv hcl9 ?_
    refine W.eq (g2 := F0 m 12 ls [.ref q9]) rfl ?_
    refine lv_astore_n (lv' := [(3, .ref q9), (0, .ref d), (1, .int v), (2, .ref o)]) hx hb dX0_loadOn_12 rfl hl (by decide) rfl (fun ls hl => ?_)
    refine lv_iconst (v := nI 1) hx hb dX0_loadOn_13 (by decide) ?_
    refine vx_ret ?_
    have hpm_3332 : (([(o, .inl (G.2 5, 1, .inr (.inl of)))] ++ (W2_3327 ++ [])) : va_W).Perm (([(o, .inl (G.2 5, 1, .inr (.inl of)))] ++ (W2_3327 ++ [])) ++ []) := segs_perm [[(o, .inl (G.2 5, 1, .inr (.inl of)))], W2_3327] [0, 1] [] rfl
    have hP9 : va_P G.1 CL ([(o, .inl (G.2 5, 1, .inr (.inl of)))] ++ (W2_3327 ++ [])) H := P_left (P_perm hpm_3332 hP)
    have hD9 : va_D A ([(o, .inl (G.2 5, 1, .inr (.inl of)))] ++ (W2_3327 ++ [])) := D_left (D_perm hpm_3332 hD)
    exact end_i hx hb hr hlk (rfl) (qc_of (of, W2_3327) (v := some (.int (nI 1))) (by rw [hq_3328]) (⟨fun z9 => absurd (hq_3328.symm.trans z9) (by decide), by rw [hq_3328]; decide, hq_3329⟩) hP9 hD9 (trivial) hS) hS dX0_loadOn_14 (show 0 + 8300 ≤ 8300 from by first | exact Nat.le_refl _ | decide | omega) (show 0 + 17000 ≤ 17000 from by first | exact Nat.le_refl _ | decide | omega)
  · obtain ⟨rr_3324, W2_3325⟩ := u_
    obtain ⟨hq_3333, hq_3334⟩ : q_loadOn (dC S) v = (0, rr_3324) ∧ DyW G d S W2_3325 := hq
    have hpm_3335 : ([(o, .inl (G.2 5, 1, .inr (.inl of)))] ++ (W2_3325 ++ []) : va_W).Perm ([(o, .inl (G.2 5, 1, .inr (.inl of)))] ++ (W2_3325 ++ [])) := segs_perm2 [[(o, .inl (G.2 5, 1, .inr (.inl of)))]] [W2_3325] [0, 1] rfl
    have hP : va_P G.1 CL ([(o, .inl (G.2 5, 1, .inr (.inl of)))] ++ (W2_3325 ++ [])) H := P_perm hpm_3335 hP
    have hD : va_D A ([(o, .inl (G.2 5, 1, .inr (.inl of)))] ++ (W2_3325 ++ [])) := D_perm hpm_3335 hD
    refine W.eq (g2 := F0 m 7 ls [.int rr_3324, .int (nI 0), .ref o]) rfl ?_
    refine lv_i2l (v := (rr_3324).toInt64) hx hb dX0_loadOn_7 rfl ?_
    refine r_last hx hb hK hP hD hS 0 5 rfl rfl (i := 0) (by omega) (by omega) dX0_loadOn_8 (fun H locs (hP : va_P G.1 CL ([(o, .inl (G.2 5, 1, .inr (.inl (vp_updL of 0 ((rr_3324).toInt64)))))] ++ (W2_3325 ++ [])) H) (hD : va_D A ([(o, .inl (G.2 5, 1, .inr (.inl (vp_updL of 0 ((rr_3324).toInt64)))))] ++ (W2_3325 ++ []))) hS => ?_)
    refine lv_goto (tgt := 15) hx hb dX0_loadOn_9 (by decide) ?_
    refine lv_iconst (v := nI 0) hx hb dX0_loadOn_15 (by decide) ?_
    refine vx_ret ?_
    have hpm_3336 : (([(o, .inl (G.2 5, 1, .inr (.inl (vp_updL of 0 ((rr_3324).toInt64)))))] ++ (W2_3325 ++ [])) : va_W).Perm (([(o, .inl (G.2 5, 1, .inr (.inl (vp_updL of 0 ((rr_3324).toInt64)))))] ++ (W2_3325 ++ [])) ++ []) := segs_perm [[(o, .inl (G.2 5, 1, .inr (.inl (vp_updL of 0 ((rr_3324).toInt64)))))], W2_3325] [0, 1] [] rfl
    have hP9 : va_P G.1 CL ([(o, .inl (G.2 5, 1, .inr (.inl (vp_updL of 0 ((rr_3324).toInt64)))))] ++ (W2_3325 ++ [])) H := P_left (P_perm hpm_3336 hP)
    have hD9 : va_D A ([(o, .inl (G.2 5, 1, .inr (.inl (vp_updL of 0 ((rr_3324).toInt64)))))] ++ (W2_3325 ++ [])) := D_left (D_perm hpm_3336 hD)
    exact end_i hx hb hr hlk (rfl) (qc_of (vp_updL of 0 ((rr_3324).toInt64), W2_3325) (v := some (.int (nI 0))) (by rw [hq_3333]) (⟨fun _ => by rw [hq_3333]; exact pk_uLs, by rw [hq_3333]; exact (by decide : (0 : Nat) < 10), hq_3334⟩) hP9 hD9 (trivial) hS) hS dX0_loadOn_16 (show 0 + 8300 ≤ 8300 from by first | exact Nat.le_refl _ | decide | omega) (show 0 + 17000 ≤ 17000 from by first | exact Nat.le_refl _ | decide | omega)

set_option maxHeartbeats 4000000 in
theorem wX0_fitnessOn (l : Launch) (G : Gt) (d : Nat) (S : DS) (W : va_W) (o : Nat) (of : Nat → Int64) (v : Int32) (h : DyW G d S W) (hfl : l.stackTraces = false) : CTW l G yX0_fitnessOn cX0_fitnessOn 4 (some .int) [(0, 9, 12, 13)] ({ frames := 13, cells := 8300, slots := 17000, locals := 276 } : Room) [.ref d, .int v, .ref o] ([(o, .inl (G.2 5, 1, .inr (.inl of)))] ++ (W ++ [])) RH0 (S := (Nat → Int64) × va_W) (fun (u_ : (Nat → Int64) × va_W) => some (.int (nI ((q_fit (dC S) v).1)))) (fun (u_ : (Nat → Int64) × va_W) => ((q_fit (dC S) v).1 = 0 → u_.1 0 = ((q_fit (dC S) v).2).toInt64) ∧ (q_fit (dC S) v).1 < 10 ∧ DyW G d S u_.2) (fun (u_ : (Nat → Int64) × va_W) => ([(o, .inl (G.2 5, 1, .inr (.inl u_.1)))] ++ (u_.2 ++ []))) (fun (u_ : (Nat → Int64) × va_W) (H : Heap) => True) := by
  refine CTW.of (by decide) (Nat.le_of_ble_eq_true rfl) ?_
  intro p e s m below meth c ls A H locs h9 hH0 hP hS hNc htab
  obtain ⟨cf, hr, hlk, hnm, hKB, hE, -, hD, -, hA, hAw, hRH, hl⟩ := h9
  have hx := cf.1
  have hb := cf.2.1
  have hml := cf.2.2.1
  have hown : s.vm.findClass RX0 = some m.cls := cf.2.2.2.1
  have hts := cf.2.2.2.2
  have hK := hKB.1
  have hl : lv_has ls 4 [(0, .ref d), (1, .int v), (2, .ref o)] := hl
  refine lv_aload_n hx hb dX0_fitnessOn_0 rfl (lv_at hl 2 rfl) ?_
  refine lv_iconst (v := nI 0) hx hb dX0_fitnessOn_1 (by decide) ?_
  refine lv_aload_n hx hb dX0_fitnessOn_2 rfl (lv_at hl 0 rfl) ?_
  refine lv_iload_n hx hb dX0_fitnessOn_3 rfl (lv_at hl 1 rfl) ?_
  have hpm_3337 : (([(o, .inl (G.2 5, 1, .inr (.inl of)))] ++ (W ++ [])) : va_W).Perm ((W ++ []) ++ [(o, .inl (G.2 5, 1, .inr (.inl of)))]) := segs_perm [[(o, .inl (G.2 5, 1, .inr (.inl of)))], W] [1] [0] rfl
  have hF := hF_ofP (wc := (W ++ [])) hD hS hA hpm_3337
  refine go_cxP hS hP hD hpm_3337 hF
      (vx_runV (As := [.int v]) (rest := [.int (nI 0), .ref o]) cf (dX1_fitnessOn l G d S W v (show DyW G d S W from by first | assumption | omega) hfl H.size) (cwV 1 hts (lw_V q1302 q1303 q1304 q47 q1305) rfl rfl rfl (by decide +kernel) ⟨Nat.le_of_ble_eq_true rfl, Nat.le_of_ble_eq_true rfl⟩) (preV_of hKB hE hS hF (DyW.recv hK h (seg_at [[(o, .inl (G.2 5, 1, .inr (.inl of)))], W] 1 rfl hP)) (P_left (P_perm hpm_3337 hP)) ((D_left (D_perm hpm_3337 hD)).weaken (fun _ _ _ _ => trivial)) trivial) rfl rfl hl.1 rfl (lv_room (Nat.le_of_ble_eq_true rfl)) dX0_fitnessOn_4 ⟨show 0 + 8300 ≤ 8300 from by first | decide | omega, show 0 + 17000 ≤ 17000 from by first | decide | omega⟩)
      (fun u_ H locs ce q9 hq hph (hP : va_P G.1 CL ([(o, .inl (G.2 5, 1, .inr (.inl of)))] ++ (u_.2 ++ [])) H) (hD : va_D A ([(o, .inl (G.2 5, 1, .inr (.inl of)))] ++ (u_.2 ++ []))) hS hfz hfk hce hcv hcl => ?_) (fun u_ H locs hq hph (hP : va_P G.1 CL ([(o, .inl (G.2 5, 1, .inr (.inl of)))] ++ (u_.2 ++ [])) H) (hD : va_D A ([(o, .inl (G.2 5, 1, .inr (.inl of)))] ++ (u_.2 ++ []))) hS hfz hfk => ?_)
  · obtain ⟨kx_3340, W2_3341⟩ := u_
    obtain ⟨hq_3342, hq_3343, hq_3344⟩ : (q_fit (dC S) v).1 = kx_3340 ∧ DyW G d S W2_3341 ∧ 1 ≤ kx_3340 ∧ kx_3340 ≤ 1 := hq
    have hpm_3345 : ([(o, .inl (G.2 5, 1, .inr (.inl of)))] ++ (W2_3341 ++ []) : va_W).Perm ([(o, .inl (G.2 5, 1, .inr (.inl of)))] ++ (W2_3341 ++ [])) := segs_perm2 [[(o, .inl (G.2 5, 1, .inr (.inl of)))]] [W2_3341] [0, 1] rfl
    have hP : va_P G.1 CL ([(o, .inl (G.2 5, 1, .inr (.inl of)))] ++ (W2_3341 ++ [])) H := P_perm hpm_3345 hP
    have hD : va_D A ([(o, .inl (G.2 5, 1, .inr (.inl of)))] ++ (W2_3341 ++ [])) := D_perm hpm_3345 hD
    obtain rfl : kx_3340 = 1 := by omega
    have hcl9 : s.vm.findClass eA = some ce.cls := hcl
    refine vx_catch (name := eA) (E := eA) hown [] (⟨0, 9, 12, 13⟩ : ExceptionTableEntry) [] (by rw [htab]; rfl) (fun z hz => absurd hz List.not_mem_nil) (by decide) (by decide) (hts _ q680) (va_Nw.use rfl (hKB.nest q698 rfl)) hce hcv hcl9 ?_
    refine W.eq (g2 := F0 m 12 ls [.ref q9]) rfl ?_
    refine lv_astore_n (lv' := [(3, .ref q9), (0, .ref d), (1, .int v), (2, .ref o)]) hx hb dX0_fitnessOn_12 rfl hl (by decide) rfl (fun ls hl => ?_)
    refine lv_iconst (v := nI 1) hx hb dX0_fitnessOn_13 (by decide) ?_
    refine vx_ret ?_
    have hpm_3346 : (([(o, .inl (G.2 5, 1, .inr (.inl of)))] ++ (W2_3341 ++ [])) : va_W).Perm (([(o, .inl (G.2 5, 1, .inr (.inl of)))] ++ (W2_3341 ++ [])) ++ []) := segs_perm [[(o, .inl (G.2 5, 1, .inr (.inl of)))], W2_3341] [0, 1] [] rfl
    have hP9 : va_P G.1 CL ([(o, .inl (G.2 5, 1, .inr (.inl of)))] ++ (W2_3341 ++ [])) H := P_left (P_perm hpm_3346 hP)
    have hD9 : va_D A ([(o, .inl (G.2 5, 1, .inr (.inl of)))] ++ (W2_3341 ++ [])) := D_left (D_perm hpm_3346 hD)
    exact end_i hx hb hr hlk (rfl) (qc_of (of, W2_3341) (v := some (.int (nI 1))) (by rw [hq_3342]) (⟨fun z9 => absurd (hq_3342.symm.trans z9) (by decide), by rw [hq_3342]; decide, hq_3343⟩) hP9 hD9 (trivial) hS) hS dX0_fitnessOn_14 (show 0 + 8300 ≤ 8300 from by first | exact Nat.le_refl _ | decide | omega) (show 0 + 17000 ≤ 17000 from by first | exact Nat.le_refl _ | decide | omega)
  · obtain ⟨rr_3338, W2_3339⟩ := u_
    obtain ⟨hq_3347, hq_3348⟩ : q_fit (dC S) v = (0, rr_3338) ∧ DyW G d S W2_3339 := hq
    have hpm_3349 : ([(o, .inl (G.2 5, 1, .inr (.inl of)))] ++ (W2_3339 ++ []) : va_W).Perm ([(o, .inl (G.2 5, 1, .inr (.inl of)))] ++ (W2_3339 ++ [])) := segs_perm2 [[(o, .inl (G.2 5, 1, .inr (.inl of)))]] [W2_3339] [0, 1] rfl
    have hP : va_P G.1 CL ([(o, .inl (G.2 5, 1, .inr (.inl of)))] ++ (W2_3339 ++ [])) H := P_perm hpm_3349 hP
    have hD : va_D A ([(o, .inl (G.2 5, 1, .inr (.inl of)))] ++ (W2_3339 ++ [])) := D_perm hpm_3349 hD
    refine W.eq (g2 := F0 m 7 ls [.int rr_3338, .int (nI 0), .ref o]) rfl ?_
    refine lv_i2l (v := (rr_3338).toInt64) hx hb dX0_fitnessOn_7 rfl ?_
    refine r_last hx hb hK hP hD hS 0 5 rfl rfl (i := 0) (by omega) (by omega) dX0_fitnessOn_8 (fun H locs (hP : va_P G.1 CL ([(o, .inl (G.2 5, 1, .inr (.inl (vp_updL of 0 ((rr_3338).toInt64)))))] ++ (W2_3339 ++ [])) H) (hD : va_D A ([(o, .inl (G.2 5, 1, .inr (.inl (vp_updL of 0 ((rr_3338).toInt64)))))] ++ (W2_3339 ++ []))) hS => ?_)
    refine lv_goto (tgt := 15) hx hb dX0_fitnessOn_9 (by decide) ?_
    refine lv_iconst (v := nI 0) hx hb dX0_fitnessOn_15 (by decide) ?_
    refine vx_ret ?_
    have hpm_3350 : (([(o, .inl (G.2 5, 1, .inr (.inl (vp_updL of 0 ((rr_3338).toInt64)))))] ++ (W2_3339 ++ [])) : va_W).Perm (([(o, .inl (G.2 5, 1, .inr (.inl (vp_updL of 0 ((rr_3338).toInt64)))))] ++ (W2_3339 ++ [])) ++ []) := segs_perm [[(o, .inl (G.2 5, 1, .inr (.inl (vp_updL of 0 ((rr_3338).toInt64)))))], W2_3339] [0, 1] [] rfl
    have hP9 : va_P G.1 CL ([(o, .inl (G.2 5, 1, .inr (.inl (vp_updL of 0 ((rr_3338).toInt64)))))] ++ (W2_3339 ++ [])) H := P_left (P_perm hpm_3350 hP)
    have hD9 : va_D A ([(o, .inl (G.2 5, 1, .inr (.inl (vp_updL of 0 ((rr_3338).toInt64)))))] ++ (W2_3339 ++ [])) := D_left (D_perm hpm_3350 hD)
    exact end_i hx hb hr hlk (rfl) (qc_of (vp_updL of 0 ((rr_3338).toInt64), W2_3339) (v := some (.int (nI 0))) (by rw [hq_3347]) (⟨fun _ => by rw [hq_3347]; exact pk_uLs, by rw [hq_3347]; exact (by decide : (0 : Nat) < 10), hq_3348⟩) hP9 hD9 (trivial) hS) hS dX0_fitnessOn_16 (show 0 + 8300 ≤ 8300 from by first | exact Nat.le_refl _ | decide | omega) (show 0 + 17000 ≤ 17000 from by first | exact Nat.le_refl _ | decide | omega)

set_option maxHeartbeats 4000000 in
theorem wX0_fatigueOn (l : Launch) (G : Gt) (d : Nat) (S : DS) (W : va_W) (o : Nat) (of : Nat → Int64) (v : Int32) (h : DyW G d S W) (hfl : l.stackTraces = false) : CTW l G yX0_fatigueOn cX0_fatigueOn 4 (some .int) [(0, 9, 12, 13)] ({ frames := 13, cells := 8300, slots := 17000, locals := 276 } : Room) [.ref d, .int v, .ref o] ([(o, .inl (G.2 5, 1, .inr (.inl of)))] ++ (W ++ [])) RH0 (S := (Nat → Int64) × va_W) (fun (u_ : (Nat → Int64) × va_W) => some (.int (nI ((q_fat (dC S) v).1)))) (fun (u_ : (Nat → Int64) × va_W) => ((q_fat (dC S) v).1 = 0 → u_.1 0 = ((q_fat (dC S) v).2).toInt64) ∧ (q_fat (dC S) v).1 < 10 ∧ DyW G d S u_.2) (fun (u_ : (Nat → Int64) × va_W) => ([(o, .inl (G.2 5, 1, .inr (.inl u_.1)))] ++ (u_.2 ++ []))) (fun (u_ : (Nat → Int64) × va_W) (H : Heap) => True) := by
  refine CTW.of (by decide) (Nat.le_of_ble_eq_true rfl) ?_
  intro p e s m below meth c ls A H locs h9 hH0 hP hS hNc htab
  obtain ⟨cf, hr, hlk, hnm, hKB, hE, -, hD, -, hA, hAw, hRH, hl⟩ := h9
  have hx := cf.1
  have hb := cf.2.1
  have hml := cf.2.2.1
  have hown : s.vm.findClass RX0 = some m.cls := cf.2.2.2.1
  have hts := cf.2.2.2.2
  have hK := hKB.1
  have hl : lv_has ls 4 [(0, .ref d), (1, .int v), (2, .ref o)] := hl
  refine lv_aload_n hx hb dX0_fatigueOn_0 rfl (lv_at hl 2 rfl) ?_
  refine lv_iconst (v := nI 0) hx hb dX0_fatigueOn_1 (by decide) ?_
  refine lv_aload_n hx hb dX0_fatigueOn_2 rfl (lv_at hl 0 rfl) ?_
  refine lv_iload_n hx hb dX0_fatigueOn_3 rfl (lv_at hl 1 rfl) ?_
  have hpm_3351 : (([(o, .inl (G.2 5, 1, .inr (.inl of)))] ++ (W ++ [])) : va_W).Perm ((W ++ []) ++ [(o, .inl (G.2 5, 1, .inr (.inl of)))]) := segs_perm [[(o, .inl (G.2 5, 1, .inr (.inl of)))], W] [1] [0] rfl
  have hF := hF_ofP (wc := (W ++ [])) hD hS hA hpm_3351
  refine go_cxP hS hP hD hpm_3351 hF
      (vx_runV (As := [.int v]) (rest := [.int (nI 0), .ref o]) cf (dX1_fatigueOn l G d S W v (show DyW G d S W from by first | assumption | omega) hfl H.size) (cwV 1 hts (lw_V q1321 q1322 q1323 q47 q1324) rfl rfl rfl (by decide +kernel) ⟨Nat.le_of_ble_eq_true rfl, Nat.le_of_ble_eq_true rfl⟩) (preV_of hKB hE hS hF (DyW.recv hK h (seg_at [[(o, .inl (G.2 5, 1, .inr (.inl of)))], W] 1 rfl hP)) (P_left (P_perm hpm_3351 hP)) ((D_left (D_perm hpm_3351 hD)).weaken (fun _ _ _ _ => trivial)) trivial) rfl rfl hl.1 rfl (lv_room (Nat.le_of_ble_eq_true rfl)) dX0_fatigueOn_4 ⟨show 0 + 8300 ≤ 8300 from by first | decide | omega, show 0 + 17000 ≤ 17000 from by first | decide | omega⟩)
      (fun u_ H locs ce q9 hq hph (hP : va_P G.1 CL ([(o, .inl (G.2 5, 1, .inr (.inl of)))] ++ (u_.2 ++ [])) H) (hD : va_D A ([(o, .inl (G.2 5, 1, .inr (.inl of)))] ++ (u_.2 ++ []))) hS hfz hfk hce hcv hcl => ?_) (fun u_ H locs hq hph (hP : va_P G.1 CL ([(o, .inl (G.2 5, 1, .inr (.inl of)))] ++ (u_.2 ++ [])) H) (hD : va_D A ([(o, .inl (G.2 5, 1, .inr (.inl of)))] ++ (u_.2 ++ []))) hS hfz hfk => ?_)
  · obtain ⟨kx_3354, W2_3355⟩ := u_
    obtain ⟨hq_3356, hq_3357, hq_3358⟩ : (q_fat (dC S) v).1 = kx_3354 ∧ DyW G d S W2_3355 ∧ 1 ≤ kx_3354 ∧ kx_3354 ≤ 1 := hq
    have hpm_3359 : ([(o, .inl (G.2 5, 1, .inr (.inl of)))] ++ (W2_3355 ++ []) : va_W).Perm ([(o, .inl (G.2 5, 1, .inr (.inl of)))] ++ (W2_3355 ++ [])) := segs_perm2 [[(o, .inl (G.2 5, 1, .inr (.inl of)))]] [W2_3355] [0, 1] rfl
    have hP : va_P G.1 CL ([(o, .inl (G.2 5, 1, .inr (.inl of)))] ++ (W2_3355 ++ [])) H := P_perm hpm_3359 hP
    have hD : va_D A ([(o, .inl (G.2 5, 1, .inr (.inl of)))] ++ (W2_3355 ++ [])) := D_perm hpm_3359 hD
    obtain rfl : kx_3354 = 1 := by omega
    have hcl9 : s.vm.findClass eA = some ce.cls := hcl
    refine vx_catch (name := eA) (E := eA) hown [] (⟨0, 9, 12, 13⟩ : ExceptionTableEntry) [] (by rw [htab]; rfl) (fun z hz => absurd hz List.not_mem_nil) (by decide) (by decide) (hts _ q680) (va_Nw.use rfl (hKB.nest q698 rfl)) hce hcv hcl9 ?_
    refine W.eq (g2 := F0 m 12 ls [.ref q9]) rfl ?_
    refine lv_astore_n (lv' := [(3, .ref q9), (0, .ref d), (1, .int v), (2, .ref o)]) hx hb dX0_fatigueOn_12 rfl hl (by decide) rfl (fun ls hl => ?_)
    refine lv_iconst (v := nI 1) hx hb dX0_fatigueOn_13 (by decide) ?_
    refine vx_ret ?_
    have hpm_3360 : (([(o, .inl (G.2 5, 1, .inr (.inl of)))] ++ (W2_3355 ++ [])) : va_W).Perm (([(o, .inl (G.2 5, 1, .inr (.inl of)))] ++ (W2_3355 ++ [])) ++ []) := segs_perm [[(o, .inl (G.2 5, 1, .inr (.inl of)))], W2_3355] [0, 1] [] rfl
    have hP9 : va_P G.1 CL ([(o, .inl (G.2 5, 1, .inr (.inl of)))] ++ (W2_3355 ++ [])) H := P_left (P_perm hpm_3360 hP)
    have hD9 : va_D A ([(o, .inl (G.2 5, 1, .inr (.inl of)))] ++ (W2_3355 ++ [])) := D_left (D_perm hpm_3360 hD)
    exact end_i hx hb hr hlk (rfl) (qc_of (of, W2_3355) (v := some (.int (nI 1))) (by rw [hq_3356]) (⟨fun z9 => absurd (hq_3356.symm.trans z9) (by decide), by rw [hq_3356]; decide, hq_3357⟩) hP9 hD9 (trivial) hS) hS dX0_fatigueOn_14 (show 0 + 8300 ≤ 8300 from by first | exact Nat.le_refl _ | decide | omega) (show 0 + 17000 ≤ 17000 from by first | exact Nat.le_refl _ | decide | omega)
  · obtain ⟨rr_3352, W2_3353⟩ := u_
    obtain ⟨hq_3361, hq_3362⟩ : q_fat (dC S) v = (0, rr_3352) ∧ DyW G d S W2_3353 := hq
    have hpm_3363 : ([(o, .inl (G.2 5, 1, .inr (.inl of)))] ++ (W2_3353 ++ []) : va_W).Perm ([(o, .inl (G.2 5, 1, .inr (.inl of)))] ++ (W2_3353 ++ [])) := segs_perm2 [[(o, .inl (G.2 5, 1, .inr (.inl of)))]] [W2_3353] [0, 1] rfl
    have hP : va_P G.1 CL ([(o, .inl (G.2 5, 1, .inr (.inl of)))] ++ (W2_3353 ++ [])) H := P_perm hpm_3363 hP
    have hD : va_D A ([(o, .inl (G.2 5, 1, .inr (.inl of)))] ++ (W2_3353 ++ [])) := D_perm hpm_3363 hD
    refine W.eq (g2 := F0 m 7 ls [.int rr_3352, .int (nI 0), .ref o]) rfl ?_
    refine lv_i2l (v := (rr_3352).toInt64) hx hb dX0_fatigueOn_7 rfl ?_
    refine r_last hx hb hK hP hD hS 0 5 rfl rfl (i := 0) (by omega) (by omega) dX0_fatigueOn_8 (fun H locs (hP : va_P G.1 CL ([(o, .inl (G.2 5, 1, .inr (.inl (vp_updL of 0 ((rr_3352).toInt64)))))] ++ (W2_3353 ++ [])) H) (hD : va_D A ([(o, .inl (G.2 5, 1, .inr (.inl (vp_updL of 0 ((rr_3352).toInt64)))))] ++ (W2_3353 ++ []))) hS => ?_)
    refine lv_goto (tgt := 15) hx hb dX0_fatigueOn_9 (by decide) ?_
    refine lv_iconst (v := nI 0) hx hb dX0_fatigueOn_15 (by decide) ?_
    refine vx_ret ?_
    have hpm_3364 : (([(o, .inl (G.2 5, 1, .inr (.inl (vp_updL of 0 ((rr_3352).toInt64)))))] ++ (W2_3353 ++ [])) : va_W).Perm (([(o, .inl (G.2 5, 1, .inr (.inl (vp_updL of 0 ((rr_3352).toInt64)))))] ++ (W2_3353 ++ [])) ++ []) := segs_perm [[(o, .inl (G.2 5, 1, .inr (.inl (vp_updL of 0 ((rr_3352).toInt64)))))], W2_3353] [0, 1] [] rfl
    have hP9 : va_P G.1 CL ([(o, .inl (G.2 5, 1, .inr (.inl (vp_updL of 0 ((rr_3352).toInt64)))))] ++ (W2_3353 ++ [])) H := P_left (P_perm hpm_3364 hP)
    have hD9 : va_D A ([(o, .inl (G.2 5, 1, .inr (.inl (vp_updL of 0 ((rr_3352).toInt64)))))] ++ (W2_3353 ++ [])) := D_left (D_perm hpm_3364 hD)
    exact end_i hx hb hr hlk (rfl) (qc_of (vp_updL of 0 ((rr_3352).toInt64), W2_3353) (v := some (.int (nI 0))) (by rw [hq_3361]) (⟨fun _ => by rw [hq_3361]; exact pk_uLs, by rw [hq_3361]; exact (by decide : (0 : Nat) < 10), hq_3362⟩) hP9 hD9 (trivial) hS) hS dX0_fatigueOn_16 (show 0 + 8300 ≤ 8300 from by first | exact Nat.le_refl _ | decide | omega) (show 0 + 17000 ≤ 17000 from by first | exact Nat.le_refl _ | decide | omega)

set_option maxHeartbeats 4000000 in
theorem wX0_formOn (l : Launch) (G : Gt) (d : Nat) (S : DS) (W : va_W) (o : Nat) (of : Nat → Int64) (v : Int32) (h : DyW G d S W) (hfl : l.stackTraces = false) : CTW l G yX0_formOn cX0_formOn 4 (some .int) [(0, 9, 12, 13)] ({ frames := 14, cells := 8300, slots := 17000, locals := 297 } : Room) [.ref d, .int v, .ref o] ([(o, .inl (G.2 5, 1, .inr (.inl of)))] ++ (W ++ [])) RH0 (S := (Nat → Int64) × va_W) (fun (u_ : (Nat → Int64) × va_W) => some (.int (nI ((q_form (dC S) v).1)))) (fun (u_ : (Nat → Int64) × va_W) => ((q_form (dC S) v).1 = 0 → u_.1 0 = ((q_form (dC S) v).2).toInt64) ∧ (q_form (dC S) v).1 < 10 ∧ DyW G d S u_.2) (fun (u_ : (Nat → Int64) × va_W) => ([(o, .inl (G.2 5, 1, .inr (.inl u_.1)))] ++ (u_.2 ++ []))) (fun (u_ : (Nat → Int64) × va_W) (H : Heap) => True) := by
  refine CTW.of (by decide) (Nat.le_of_ble_eq_true rfl) ?_
  intro p e s m below meth c ls A H locs h9 hH0 hP hS hNc htab
  obtain ⟨cf, hr, hlk, hnm, hKB, hE, -, hD, -, hA, hAw, hRH, hl⟩ := h9
  have hx := cf.1
  have hb := cf.2.1
  have hml := cf.2.2.1
  have hown : s.vm.findClass RX0 = some m.cls := cf.2.2.2.1
  have hts := cf.2.2.2.2
  have hK := hKB.1
  have hl : lv_has ls 4 [(0, .ref d), (1, .int v), (2, .ref o)] := hl
  refine lv_aload_n hx hb dX0_formOn_0 rfl (lv_at hl 2 rfl) ?_
  refine lv_iconst (v := nI 0) hx hb dX0_formOn_1 (by decide) ?_
  refine lv_aload_n hx hb dX0_formOn_2 rfl (lv_at hl 0 rfl) ?_
  refine lv_iload_n hx hb dX0_formOn_3 rfl (lv_at hl 1 rfl) ?_
  have hpm_3365 : (([(o, .inl (G.2 5, 1, .inr (.inl of)))] ++ (W ++ [])) : va_W).Perm ((W ++ []) ++ [(o, .inl (G.2 5, 1, .inr (.inl of)))]) := segs_perm [[(o, .inl (G.2 5, 1, .inr (.inl of)))], W] [1] [0] rfl
  have hF := hF_ofP (wc := (W ++ [])) hD hS hA hpm_3365
  refine go_cxP hS hP hD hpm_3365 hF
      (vx_runV (As := [.int v]) (rest := [.int (nI 0), .ref o]) cf (dX1_formOn l G d S W v (show DyW G d S W from by first | assumption | omega) hfl H.size) (cwV 1 hts (lw_V q1336 q1337 q1338 q47 q1339) rfl rfl rfl (by decide +kernel) ⟨Nat.le_of_ble_eq_true rfl, Nat.le_of_ble_eq_true rfl⟩) (preV_of hKB hE hS hF (DyW.recv hK h (seg_at [[(o, .inl (G.2 5, 1, .inr (.inl of)))], W] 1 rfl hP)) (P_left (P_perm hpm_3365 hP)) ((D_left (D_perm hpm_3365 hD)).weaken (fun _ _ _ _ => trivial)) trivial) rfl rfl hl.1 rfl (lv_room (Nat.le_of_ble_eq_true rfl)) dX0_formOn_4 ⟨show 0 + 8300 ≤ 8300 from by first | decide | omega, show 0 + 17000 ≤ 17000 from by first | decide | omega⟩)
      (fun u_ H locs ce q9 hq hph (hP : va_P G.1 CL ([(o, .inl (G.2 5, 1, .inr (.inl of)))] ++ (u_.2 ++ [])) H) (hD : va_D A ([(o, .inl (G.2 5, 1, .inr (.inl of)))] ++ (u_.2 ++ []))) hS hfz hfk hce hcv hcl => ?_) (fun u_ H locs hq hph (hP : va_P G.1 CL ([(o, .inl (G.2 5, 1, .inr (.inl of)))] ++ (u_.2 ++ [])) H) (hD : va_D A ([(o, .inl (G.2 5, 1, .inr (.inl of)))] ++ (u_.2 ++ []))) hS hfz hfk => ?_)
  · obtain ⟨kx_3368, W2_3369⟩ := u_
    obtain ⟨hq_3370, hq_3371, hq_3372⟩ : (q_form (dC S) v).1 = kx_3368 ∧ DyW G d S W2_3369 ∧ 1 ≤ kx_3368 ∧ kx_3368 ≤ 1 := hq
    have hpm_3373 : ([(o, .inl (G.2 5, 1, .inr (.inl of)))] ++ (W2_3369 ++ []) : va_W).Perm ([(o, .inl (G.2 5, 1, .inr (.inl of)))] ++ (W2_3369 ++ [])) := segs_perm2 [[(o, .inl (G.2 5, 1, .inr (.inl of)))]] [W2_3369] [0, 1] rfl
    have hP : va_P G.1 CL ([(o, .inl (G.2 5, 1, .inr (.inl of)))] ++ (W2_3369 ++ [])) H := P_perm hpm_3373 hP
    have hD : va_D A ([(o, .inl (G.2 5, 1, .inr (.inl of)))] ++ (W2_3369 ++ [])) := D_perm hpm_3373 hD
    obtain rfl : kx_3368 = 1 := by omega
    have hcl9 : s.vm.findClass eA = some ce.cls := hcl
    refine vx_catch (name := eA) (E := eA) hown [] (⟨0, 9, 12, 13⟩ : ExceptionTableEntry) [] (by rw [htab]; rfl) (fun z hz => absurd hz List.not_mem_nil) (by decide) (by decide) (hts _ q680) (va_Nw.use rfl (hKB.nest q698 rfl)) hce hcv hcl9 ?_
    refine W.eq (g2 := F0 m 12 ls [.ref q9]) rfl ?_
    refine lv_astore_n (lv' := [(3, .ref q9), (0, .ref d), (1, .int v), (2, .ref o)]) hx hb dX0_formOn_12 rfl hl (by decide) rfl (fun ls hl => ?_)
    refine lv_iconst (v := nI 1) hx hb dX0_formOn_13 (by decide) ?_
    refine vx_ret ?_
    have hpm_3374 : (([(o, .inl (G.2 5, 1, .inr (.inl of)))] ++ (W2_3369 ++ [])) : va_W).Perm (([(o, .inl (G.2 5, 1, .inr (.inl of)))] ++ (W2_3369 ++ [])) ++ []) := segs_perm [[(o, .inl (G.2 5, 1, .inr (.inl of)))], W2_3369] [0, 1] [] rfl
    have hP9 : va_P G.1 CL ([(o, .inl (G.2 5, 1, .inr (.inl of)))] ++ (W2_3369 ++ [])) H := P_left (P_perm hpm_3374 hP)
    have hD9 : va_D A ([(o, .inl (G.2 5, 1, .inr (.inl of)))] ++ (W2_3369 ++ [])) := D_left (D_perm hpm_3374 hD)
    exact end_i hx hb hr hlk (rfl) (qc_of (of, W2_3369) (v := some (.int (nI 1))) (by rw [hq_3370]) (⟨fun z9 => absurd (hq_3370.symm.trans z9) (by decide), by rw [hq_3370]; decide, hq_3371⟩) hP9 hD9 (trivial) hS) hS dX0_formOn_14 (show 0 + 8300 ≤ 8300 from by first | exact Nat.le_refl _ | decide | omega) (show 0 + 17000 ≤ 17000 from by first | exact Nat.le_refl _ | decide | omega)
  · obtain ⟨rr_3366, W2_3367⟩ := u_
    obtain ⟨hq_3375, hq_3376⟩ : q_form (dC S) v = (0, rr_3366) ∧ DyW G d S W2_3367 := hq
    have hpm_3377 : ([(o, .inl (G.2 5, 1, .inr (.inl of)))] ++ (W2_3367 ++ []) : va_W).Perm ([(o, .inl (G.2 5, 1, .inr (.inl of)))] ++ (W2_3367 ++ [])) := segs_perm2 [[(o, .inl (G.2 5, 1, .inr (.inl of)))]] [W2_3367] [0, 1] rfl
    have hP : va_P G.1 CL ([(o, .inl (G.2 5, 1, .inr (.inl of)))] ++ (W2_3367 ++ [])) H := P_perm hpm_3377 hP
    have hD : va_D A ([(o, .inl (G.2 5, 1, .inr (.inl of)))] ++ (W2_3367 ++ [])) := D_perm hpm_3377 hD
    refine W.eq (g2 := F0 m 7 ls [.int rr_3366, .int (nI 0), .ref o]) rfl ?_
    refine lv_i2l (v := (rr_3366).toInt64) hx hb dX0_formOn_7 rfl ?_
    refine r_last hx hb hK hP hD hS 0 5 rfl rfl (i := 0) (by omega) (by omega) dX0_formOn_8 (fun H locs (hP : va_P G.1 CL ([(o, .inl (G.2 5, 1, .inr (.inl (vp_updL of 0 ((rr_3366).toInt64)))))] ++ (W2_3367 ++ [])) H) (hD : va_D A ([(o, .inl (G.2 5, 1, .inr (.inl (vp_updL of 0 ((rr_3366).toInt64)))))] ++ (W2_3367 ++ []))) hS => ?_)
    refine lv_goto (tgt := 15) hx hb dX0_formOn_9 (by decide) ?_
    refine lv_iconst (v := nI 0) hx hb dX0_formOn_15 (by decide) ?_
    refine vx_ret ?_
    have hpm_3378 : (([(o, .inl (G.2 5, 1, .inr (.inl (vp_updL of 0 ((rr_3366).toInt64)))))] ++ (W2_3367 ++ [])) : va_W).Perm (([(o, .inl (G.2 5, 1, .inr (.inl (vp_updL of 0 ((rr_3366).toInt64)))))] ++ (W2_3367 ++ [])) ++ []) := segs_perm [[(o, .inl (G.2 5, 1, .inr (.inl (vp_updL of 0 ((rr_3366).toInt64)))))], W2_3367] [0, 1] [] rfl
    have hP9 : va_P G.1 CL ([(o, .inl (G.2 5, 1, .inr (.inl (vp_updL of 0 ((rr_3366).toInt64)))))] ++ (W2_3367 ++ [])) H := P_left (P_perm hpm_3378 hP)
    have hD9 : va_D A ([(o, .inl (G.2 5, 1, .inr (.inl (vp_updL of 0 ((rr_3366).toInt64)))))] ++ (W2_3367 ++ [])) := D_left (D_perm hpm_3378 hD)
    exact end_i hx hb hr hlk (rfl) (qc_of (vp_updL of 0 ((rr_3366).toInt64), W2_3367) (v := some (.int (nI 0))) (by rw [hq_3375]) (⟨fun _ => by rw [hq_3375]; exact pk_uLs, by rw [hq_3375]; exact (by decide : (0 : Nat) < 10), hq_3376⟩) hP9 hD9 (trivial) hS) hS dX0_formOn_16 (show 0 + 8300 ≤ 8300 from by first | exact Nat.le_refl _ | decide | omega) (show 0 + 17000 ≤ 17000 from by first | exact Nat.le_refl _ | decide | omega)

set_option maxHeartbeats 4000000 in
theorem wX0_fitnessFromStart (l : Launch) (G : Gt) (d : Nat) (S : DS) (W : va_W) (o : Nat) (of : Nat → Int64) (v : Int32) (h : DyW G d S W) (hfl : l.stackTraces = false) : CTW l G yX0_fitnessFromStart cX0_fitnessFromStart 4 (some .int) [(0, 9, 12, 13)] ({ frames := 12, cells := 8300, slots := 17000, locals := 256 } : Room) [.ref d, .int v, .ref o] ([(o, .inl (G.2 5, 1, .inr (.inl of)))] ++ (W ++ [])) RH0 (S := (Nat → Int64) × va_W) (fun (u_ : (Nat → Int64) × va_W) => some (.int (nI ((q_fit (dC S) v).1)))) (fun (u_ : (Nat → Int64) × va_W) => ((q_fit (dC S) v).1 = 0 → u_.1 0 = ((q_fit (dC S) v).2).toInt64) ∧ (q_fit (dC S) v).1 < 10 ∧ DyW G d S u_.2) (fun (u_ : (Nat → Int64) × va_W) => ([(o, .inl (G.2 5, 1, .inr (.inl u_.1)))] ++ (u_.2 ++ []))) (fun (u_ : (Nat → Int64) × va_W) (H : Heap) => True) := by
  refine CTW.of (by decide) (Nat.le_of_ble_eq_true rfl) ?_
  intro p e s m below meth c ls A H locs h9 hH0 hP hS hNc htab
  obtain ⟨cf, hr, hlk, hnm, hKB, hE, -, hD, -, hA, hAw, hRH, hl⟩ := h9
  have hx := cf.1
  have hb := cf.2.1
  have hml := cf.2.2.1
  have hown : s.vm.findClass RX0 = some m.cls := cf.2.2.2.1
  have hts := cf.2.2.2.2
  have hK := hKB.1
  have hl : lv_has ls 4 [(0, .ref d), (1, .int v), (2, .ref o)] := hl
  refine lv_aload_n hx hb dX0_fitnessFromStart_0 rfl (lv_at hl 2 rfl) ?_
  refine lv_iconst (v := nI 0) hx hb dX0_fitnessFromStart_1 (by decide) ?_
  refine lv_aload_n hx hb dX0_fitnessFromStart_2 rfl (lv_at hl 0 rfl) ?_
  refine lv_iload_n hx hb dX0_fitnessFromStart_3 rfl (lv_at hl 1 rfl) ?_
  have hpm_3379 : (([(o, .inl (G.2 5, 1, .inr (.inl of)))] ++ (W ++ [])) : va_W).Perm ((W ++ []) ++ [(o, .inl (G.2 5, 1, .inr (.inl of)))]) := segs_perm [[(o, .inl (G.2 5, 1, .inr (.inl of)))], W] [1] [0] rfl
  have hF := hF_ofP (wc := (W ++ [])) hD hS hA hpm_3379
  refine go_cxP hS hP hD hpm_3379 hF
      (vx_runV (As := [.int v]) (rest := [.int (nI 0), .ref o]) cf (dX1_fitnessFromStart l G d S W v (show DyW G d S W from by first | assumption | omega) hfl H.size) (cwV 1 hts (lw_V q1310 q1311 q1312 q47 q1313) rfl rfl rfl (by decide +kernel) ⟨Nat.le_of_ble_eq_true rfl, Nat.le_of_ble_eq_true rfl⟩) (preV_of hKB hE hS hF (DyW.recv hK h (seg_at [[(o, .inl (G.2 5, 1, .inr (.inl of)))], W] 1 rfl hP)) (P_left (P_perm hpm_3379 hP)) ((D_left (D_perm hpm_3379 hD)).weaken (fun _ _ _ _ => trivial)) trivial) rfl rfl hl.1 rfl (lv_room (Nat.le_of_ble_eq_true rfl)) dX0_fitnessFromStart_4 ⟨show 0 + 8300 ≤ 8300 from by first | decide | omega, show 0 + 17000 ≤ 17000 from by first | decide | omega⟩)
      (fun u_ H locs ce q9 hq hph (hP : va_P G.1 CL ([(o, .inl (G.2 5, 1, .inr (.inl of)))] ++ (u_.2 ++ [])) H) (hD : va_D A ([(o, .inl (G.2 5, 1, .inr (.inl of)))] ++ (u_.2 ++ []))) hS hfz hfk hce hcv hcl => ?_) (fun u_ H locs hq hph (hP : va_P G.1 CL ([(o, .inl (G.2 5, 1, .inr (.inl of)))] ++ (u_.2 ++ [])) H) (hD : va_D A ([(o, .inl (G.2 5, 1, .inr (.inl of)))] ++ (u_.2 ++ []))) hS hfz hfk => ?_)
  · obtain ⟨kx_3382, W2_3383⟩ := u_
    obtain ⟨hq_3384, hq_3385, hq_3386⟩ : (q_fit (dC S) v).1 = kx_3382 ∧ DyW G d S W2_3383 ∧ 1 ≤ kx_3382 ∧ kx_3382 ≤ 1 := hq
    have hpm_3387 : ([(o, .inl (G.2 5, 1, .inr (.inl of)))] ++ (W2_3383 ++ []) : va_W).Perm ([(o, .inl (G.2 5, 1, .inr (.inl of)))] ++ (W2_3383 ++ [])) := segs_perm2 [[(o, .inl (G.2 5, 1, .inr (.inl of)))]] [W2_3383] [0, 1] rfl
    have hP : va_P G.1 CL ([(o, .inl (G.2 5, 1, .inr (.inl of)))] ++ (W2_3383 ++ [])) H := P_perm hpm_3387 hP
    have hD : va_D A ([(o, .inl (G.2 5, 1, .inr (.inl of)))] ++ (W2_3383 ++ [])) := D_perm hpm_3387 hD
    obtain rfl : kx_3382 = 1 := by omega
    have hcl9 : s.vm.findClass eA = some ce.cls := hcl
    refine vx_catch (name := eA) (E := eA) hown [] (⟨0, 9, 12, 13⟩ : ExceptionTableEntry) [] (by rw [htab]; rfl) (fun z hz => absurd hz List.not_mem_nil) (by decide) (by decide) (hts _ q680) (va_Nw.use rfl (hKB.nest q698 rfl)) hce hcv hcl9 ?_
    refine W.eq (g2 := F0 m 12 ls [.ref q9]) rfl ?_
    refine lv_astore_n (lv' := [(3, .ref q9), (0, .ref d), (1, .int v), (2, .ref o)]) hx hb dX0_fitnessFromStart_12 rfl hl (by decide) rfl (fun ls hl => ?_)
    refine lv_iconst (v := nI 1) hx hb dX0_fitnessFromStart_13 (by decide) ?_
    refine vx_ret ?_
    have hpm_3388 : (([(o, .inl (G.2 5, 1, .inr (.inl of)))] ++ (W2_3383 ++ [])) : va_W).Perm (([(o, .inl (G.2 5, 1, .inr (.inl of)))] ++ (W2_3383 ++ [])) ++ []) := segs_perm [[(o, .inl (G.2 5, 1, .inr (.inl of)))], W2_3383] [0, 1] [] rfl
    have hP9 : va_P G.1 CL ([(o, .inl (G.2 5, 1, .inr (.inl of)))] ++ (W2_3383 ++ [])) H := P_left (P_perm hpm_3388 hP)
    have hD9 : va_D A ([(o, .inl (G.2 5, 1, .inr (.inl of)))] ++ (W2_3383 ++ [])) := D_left (D_perm hpm_3388 hD)
    exact end_i hx hb hr hlk (rfl) (qc_of (of, W2_3383) (v := some (.int (nI 1))) (by rw [hq_3384]) (⟨fun z9 => absurd (hq_3384.symm.trans z9) (by decide), by rw [hq_3384]; decide, hq_3385⟩) hP9 hD9 (trivial) hS) hS dX0_fitnessFromStart_14 (show 0 + 8300 ≤ 8300 from by first | exact Nat.le_refl _ | decide | omega) (show 0 + 17000 ≤ 17000 from by first | exact Nat.le_refl _ | decide | omega)
  · obtain ⟨rr_3380, W2_3381⟩ := u_
    obtain ⟨hq_3389, hq_3390⟩ : q_fit (dC S) v = (0, rr_3380) ∧ DyW G d S W2_3381 := hq
    have hpm_3391 : ([(o, .inl (G.2 5, 1, .inr (.inl of)))] ++ (W2_3381 ++ []) : va_W).Perm ([(o, .inl (G.2 5, 1, .inr (.inl of)))] ++ (W2_3381 ++ [])) := segs_perm2 [[(o, .inl (G.2 5, 1, .inr (.inl of)))]] [W2_3381] [0, 1] rfl
    have hP : va_P G.1 CL ([(o, .inl (G.2 5, 1, .inr (.inl of)))] ++ (W2_3381 ++ [])) H := P_perm hpm_3391 hP
    have hD : va_D A ([(o, .inl (G.2 5, 1, .inr (.inl of)))] ++ (W2_3381 ++ [])) := D_perm hpm_3391 hD
    refine W.eq (g2 := F0 m 7 ls [.int rr_3380, .int (nI 0), .ref o]) rfl ?_
    refine lv_i2l (v := (rr_3380).toInt64) hx hb dX0_fitnessFromStart_7 rfl ?_
    refine r_last hx hb hK hP hD hS 0 5 rfl rfl (i := 0) (by omega) (by omega) dX0_fitnessFromStart_8 (fun H locs (hP : va_P G.1 CL ([(o, .inl (G.2 5, 1, .inr (.inl (vp_updL of 0 ((rr_3380).toInt64)))))] ++ (W2_3381 ++ [])) H) (hD : va_D A ([(o, .inl (G.2 5, 1, .inr (.inl (vp_updL of 0 ((rr_3380).toInt64)))))] ++ (W2_3381 ++ []))) hS => ?_)
    refine lv_goto (tgt := 15) hx hb dX0_fitnessFromStart_9 (by decide) ?_
    refine lv_iconst (v := nI 0) hx hb dX0_fitnessFromStart_15 (by decide) ?_
    refine vx_ret ?_
    have hpm_3392 : (([(o, .inl (G.2 5, 1, .inr (.inl (vp_updL of 0 ((rr_3380).toInt64)))))] ++ (W2_3381 ++ [])) : va_W).Perm (([(o, .inl (G.2 5, 1, .inr (.inl (vp_updL of 0 ((rr_3380).toInt64)))))] ++ (W2_3381 ++ [])) ++ []) := segs_perm [[(o, .inl (G.2 5, 1, .inr (.inl (vp_updL of 0 ((rr_3380).toInt64)))))], W2_3381] [0, 1] [] rfl
    have hP9 : va_P G.1 CL ([(o, .inl (G.2 5, 1, .inr (.inl (vp_updL of 0 ((rr_3380).toInt64)))))] ++ (W2_3381 ++ [])) H := P_left (P_perm hpm_3392 hP)
    have hD9 : va_D A ([(o, .inl (G.2 5, 1, .inr (.inl (vp_updL of 0 ((rr_3380).toInt64)))))] ++ (W2_3381 ++ [])) := D_left (D_perm hpm_3392 hD)
    exact end_i hx hb hr hlk (rfl) (qc_of (vp_updL of 0 ((rr_3380).toInt64), W2_3381) (v := some (.int (nI 0))) (by rw [hq_3389]) (⟨fun _ => by rw [hq_3389]; exact pk_uLs, by rw [hq_3389]; exact (by decide : (0 : Nat) < 10), hq_3390⟩) hP9 hD9 (trivial) hS) hS dX0_fitnessFromStart_16 (show 0 + 8300 ≤ 8300 from by first | exact Nat.le_refl _ | decide | omega) (show 0 + 17000 ≤ 17000 from by first | exact Nat.le_refl _ | decide | omega)

set_option maxHeartbeats 4000000 in
theorem wX0_fatigueFromStart (l : Launch) (G : Gt) (d : Nat) (S : DS) (W : va_W) (o : Nat) (of : Nat → Int64) (v : Int32) (h : DyW G d S W) (hfl : l.stackTraces = false) : CTW l G yX0_fatigueFromStart cX0_fatigueFromStart 4 (some .int) [(0, 9, 12, 13)] ({ frames := 12, cells := 8300, slots := 17000, locals := 256 } : Room) [.ref d, .int v, .ref o] ([(o, .inl (G.2 5, 1, .inr (.inl of)))] ++ (W ++ [])) RH0 (S := (Nat → Int64) × va_W) (fun (u_ : (Nat → Int64) × va_W) => some (.int (nI ((q_fat (dC S) v).1)))) (fun (u_ : (Nat → Int64) × va_W) => ((q_fat (dC S) v).1 = 0 → u_.1 0 = ((q_fat (dC S) v).2).toInt64) ∧ (q_fat (dC S) v).1 < 10 ∧ DyW G d S u_.2) (fun (u_ : (Nat → Int64) × va_W) => ([(o, .inl (G.2 5, 1, .inr (.inl u_.1)))] ++ (u_.2 ++ []))) (fun (u_ : (Nat → Int64) × va_W) (H : Heap) => True) := by
  refine CTW.of (by decide) (Nat.le_of_ble_eq_true rfl) ?_
  intro p e s m below meth c ls A H locs h9 hH0 hP hS hNc htab
  obtain ⟨cf, hr, hlk, hnm, hKB, hE, -, hD, -, hA, hAw, hRH, hl⟩ := h9
  have hx := cf.1
  have hb := cf.2.1
  have hml := cf.2.2.1
  have hown : s.vm.findClass RX0 = some m.cls := cf.2.2.2.1
  have hts := cf.2.2.2.2
  have hK := hKB.1
  have hl : lv_has ls 4 [(0, .ref d), (1, .int v), (2, .ref o)] := hl
  refine lv_aload_n hx hb dX0_fatigueFromStart_0 rfl (lv_at hl 2 rfl) ?_
  refine lv_iconst (v := nI 0) hx hb dX0_fatigueFromStart_1 (by decide) ?_
  refine lv_aload_n hx hb dX0_fatigueFromStart_2 rfl (lv_at hl 0 rfl) ?_
  refine lv_iload_n hx hb dX0_fatigueFromStart_3 rfl (lv_at hl 1 rfl) ?_
  have hpm_3393 : (([(o, .inl (G.2 5, 1, .inr (.inl of)))] ++ (W ++ [])) : va_W).Perm ((W ++ []) ++ [(o, .inl (G.2 5, 1, .inr (.inl of)))]) := segs_perm [[(o, .inl (G.2 5, 1, .inr (.inl of)))], W] [1] [0] rfl
  have hF := hF_ofP (wc := (W ++ [])) hD hS hA hpm_3393
  refine go_cxP hS hP hD hpm_3393 hF
      (vx_runV (As := [.int v]) (rest := [.int (nI 0), .ref o]) cf (dX1_fatigueFromStart l G d S W v (show DyW G d S W from by first | assumption | omega) hfl H.size) (cwV 1 hts (lw_V q1329 q1330 q1331 q47 q1332) rfl rfl rfl (by decide +kernel) ⟨Nat.le_of_ble_eq_true rfl, Nat.le_of_ble_eq_true rfl⟩) (preV_of hKB hE hS hF (DyW.recv hK h (seg_at [[(o, .inl (G.2 5, 1, .inr (.inl of)))], W] 1 rfl hP)) (P_left (P_perm hpm_3393 hP)) ((D_left (D_perm hpm_3393 hD)).weaken (fun _ _ _ _ => trivial)) trivial) rfl rfl hl.1 rfl (lv_room (Nat.le_of_ble_eq_true rfl)) dX0_fatigueFromStart_4 ⟨show 0 + 8300 ≤ 8300 from by first | decide | omega, show 0 + 17000 ≤ 17000 from by first | decide | omega⟩)
      (fun u_ H locs ce q9 hq hph (hP : va_P G.1 CL ([(o, .inl (G.2 5, 1, .inr (.inl of)))] ++ (u_.2 ++ [])) H) (hD : va_D A ([(o, .inl (G.2 5, 1, .inr (.inl of)))] ++ (u_.2 ++ []))) hS hfz hfk hce hcv hcl => ?_) (fun u_ H locs hq hph (hP : va_P G.1 CL ([(o, .inl (G.2 5, 1, .inr (.inl of)))] ++ (u_.2 ++ [])) H) (hD : va_D A ([(o, .inl (G.2 5, 1, .inr (.inl of)))] ++ (u_.2 ++ []))) hS hfz hfk => ?_)
  · obtain ⟨kx_3396, W2_3397⟩ := u_
    obtain ⟨hq_3398, hq_3399, hq_3400⟩ : (q_fat (dC S) v).1 = kx_3396 ∧ DyW G d S W2_3397 ∧ 1 ≤ kx_3396 ∧ kx_3396 ≤ 1 := hq
    have hpm_3401 : ([(o, .inl (G.2 5, 1, .inr (.inl of)))] ++ (W2_3397 ++ []) : va_W).Perm ([(o, .inl (G.2 5, 1, .inr (.inl of)))] ++ (W2_3397 ++ [])) := segs_perm2 [[(o, .inl (G.2 5, 1, .inr (.inl of)))]] [W2_3397] [0, 1] rfl
    have hP : va_P G.1 CL ([(o, .inl (G.2 5, 1, .inr (.inl of)))] ++ (W2_3397 ++ [])) H := P_perm hpm_3401 hP
    have hD : va_D A ([(o, .inl (G.2 5, 1, .inr (.inl of)))] ++ (W2_3397 ++ [])) := D_perm hpm_3401 hD
    obtain rfl : kx_3396 = 1 := by omega
    have hcl9 : s.vm.findClass eA = some ce.cls := hcl
    refine vx_catch (name := eA) (E := eA) hown [] (⟨0, 9, 12, 13⟩ : ExceptionTableEntry) [] (by rw [htab]; rfl) (fun z hz => absurd hz List.not_mem_nil) (by decide) (by decide) (hts _ q680) (va_Nw.use rfl (hKB.nest q698 rfl)) hce hcv hcl9 ?_
    refine W.eq (g2 := F0 m 12 ls [.ref q9]) rfl ?_
    refine lv_astore_n (lv' := [(3, .ref q9), (0, .ref d), (1, .int v), (2, .ref o)]) hx hb dX0_fatigueFromStart_12 rfl hl (by decide) rfl (fun ls hl => ?_)
    refine lv_iconst (v := nI 1) hx hb dX0_fatigueFromStart_13 (by decide) ?_
    refine vx_ret ?_
    have hpm_3402 : (([(o, .inl (G.2 5, 1, .inr (.inl of)))] ++ (W2_3397 ++ [])) : va_W).Perm (([(o, .inl (G.2 5, 1, .inr (.inl of)))] ++ (W2_3397 ++ [])) ++ []) := segs_perm [[(o, .inl (G.2 5, 1, .inr (.inl of)))], W2_3397] [0, 1] [] rfl
    have hP9 : va_P G.1 CL ([(o, .inl (G.2 5, 1, .inr (.inl of)))] ++ (W2_3397 ++ [])) H := P_left (P_perm hpm_3402 hP)
    have hD9 : va_D A ([(o, .inl (G.2 5, 1, .inr (.inl of)))] ++ (W2_3397 ++ [])) := D_left (D_perm hpm_3402 hD)
    exact end_i hx hb hr hlk (rfl) (qc_of (of, W2_3397) (v := some (.int (nI 1))) (by rw [hq_3398]) (⟨fun z9 => absurd (hq_3398.symm.trans z9) (by decide), by rw [hq_3398]; decide, hq_3399⟩) hP9 hD9 (trivial) hS) hS dX0_fatigueFromStart_14 (show 0 + 8300 ≤ 8300 from by first | exact Nat.le_refl _ | decide | omega) (show 0 + 17000 ≤ 17000 from by first | exact Nat.le_refl _ | decide | omega)
  · obtain ⟨rr_3394, W2_3395⟩ := u_
    obtain ⟨hq_3403, hq_3404⟩ : q_fat (dC S) v = (0, rr_3394) ∧ DyW G d S W2_3395 := hq
    have hpm_3405 : ([(o, .inl (G.2 5, 1, .inr (.inl of)))] ++ (W2_3395 ++ []) : va_W).Perm ([(o, .inl (G.2 5, 1, .inr (.inl of)))] ++ (W2_3395 ++ [])) := segs_perm2 [[(o, .inl (G.2 5, 1, .inr (.inl of)))]] [W2_3395] [0, 1] rfl
    have hP : va_P G.1 CL ([(o, .inl (G.2 5, 1, .inr (.inl of)))] ++ (W2_3395 ++ [])) H := P_perm hpm_3405 hP
    have hD : va_D A ([(o, .inl (G.2 5, 1, .inr (.inl of)))] ++ (W2_3395 ++ [])) := D_perm hpm_3405 hD
    refine W.eq (g2 := F0 m 7 ls [.int rr_3394, .int (nI 0), .ref o]) rfl ?_
    refine lv_i2l (v := (rr_3394).toInt64) hx hb dX0_fatigueFromStart_7 rfl ?_
    refine r_last hx hb hK hP hD hS 0 5 rfl rfl (i := 0) (by omega) (by omega) dX0_fatigueFromStart_8 (fun H locs (hP : va_P G.1 CL ([(o, .inl (G.2 5, 1, .inr (.inl (vp_updL of 0 ((rr_3394).toInt64)))))] ++ (W2_3395 ++ [])) H) (hD : va_D A ([(o, .inl (G.2 5, 1, .inr (.inl (vp_updL of 0 ((rr_3394).toInt64)))))] ++ (W2_3395 ++ []))) hS => ?_)
    refine lv_goto (tgt := 15) hx hb dX0_fatigueFromStart_9 (by decide) ?_
    refine lv_iconst (v := nI 0) hx hb dX0_fatigueFromStart_15 (by decide) ?_
    refine vx_ret ?_
    have hpm_3406 : (([(o, .inl (G.2 5, 1, .inr (.inl (vp_updL of 0 ((rr_3394).toInt64)))))] ++ (W2_3395 ++ [])) : va_W).Perm (([(o, .inl (G.2 5, 1, .inr (.inl (vp_updL of 0 ((rr_3394).toInt64)))))] ++ (W2_3395 ++ [])) ++ []) := segs_perm [[(o, .inl (G.2 5, 1, .inr (.inl (vp_updL of 0 ((rr_3394).toInt64)))))], W2_3395] [0, 1] [] rfl
    have hP9 : va_P G.1 CL ([(o, .inl (G.2 5, 1, .inr (.inl (vp_updL of 0 ((rr_3394).toInt64)))))] ++ (W2_3395 ++ [])) H := P_left (P_perm hpm_3406 hP)
    have hD9 : va_D A ([(o, .inl (G.2 5, 1, .inr (.inl (vp_updL of 0 ((rr_3394).toInt64)))))] ++ (W2_3395 ++ [])) := D_left (D_perm hpm_3406 hD)
    exact end_i hx hb hr hlk (rfl) (qc_of (vp_updL of 0 ((rr_3394).toInt64), W2_3395) (v := some (.int (nI 0))) (by rw [hq_3403]) (⟨fun _ => by rw [hq_3403]; exact pk_uLs, by rw [hq_3403]; exact (by decide : (0 : Nat) < 10), hq_3404⟩) hP9 hD9 (trivial) hS) hS dX0_fatigueFromStart_16 (show 0 + 8300 ≤ 8300 from by first | exact Nat.le_refl _ | decide | omega) (show 0 + 17000 ≤ 17000 from by first | exact Nat.le_refl _ | decide | omega)

set_option maxHeartbeats 4000000 in
theorem wX0_targetAt (l : Launch) (G : Gt) (d : Nat) (S : DS) (W : va_W) (o : Nat) (of : Nat → Int64) (v : Int32) (h : DyW G d S W) (hfl : l.stackTraces = false) : CTW l G yX0_targetAt cX0_targetAt 4 (some .int) [(0, 9, 12, 63)] ({ frames := 8, cells := 2, slots := 8, locals := 123 } : Room) [.ref d, .int v, .ref o] ([(o, .inl (G.2 5, 1, .inr (.inl of)))] ++ (W ++ [])) RH0 (S := (Nat → Int64) × va_W) (fun (u_ : (Nat → Int64) × va_W) => some (.int (nI ((q_target (dC S) v).1)))) (fun (u_ : (Nat → Int64) × va_W) => ((q_target (dC S) v).1 = 0 → u_.1 0 = ((q_target (dC S) v).2).toInt64) ∧ (q_target (dC S) v).1 < 10 ∧ DyW G d S u_.2) (fun (u_ : (Nat → Int64) × va_W) => ([(o, .inl (G.2 5, 1, .inr (.inl u_.1)))] ++ (u_.2 ++ []))) (fun (u_ : (Nat → Int64) × va_W) (H : Heap) => True) := by
  refine CTW.of (by decide) (Nat.le_of_ble_eq_true rfl) ?_
  intro p e s m below meth c ls A H locs h9 hH0 hP hS hNc htab
  obtain ⟨cf, hr, hlk, hnm, hKB, hE, -, hD, -, hA, hAw, hRH, hl⟩ := h9
  have hx := cf.1
  have hb := cf.2.1
  have hml := cf.2.2.1
  have hown : s.vm.findClass RX0 = some m.cls := cf.2.2.2.1
  have hts := cf.2.2.2.2
  have hK := hKB.1
  have hl : lv_has ls 4 [(0, .ref d), (1, .int v), (2, .ref o)] := hl
  refine lv_aload_n hx hb dX0_targetAt_0 rfl (lv_at hl 2 rfl) ?_
  refine lv_iconst (v := nI 0) hx hb dX0_targetAt_1 (by decide) ?_
  refine lv_aload_n hx hb dX0_targetAt_2 rfl (lv_at hl 0 rfl) ?_
  refine lv_iload_n hx hb dX0_targetAt_3 rfl (lv_at hl 1 rfl) ?_
  have hpm_3407 : (([(o, .inl (G.2 5, 1, .inr (.inl of)))] ++ (W ++ [])) : va_W).Perm ((W ++ []) ++ [(o, .inl (G.2 5, 1, .inr (.inl of)))]) := segs_perm [[(o, .inl (G.2 5, 1, .inr (.inl of)))], W] [1] [0] rfl
  have hF := hF_ofP (wc := (W ++ [])) hD hS hA hpm_3407
  refine go_cxP hS hP hD hpm_3407 hF
      (vx_runV (As := [.int v]) (rest := [.int (nI 0), .ref o]) cf (dX1_targetAt l G d S W v (show DyW G d S W from by first | assumption | omega) hfl H.size) (cwV 1 hts (lw_V q1427 q1428 q1429 q47 q1430) rfl rfl rfl (by decide +kernel) ⟨Nat.le_of_ble_eq_true rfl, Nat.le_of_ble_eq_true rfl⟩) (preV_of hKB hE hS hF (DyW.recv hK h (seg_at [[(o, .inl (G.2 5, 1, .inr (.inl of)))], W] 1 rfl hP)) (P_left (P_perm hpm_3407 hP)) ((D_left (D_perm hpm_3407 hD)).weaken (fun _ _ _ _ => trivial)) trivial) rfl rfl hl.1 rfl (lv_room (Nat.le_of_ble_eq_true rfl)) dX0_targetAt_4 ⟨show 0 + 2 ≤ 2 from by first | decide | omega, show 0 + 8 ≤ 8 from by first | decide | omega⟩)
      (fun u_ H locs ce q9 hq hph (hP : va_P G.1 CL ([(o, .inl (G.2 5, 1, .inr (.inl of)))] ++ (u_.2 ++ [])) H) (hD : va_D A ([(o, .inl (G.2 5, 1, .inr (.inl of)))] ++ (u_.2 ++ []))) hS hfz hfk hce hcv hcl => ?_) (fun u_ H locs hq hph (hP : va_P G.1 CL ([(o, .inl (G.2 5, 1, .inr (.inl of)))] ++ (u_.2 ++ [])) H) (hD : va_D A ([(o, .inl (G.2 5, 1, .inr (.inl of)))] ++ (u_.2 ++ []))) hS hfz hfk => ?_)
  · obtain ⟨kx_3410, W2_3411⟩ := u_
    obtain ⟨hq_3412, hq_3413, hq_3414⟩ : (q_target (dC S) v).1 = kx_3410 ∧ DyW G d S W2_3411 ∧ 1 ≤ kx_3410 ∧ kx_3410 ≤ 1 := hq
    have hpm_3415 : ([(o, .inl (G.2 5, 1, .inr (.inl of)))] ++ (W2_3411 ++ []) : va_W).Perm ([(o, .inl (G.2 5, 1, .inr (.inl of)))] ++ (W2_3411 ++ [])) := segs_perm2 [[(o, .inl (G.2 5, 1, .inr (.inl of)))]] [W2_3411] [0, 1] rfl
    have hP : va_P G.1 CL ([(o, .inl (G.2 5, 1, .inr (.inl of)))] ++ (W2_3411 ++ [])) H := P_perm hpm_3415 hP
    have hD : va_D A ([(o, .inl (G.2 5, 1, .inr (.inl of)))] ++ (W2_3411 ++ [])) := D_perm hpm_3415 hD
    obtain rfl : kx_3410 = 1 := by omega
    have hcl9 : s.vm.findClass eI = some ce.cls := hcl
    refine vx_catch (name := eI) (E := eI) hown [] (⟨0, 9, 12, 63⟩ : ExceptionTableEntry) [] (by rw [htab]; rfl) (fun z hz => absurd hz List.not_mem_nil) (by decide) (by decide) (hts _ q1197) (va_Nw.use rfl (hKB.nest q785 rfl)) hce hcv hcl9 ?_
    refine W.eq (g2 := F0 m 12 ls [.ref q9]) rfl ?_
    refine lv_astore_n (lv' := [(3, .ref q9), (0, .ref d), (1, .int v), (2, .ref o)]) hx hb dX0_targetAt_12 rfl hl (by decide) rfl (fun ls hl => ?_)
    refine lv_iconst (v := nI 1) hx hb dX0_targetAt_13 (by decide) ?_
    refine vx_ret ?_
    have hpm_3416 : (([(o, .inl (G.2 5, 1, .inr (.inl of)))] ++ (W2_3411 ++ [])) : va_W).Perm (([(o, .inl (G.2 5, 1, .inr (.inl of)))] ++ (W2_3411 ++ [])) ++ []) := segs_perm [[(o, .inl (G.2 5, 1, .inr (.inl of)))], W2_3411] [0, 1] [] rfl
    have hP9 : va_P G.1 CL ([(o, .inl (G.2 5, 1, .inr (.inl of)))] ++ (W2_3411 ++ [])) H := P_left (P_perm hpm_3416 hP)
    have hD9 : va_D A ([(o, .inl (G.2 5, 1, .inr (.inl of)))] ++ (W2_3411 ++ [])) := D_left (D_perm hpm_3416 hD)
    exact end_i hx hb hr hlk (rfl) (qc_of (of, W2_3411) (v := some (.int (nI 1))) (by rw [hq_3412]) (⟨fun z9 => absurd (hq_3412.symm.trans z9) (by decide), by rw [hq_3412]; decide, hq_3413⟩) hP9 hD9 (trivial) hS) hS dX0_targetAt_14 (show 0 + 2 ≤ 2 from by first | exact Nat.le_refl _ | decide | omega) (show 0 + 8 ≤ 8 from by first | exact Nat.le_refl _ | decide | omega)
  · obtain ⟨rr_3408, W2_3409⟩ := u_
    obtain ⟨hq_3417, hq_3418⟩ : q_target (dC S) v = (0, rr_3408) ∧ DyW G d S W2_3409 := hq
    have hpm_3419 : ([(o, .inl (G.2 5, 1, .inr (.inl of)))] ++ (W2_3409 ++ []) : va_W).Perm ([(o, .inl (G.2 5, 1, .inr (.inl of)))] ++ (W2_3409 ++ [])) := segs_perm2 [[(o, .inl (G.2 5, 1, .inr (.inl of)))]] [W2_3409] [0, 1] rfl
    have hP : va_P G.1 CL ([(o, .inl (G.2 5, 1, .inr (.inl of)))] ++ (W2_3409 ++ [])) H := P_perm hpm_3419 hP
    have hD : va_D A ([(o, .inl (G.2 5, 1, .inr (.inl of)))] ++ (W2_3409 ++ [])) := D_perm hpm_3419 hD
    refine W.eq (g2 := F0 m 7 ls [.int rr_3408, .int (nI 0), .ref o]) rfl ?_
    refine lv_i2l (v := (rr_3408).toInt64) hx hb dX0_targetAt_7 rfl ?_
    refine r_last hx hb hK hP hD hS 0 5 rfl rfl (i := 0) (by omega) (by omega) dX0_targetAt_8 (fun H locs (hP : va_P G.1 CL ([(o, .inl (G.2 5, 1, .inr (.inl (vp_updL of 0 ((rr_3408).toInt64)))))] ++ (W2_3409 ++ [])) H) (hD : va_D A ([(o, .inl (G.2 5, 1, .inr (.inl (vp_updL of 0 ((rr_3408).toInt64)))))] ++ (W2_3409 ++ []))) hS => ?_)
    refine lv_goto (tgt := 15) hx hb dX0_targetAt_9 (by decide) ?_
    refine lv_iconst (v := nI 0) hx hb dX0_targetAt_15 (by decide) ?_
    refine vx_ret ?_
    have hpm_3420 : (([(o, .inl (G.2 5, 1, .inr (.inl (vp_updL of 0 ((rr_3408).toInt64)))))] ++ (W2_3409 ++ [])) : va_W).Perm (([(o, .inl (G.2 5, 1, .inr (.inl (vp_updL of 0 ((rr_3408).toInt64)))))] ++ (W2_3409 ++ [])) ++ []) := segs_perm [[(o, .inl (G.2 5, 1, .inr (.inl (vp_updL of 0 ((rr_3408).toInt64)))))], W2_3409] [0, 1] [] rfl
    have hP9 : va_P G.1 CL ([(o, .inl (G.2 5, 1, .inr (.inl (vp_updL of 0 ((rr_3408).toInt64)))))] ++ (W2_3409 ++ [])) H := P_left (P_perm hpm_3420 hP)
    have hD9 : va_D A ([(o, .inl (G.2 5, 1, .inr (.inl (vp_updL of 0 ((rr_3408).toInt64)))))] ++ (W2_3409 ++ [])) := D_left (D_perm hpm_3420 hD)
    exact end_i hx hb hr hlk (rfl) (qc_of (vp_updL of 0 ((rr_3408).toInt64), W2_3409) (v := some (.int (nI 0))) (by rw [hq_3417]) (⟨fun _ => by rw [hq_3417]; exact pk_uLs, by rw [hq_3417]; exact (by decide : (0 : Nat) < 10), hq_3418⟩) hP9 hD9 (trivial) hS) hS dX0_targetAt_16 (show 0 + 2 ≤ 2 from by first | exact Nat.le_refl _ | decide | omega) (show 0 + 8 ≤ 8 from by first | exact Nat.le_refl _ | decide | omega)

set_option maxHeartbeats 4000000 in
theorem wX0_daysToForm (l : Launch) (G : Gt) (d : Nat) (S : DS) (W : va_W) (o : Nat) (of : Nat → Int64) (v : Int32) (h : DyW G d S W) (hfl : l.stackTraces = false) : CTW l G yX0_daysToForm cX0_daysToForm 4 (some .int) [(0, 9, 12, 13), (0, 9, 15, 24)] ({ frames := 14, cells := 8300, slots := 17000, locals := 300 } : Room) [.ref d, .int v, .ref o] ([(o, .inl (G.2 5, 1, .inr (.inl of)))] ++ (W ++ [])) RH0 (S := (Nat → Int64) × va_W) (fun (u_ : (Nat → Int64) × va_W) => some (.int (nI ((q_daysTo (dC S) v).1)))) (fun (u_ : (Nat → Int64) × va_W) => ((q_daysTo (dC S) v).1 = 0 → u_.1 0 = ((q_daysTo (dC S) v).2).toInt64) ∧ (q_daysTo (dC S) v).1 < 10 ∧ DyW G d S u_.2) (fun (u_ : (Nat → Int64) × va_W) => ([(o, .inl (G.2 5, 1, .inr (.inl u_.1)))] ++ (u_.2 ++ []))) (fun (u_ : (Nat → Int64) × va_W) (H : Heap) => True) := by
  refine CTW.of (by decide) (Nat.le_of_ble_eq_true rfl) ?_
  intro p e s m below meth c ls A H locs h9 hH0 hP hS hNc htab
  obtain ⟨cf, hr, hlk, hnm, hKB, hE, -, hD, -, hA, hAw, hRH, hl⟩ := h9
  have hx := cf.1
  have hb := cf.2.1
  have hml := cf.2.2.1
  have hown : s.vm.findClass RX0 = some m.cls := cf.2.2.2.1
  have hts := cf.2.2.2.2
  have hK := hKB.1
  have hl : lv_has ls 4 [(0, .ref d), (1, .int v), (2, .ref o)] := hl
  refine lv_aload_n hx hb dX0_daysToForm_0 rfl (lv_at hl 2 rfl) ?_
  refine lv_iconst (v := nI 0) hx hb dX0_daysToForm_1 (by decide) ?_
  refine lv_aload_n hx hb dX0_daysToForm_2 rfl (lv_at hl 0 rfl) ?_
  refine lv_iload_n hx hb dX0_daysToForm_3 rfl (lv_at hl 1 rfl) ?_
  have hpm_3421 : (([(o, .inl (G.2 5, 1, .inr (.inl of)))] ++ (W ++ [])) : va_W).Perm ((W ++ []) ++ [(o, .inl (G.2 5, 1, .inr (.inl of)))]) := segs_perm [[(o, .inl (G.2 5, 1, .inr (.inl of)))], W] [1] [0] rfl
  have hF := hF_ofP (wc := (W ++ [])) hD hS hA hpm_3421
  refine go_cxP hS hP hD hpm_3421 hF
      (vx_runV (As := [.int v]) (rest := [.int (nI 0), .ref o]) cf (dX1_daysToForm l G d S W v (show DyW G d S W from by first | assumption | omega) hfl H.size) (cwV 1 hts (lw_V q1343 q1344 q1345 q47 q1346) rfl rfl rfl (by decide +kernel) ⟨Nat.le_of_ble_eq_true rfl, Nat.le_of_ble_eq_true rfl⟩) (preV_of hKB hE hS hF (DyW.recv hK h (seg_at [[(o, .inl (G.2 5, 1, .inr (.inl of)))], W] 1 rfl hP)) (P_left (P_perm hpm_3421 hP)) ((D_left (D_perm hpm_3421 hD)).weaken (fun _ _ _ _ => trivial)) trivial) rfl rfl hl.1 rfl (lv_room (Nat.le_of_ble_eq_true rfl)) dX0_daysToForm_4 ⟨show 0 + 8300 ≤ 8300 from by first | decide | omega, show 0 + 17000 ≤ 17000 from by first | decide | omega⟩)
      (fun u_ H locs ce q9 hq hph (hP : va_P G.1 CL ([(o, .inl (G.2 5, 1, .inr (.inl of)))] ++ (u_.2 ++ [])) H) (hD : va_D A ([(o, .inl (G.2 5, 1, .inr (.inl of)))] ++ (u_.2 ++ []))) hS hfz hfk hce hcv hcl => ?_) (fun u_ H locs hq hph (hP : va_P G.1 CL ([(o, .inl (G.2 5, 1, .inr (.inl of)))] ++ (u_.2 ++ [])) H) (hD : va_D A ([(o, .inl (G.2 5, 1, .inr (.inl of)))] ++ (u_.2 ++ []))) hS hfz hfk => ?_)
  · obtain ⟨kx_3424, W2_3425⟩ := u_
    obtain ⟨hq_3426, hq_3427, hq_3428⟩ : (q_daysTo (dC S) v).1 = kx_3424 ∧ DyW G d S W2_3425 ∧ 1 ≤ kx_3424 ∧ kx_3424 ≤ 2 := hq
    have hpm_3429 : ([(o, .inl (G.2 5, 1, .inr (.inl of)))] ++ (W2_3425 ++ []) : va_W).Perm ([(o, .inl (G.2 5, 1, .inr (.inl of)))] ++ (W2_3425 ++ [])) := segs_perm2 [[(o, .inl (G.2 5, 1, .inr (.inl of)))]] [W2_3425] [0, 1] rfl
    have hP : va_P G.1 CL ([(o, .inl (G.2 5, 1, .inr (.inl of)))] ++ (W2_3425 ++ [])) H := P_perm hpm_3429 hP
    have hD : va_D A ([(o, .inl (G.2 5, 1, .inr (.inl of)))] ++ (W2_3425 ++ [])) := D_perm hpm_3429 hD
    rcases (show kx_3424 = 1 ∨ kx_3424 = 2 by omega) with rfl | rfl
    · have hcl9 : s.vm.findClass eA = some ce.cls := hcl
      refine vx_catch (name := eA) (E := eA) hown [] (⟨0, 9, 12, 13⟩ : ExceptionTableEntry) [(⟨0, 9, 15, 24⟩ : ExceptionTableEntry)] (by rw [htab]; rfl) (fun z hz => absurd hz List.not_mem_nil) (by decide) (by decide) (hts _ q680) (va_Nw.use rfl (hKB.nest q698 rfl)) hce hcv hcl9 ?_
      refine W.eq (g2 := F0 m 12 ls [.ref q9]) rfl ?_
      refine lv_astore_n (lv' := [(3, .ref q9), (0, .ref d), (1, .int v), (2, .ref o)]) hx hb dX0_daysToForm_12 rfl hl (by decide) rfl (fun ls hl => ?_)
      refine lv_iconst (v := nI 1) hx hb dX0_daysToForm_13 (by decide) ?_
      refine vx_ret ?_
      have hpm_3430 : (([(o, .inl (G.2 5, 1, .inr (.inl of)))] ++ (W2_3425 ++ [])) : va_W).Perm (([(o, .inl (G.2 5, 1, .inr (.inl of)))] ++ (W2_3425 ++ [])) ++ []) := segs_perm [[(o, .inl (G.2 5, 1, .inr (.inl of)))], W2_3425] [0, 1] [] rfl
      have hP9 : va_P G.1 CL ([(o, .inl (G.2 5, 1, .inr (.inl of)))] ++ (W2_3425 ++ [])) H := P_left (P_perm hpm_3430 hP)
      have hD9 : va_D A ([(o, .inl (G.2 5, 1, .inr (.inl of)))] ++ (W2_3425 ++ [])) := D_left (D_perm hpm_3430 hD)
      exact end_i hx hb hr hlk (rfl) (qc_of (of, W2_3425) (v := some (.int (nI 1))) (by rw [hq_3426]) (⟨fun z9 => absurd (hq_3426.symm.trans z9) (by decide), by rw [hq_3426]; decide, hq_3427⟩) hP9 hD9 (trivial) hS) hS dX0_daysToForm_14 (show 0 + 8300 ≤ 8300 from by first | exact Nat.le_refl _ | decide | omega) (show 0 + 17000 ≤ 17000 from by first | exact Nat.le_refl _ | decide | omega)
    · have hcl9 : s.vm.findClass eN = some ce.cls := hcl
      refine vx_catch (name := eN) (E := eN) hown [(⟨0, 9, 12, 13⟩ : ExceptionTableEntry)] (⟨0, 9, 15, 24⟩ : ExceptionTableEntry) [] (by rw [htab]; rfl) (fun z hz => by rcases List.mem_singleton.mp hz with rfl; exact Or.inr ⟨by decide, _, hts _ q680, hNc _ (List.mem_of_getElem? (i := 3) rfl)⟩) (by decide) (by decide) (hts _ q1013) (va_Nw.use rfl (hKB.nest q334 rfl)) hce hcv hcl9 ?_
      refine W.eq (g2 := F0 m 15 ls [.ref q9]) rfl ?_
      refine lv_astore_n (lv' := [(3, .ref q9), (0, .ref d), (1, .int v), (2, .ref o)]) hx hb dX0_daysToForm_15 rfl hl (by decide) rfl (fun ls hl => ?_)
      refine lv_iconst (v := nI 2) hx hb dX0_daysToForm_16 (by decide) ?_
      refine vx_ret ?_
      have hpm_3431 : (([(o, .inl (G.2 5, 1, .inr (.inl of)))] ++ (W2_3425 ++ [])) : va_W).Perm (([(o, .inl (G.2 5, 1, .inr (.inl of)))] ++ (W2_3425 ++ [])) ++ []) := segs_perm [[(o, .inl (G.2 5, 1, .inr (.inl of)))], W2_3425] [0, 1] [] rfl
      have hP9 : va_P G.1 CL ([(o, .inl (G.2 5, 1, .inr (.inl of)))] ++ (W2_3425 ++ [])) H := P_left (P_perm hpm_3431 hP)
      have hD9 : va_D A ([(o, .inl (G.2 5, 1, .inr (.inl of)))] ++ (W2_3425 ++ [])) := D_left (D_perm hpm_3431 hD)
      exact end_i hx hb hr hlk (rfl) (qc_of (of, W2_3425) (v := some (.int (nI 2))) (by rw [hq_3426]) (⟨fun z9 => absurd (hq_3426.symm.trans z9) (by decide), by rw [hq_3426]; decide, hq_3427⟩) hP9 hD9 (trivial) hS) hS dX0_daysToForm_17 (show 0 + 8300 ≤ 8300 from by first | exact Nat.le_refl _ | decide | omega) (show 0 + 17000 ≤ 17000 from by first | exact Nat.le_refl _ | decide | omega)
  · obtain ⟨rr_3422, W2_3423⟩ := u_
    obtain ⟨hq_3432, hq_3433⟩ : q_daysTo (dC S) v = (0, rr_3422) ∧ DyW G d S W2_3423 := hq
    have hpm_3434 : ([(o, .inl (G.2 5, 1, .inr (.inl of)))] ++ (W2_3423 ++ []) : va_W).Perm ([(o, .inl (G.2 5, 1, .inr (.inl of)))] ++ (W2_3423 ++ [])) := segs_perm2 [[(o, .inl (G.2 5, 1, .inr (.inl of)))]] [W2_3423] [0, 1] rfl
    have hP : va_P G.1 CL ([(o, .inl (G.2 5, 1, .inr (.inl of)))] ++ (W2_3423 ++ [])) H := P_perm hpm_3434 hP
    have hD : va_D A ([(o, .inl (G.2 5, 1, .inr (.inl of)))] ++ (W2_3423 ++ [])) := D_perm hpm_3434 hD
    refine W.eq (g2 := F0 m 7 ls [.int rr_3422, .int (nI 0), .ref o]) rfl ?_
    refine lv_i2l (v := (rr_3422).toInt64) hx hb dX0_daysToForm_7 rfl ?_
    refine r_last hx hb hK hP hD hS 0 5 rfl rfl (i := 0) (by omega) (by omega) dX0_daysToForm_8 (fun H locs (hP : va_P G.1 CL ([(o, .inl (G.2 5, 1, .inr (.inl (vp_updL of 0 ((rr_3422).toInt64)))))] ++ (W2_3423 ++ [])) H) (hD : va_D A ([(o, .inl (G.2 5, 1, .inr (.inl (vp_updL of 0 ((rr_3422).toInt64)))))] ++ (W2_3423 ++ []))) hS => ?_)
    refine lv_goto (tgt := 18) hx hb dX0_daysToForm_9 (by decide) ?_
    refine lv_iconst (v := nI 0) hx hb dX0_daysToForm_18 (by decide) ?_
    refine vx_ret ?_
    have hpm_3435 : (([(o, .inl (G.2 5, 1, .inr (.inl (vp_updL of 0 ((rr_3422).toInt64)))))] ++ (W2_3423 ++ [])) : va_W).Perm (([(o, .inl (G.2 5, 1, .inr (.inl (vp_updL of 0 ((rr_3422).toInt64)))))] ++ (W2_3423 ++ [])) ++ []) := segs_perm [[(o, .inl (G.2 5, 1, .inr (.inl (vp_updL of 0 ((rr_3422).toInt64)))))], W2_3423] [0, 1] [] rfl
    have hP9 : va_P G.1 CL ([(o, .inl (G.2 5, 1, .inr (.inl (vp_updL of 0 ((rr_3422).toInt64)))))] ++ (W2_3423 ++ [])) H := P_left (P_perm hpm_3435 hP)
    have hD9 : va_D A ([(o, .inl (G.2 5, 1, .inr (.inl (vp_updL of 0 ((rr_3422).toInt64)))))] ++ (W2_3423 ++ [])) := D_left (D_perm hpm_3435 hD)
    exact end_i hx hb hr hlk (rfl) (qc_of (vp_updL of 0 ((rr_3422).toInt64), W2_3423) (v := some (.int (nI 0))) (by rw [hq_3432]) (⟨fun _ => by rw [hq_3432]; exact pk_uLs, by rw [hq_3432]; exact (by decide : (0 : Nat) < 10), hq_3433⟩) hP9 hD9 (trivial) hS) hS dX0_daysToForm_19 (show 0 + 8300 ≤ 8300 from by first | exact Nat.le_refl _ | decide | omega) (show 0 + 17000 ≤ 17000 from by first | exact Nat.le_refl _ | decide | omega)

set_option maxHeartbeats 4000000 in
theorem wX0_bestDays (l : Launch) (G : Gt) (d : Nat) (S : DS) (W : va_W) (o : Nat) (of : Nat → Int64) (v : Int32) (h : DyW G d S W) (hfl : l.stackTraces = false) : CTW l G yX0_bestDays cX0_bestDays 4 (some .int) [(0, 9, 12, 13), (0, 9, 15, 24)] ({ frames := 14, cells := 16600, slots := 34000, locals := 301 } : Room) [.ref d, .int v, .ref o] ([(o, .inl (G.2 5, 1, .inr (.inl of)))] ++ (W ++ [])) RH0 (S := (Nat → Int64) × va_W) (fun (u_ : (Nat → Int64) × va_W) => some (.int (nI ((q_bestDays (dC S) v).1)))) (fun (u_ : (Nat → Int64) × va_W) => ((q_bestDays (dC S) v).1 = 0 → u_.1 0 = ((q_bestDays (dC S) v).2).toInt64) ∧ (q_bestDays (dC S) v).1 < 10 ∧ DyW G d S u_.2) (fun (u_ : (Nat → Int64) × va_W) => ([(o, .inl (G.2 5, 1, .inr (.inl u_.1)))] ++ (u_.2 ++ []))) (fun (u_ : (Nat → Int64) × va_W) (H : Heap) => True) := by
  refine CTW.of (by decide) (Nat.le_of_ble_eq_true rfl) ?_
  intro p e s m below meth c ls A H locs h9 hH0 hP hS hNc htab
  obtain ⟨cf, hr, hlk, hnm, hKB, hE, -, hD, -, hA, hAw, hRH, hl⟩ := h9
  have hx := cf.1
  have hb := cf.2.1
  have hml := cf.2.2.1
  have hown : s.vm.findClass RX0 = some m.cls := cf.2.2.2.1
  have hts := cf.2.2.2.2
  have hK := hKB.1
  have hl : lv_has ls 4 [(0, .ref d), (1, .int v), (2, .ref o)] := hl
  refine lv_aload_n hx hb dX0_bestDays_0 rfl (lv_at hl 2 rfl) ?_
  refine lv_iconst (v := nI 0) hx hb dX0_bestDays_1 (by decide) ?_
  refine lv_aload_n hx hb dX0_bestDays_2 rfl (lv_at hl 0 rfl) ?_
  refine lv_iload_n hx hb dX0_bestDays_3 rfl (lv_at hl 1 rfl) ?_
  have hpm_3436 : (([(o, .inl (G.2 5, 1, .inr (.inl of)))] ++ (W ++ [])) : va_W).Perm ((W ++ []) ++ [(o, .inl (G.2 5, 1, .inr (.inl of)))]) := segs_perm [[(o, .inl (G.2 5, 1, .inr (.inl of)))], W] [1] [0] rfl
  have hF := hF_ofP (wc := (W ++ [])) hD hS hA hpm_3436
  refine go_cxP hS hP hD hpm_3436 hF
      (vx_runV (As := [.int v]) (rest := [.int (nI 0), .ref o]) cf (dX1_bestDays l G d S W v (show DyW G d S W from by first | assumption | omega) hfl H.size) (cwV 1 hts (lw_V q1353 q1354 q1355 q47 q1356) rfl rfl rfl (by decide +kernel) ⟨Nat.le_of_ble_eq_true rfl, Nat.le_of_ble_eq_true rfl⟩) (preV_of hKB hE hS hF (DyW.recv hK h (seg_at [[(o, .inl (G.2 5, 1, .inr (.inl of)))], W] 1 rfl hP)) (P_left (P_perm hpm_3436 hP)) ((D_left (D_perm hpm_3436 hD)).weaken (fun _ _ _ _ => trivial)) trivial) rfl rfl hl.1 rfl (lv_room (Nat.le_of_ble_eq_true rfl)) dX0_bestDays_4 ⟨show 0 + 16600 ≤ 16600 from by first | decide | omega, show 0 + 34000 ≤ 34000 from by first | decide | omega⟩)
      (fun u_ H locs ce q9 hq hph (hP : va_P G.1 CL ([(o, .inl (G.2 5, 1, .inr (.inl of)))] ++ (u_.2 ++ [])) H) (hD : va_D A ([(o, .inl (G.2 5, 1, .inr (.inl of)))] ++ (u_.2 ++ []))) hS hfz hfk hce hcv hcl => ?_) (fun u_ H locs hq hph (hP : va_P G.1 CL ([(o, .inl (G.2 5, 1, .inr (.inl of)))] ++ (u_.2 ++ [])) H) (hD : va_D A ([(o, .inl (G.2 5, 1, .inr (.inl of)))] ++ (u_.2 ++ []))) hS hfz hfk => ?_)
  · obtain ⟨kx_3439, W2_3440⟩ := u_
    obtain ⟨hq_3441, hq_3442, hq_3443⟩ : (q_bestDays (dC S) v).1 = kx_3439 ∧ DyW G d S W2_3440 ∧ 1 ≤ kx_3439 ∧ kx_3439 ≤ 2 := hq
    have hpm_3444 : ([(o, .inl (G.2 5, 1, .inr (.inl of)))] ++ (W2_3440 ++ []) : va_W).Perm ([(o, .inl (G.2 5, 1, .inr (.inl of)))] ++ (W2_3440 ++ [])) := segs_perm2 [[(o, .inl (G.2 5, 1, .inr (.inl of)))]] [W2_3440] [0, 1] rfl
    have hP : va_P G.1 CL ([(o, .inl (G.2 5, 1, .inr (.inl of)))] ++ (W2_3440 ++ [])) H := P_perm hpm_3444 hP
    have hD : va_D A ([(o, .inl (G.2 5, 1, .inr (.inl of)))] ++ (W2_3440 ++ [])) := D_perm hpm_3444 hD
    rcases (show kx_3439 = 1 ∨ kx_3439 = 2 by omega) with rfl | rfl
    · have hcl9 : s.vm.findClass eA = some ce.cls := hcl
      refine vx_catch (name := eA) (E := eA) hown [] (⟨0, 9, 12, 13⟩ : ExceptionTableEntry) [(⟨0, 9, 15, 24⟩ : ExceptionTableEntry)] (by rw [htab]; rfl) (fun z hz => absurd hz List.not_mem_nil) (by decide) (by decide) (hts _ q680) (va_Nw.use rfl (hKB.nest q698 rfl)) hce hcv hcl9 ?_
      refine W.eq (g2 := F0 m 12 ls [.ref q9]) rfl ?_
      refine lv_astore_n (lv' := [(3, .ref q9), (0, .ref d), (1, .int v), (2, .ref o)]) hx hb dX0_bestDays_12 rfl hl (by decide) rfl (fun ls hl => ?_)
      refine lv_iconst (v := nI 1) hx hb dX0_bestDays_13 (by decide) ?_
      refine vx_ret ?_
      have hpm_3445 : (([(o, .inl (G.2 5, 1, .inr (.inl of)))] ++ (W2_3440 ++ [])) : va_W).Perm (([(o, .inl (G.2 5, 1, .inr (.inl of)))] ++ (W2_3440 ++ [])) ++ []) := segs_perm [[(o, .inl (G.2 5, 1, .inr (.inl of)))], W2_3440] [0, 1] [] rfl
      have hP9 : va_P G.1 CL ([(o, .inl (G.2 5, 1, .inr (.inl of)))] ++ (W2_3440 ++ [])) H := P_left (P_perm hpm_3445 hP)
      have hD9 : va_D A ([(o, .inl (G.2 5, 1, .inr (.inl of)))] ++ (W2_3440 ++ [])) := D_left (D_perm hpm_3445 hD)
      exact end_i hx hb hr hlk (rfl) (qc_of (of, W2_3440) (v := some (.int (nI 1))) (by rw [hq_3441]) (⟨fun z9 => absurd (hq_3441.symm.trans z9) (by decide), by rw [hq_3441]; decide, hq_3442⟩) hP9 hD9 (trivial) hS) hS dX0_bestDays_14 (show 0 + 16600 ≤ 16600 from by first | exact Nat.le_refl _ | decide | omega) (show 0 + 34000 ≤ 34000 from by first | exact Nat.le_refl _ | decide | omega)
    · have hcl9 : s.vm.findClass eN = some ce.cls := hcl
      refine vx_catch (name := eN) (E := eN) hown [(⟨0, 9, 12, 13⟩ : ExceptionTableEntry)] (⟨0, 9, 15, 24⟩ : ExceptionTableEntry) [] (by rw [htab]; rfl) (fun z hz => by rcases List.mem_singleton.mp hz with rfl; exact Or.inr ⟨by decide, _, hts _ q680, hNc _ (List.mem_of_getElem? (i := 3) rfl)⟩) (by decide) (by decide) (hts _ q1013) (va_Nw.use rfl (hKB.nest q334 rfl)) hce hcv hcl9 ?_
      refine W.eq (g2 := F0 m 15 ls [.ref q9]) rfl ?_
      refine lv_astore_n (lv' := [(3, .ref q9), (0, .ref d), (1, .int v), (2, .ref o)]) hx hb dX0_bestDays_15 rfl hl (by decide) rfl (fun ls hl => ?_)
      refine lv_iconst (v := nI 2) hx hb dX0_bestDays_16 (by decide) ?_
      refine vx_ret ?_
      have hpm_3446 : (([(o, .inl (G.2 5, 1, .inr (.inl of)))] ++ (W2_3440 ++ [])) : va_W).Perm (([(o, .inl (G.2 5, 1, .inr (.inl of)))] ++ (W2_3440 ++ [])) ++ []) := segs_perm [[(o, .inl (G.2 5, 1, .inr (.inl of)))], W2_3440] [0, 1] [] rfl
      have hP9 : va_P G.1 CL ([(o, .inl (G.2 5, 1, .inr (.inl of)))] ++ (W2_3440 ++ [])) H := P_left (P_perm hpm_3446 hP)
      have hD9 : va_D A ([(o, .inl (G.2 5, 1, .inr (.inl of)))] ++ (W2_3440 ++ [])) := D_left (D_perm hpm_3446 hD)
      exact end_i hx hb hr hlk (rfl) (qc_of (of, W2_3440) (v := some (.int (nI 2))) (by rw [hq_3441]) (⟨fun z9 => absurd (hq_3441.symm.trans z9) (by decide), by rw [hq_3441]; decide, hq_3442⟩) hP9 hD9 (trivial) hS) hS dX0_bestDays_17 (show 0 + 16600 ≤ 16600 from by first | exact Nat.le_refl _ | decide | omega) (show 0 + 34000 ≤ 34000 from by first | exact Nat.le_refl _ | decide | omega)
  · obtain ⟨rr_3437, W2_3438⟩ := u_
    obtain ⟨hq_3447, hq_3448⟩ : q_bestDays (dC S) v = (0, rr_3437) ∧ DyW G d S W2_3438 := hq
    have hpm_3449 : ([(o, .inl (G.2 5, 1, .inr (.inl of)))] ++ (W2_3438 ++ []) : va_W).Perm ([(o, .inl (G.2 5, 1, .inr (.inl of)))] ++ (W2_3438 ++ [])) := segs_perm2 [[(o, .inl (G.2 5, 1, .inr (.inl of)))]] [W2_3438] [0, 1] rfl
    have hP : va_P G.1 CL ([(o, .inl (G.2 5, 1, .inr (.inl of)))] ++ (W2_3438 ++ [])) H := P_perm hpm_3449 hP
    have hD : va_D A ([(o, .inl (G.2 5, 1, .inr (.inl of)))] ++ (W2_3438 ++ [])) := D_perm hpm_3449 hD
    refine W.eq (g2 := F0 m 7 ls [.int rr_3437, .int (nI 0), .ref o]) rfl ?_
    refine lv_i2l (v := (rr_3437).toInt64) hx hb dX0_bestDays_7 rfl ?_
    refine r_last hx hb hK hP hD hS 0 5 rfl rfl (i := 0) (by omega) (by omega) dX0_bestDays_8 (fun H locs (hP : va_P G.1 CL ([(o, .inl (G.2 5, 1, .inr (.inl (vp_updL of 0 ((rr_3437).toInt64)))))] ++ (W2_3438 ++ [])) H) (hD : va_D A ([(o, .inl (G.2 5, 1, .inr (.inl (vp_updL of 0 ((rr_3437).toInt64)))))] ++ (W2_3438 ++ []))) hS => ?_)
    refine lv_goto (tgt := 18) hx hb dX0_bestDays_9 (by decide) ?_
    refine lv_iconst (v := nI 0) hx hb dX0_bestDays_18 (by decide) ?_
    refine vx_ret ?_
    have hpm_3450 : (([(o, .inl (G.2 5, 1, .inr (.inl (vp_updL of 0 ((rr_3437).toInt64)))))] ++ (W2_3438 ++ [])) : va_W).Perm (([(o, .inl (G.2 5, 1, .inr (.inl (vp_updL of 0 ((rr_3437).toInt64)))))] ++ (W2_3438 ++ [])) ++ []) := segs_perm [[(o, .inl (G.2 5, 1, .inr (.inl (vp_updL of 0 ((rr_3437).toInt64)))))], W2_3438] [0, 1] [] rfl
    have hP9 : va_P G.1 CL ([(o, .inl (G.2 5, 1, .inr (.inl (vp_updL of 0 ((rr_3437).toInt64)))))] ++ (W2_3438 ++ [])) H := P_left (P_perm hpm_3450 hP)
    have hD9 : va_D A ([(o, .inl (G.2 5, 1, .inr (.inl (vp_updL of 0 ((rr_3437).toInt64)))))] ++ (W2_3438 ++ [])) := D_left (D_perm hpm_3450 hD)
    exact end_i hx hb hr hlk (rfl) (qc_of (vp_updL of 0 ((rr_3437).toInt64), W2_3438) (v := some (.int (nI 0))) (by rw [hq_3447]) (⟨fun _ => by rw [hq_3447]; exact pk_uLs, by rw [hq_3447]; exact (by decide : (0 : Nat) < 10), hq_3448⟩) hP9 hD9 (trivial) hS) hS dX0_bestDays_19 (show 0 + 16600 ≤ 16600 from by first | exact Nat.le_refl _ | decide | omega) (show 0 + 34000 ≤ 34000 from by first | exact Nat.le_refl _ | decide | omega)

set_option maxHeartbeats 4000000 in
theorem wX0_bestDaysStart (l : Launch) (G : Gt) (d : Nat) (S : DS) (W : va_W) (o : Nat) (of : Nat → Int64) (v : Int32) (h : DyW G d S W) (hfl : l.stackTraces = false) : CTW l G yX0_bestDaysStart cX0_bestDaysStart 4 (some .int) [(0, 9, 12, 13), (0, 9, 15, 24)] ({ frames := 14, cells := 8300, slots := 17000, locals := 301 } : Room) [.ref d, .int v, .ref o] ([(o, .inl (G.2 5, 1, .inr (.inl of)))] ++ (W ++ [])) RH0 (S := (Nat → Int64) × va_W) (fun (u_ : (Nat → Int64) × va_W) => some (.int (nI ((q_bestStart (dC S) v).1)))) (fun (u_ : (Nat → Int64) × va_W) => ((q_bestStart (dC S) v).1 = 0 → u_.1 0 = ((q_bestStart (dC S) v).2).toInt64) ∧ (q_bestStart (dC S) v).1 < 10 ∧ DyW G d S u_.2) (fun (u_ : (Nat → Int64) × va_W) => ([(o, .inl (G.2 5, 1, .inr (.inl u_.1)))] ++ (u_.2 ++ []))) (fun (u_ : (Nat → Int64) × va_W) (H : Heap) => True) := by
  refine CTW.of (by decide) (Nat.le_of_ble_eq_true rfl) ?_
  intro p e s m below meth c ls A H locs h9 hH0 hP hS hNc htab
  obtain ⟨cf, hr, hlk, hnm, hKB, hE, -, hD, -, hA, hAw, hRH, hl⟩ := h9
  have hx := cf.1
  have hb := cf.2.1
  have hml := cf.2.2.1
  have hown : s.vm.findClass RX0 = some m.cls := cf.2.2.2.1
  have hts := cf.2.2.2.2
  have hK := hKB.1
  have hl : lv_has ls 4 [(0, .ref d), (1, .int v), (2, .ref o)] := hl
  refine lv_aload_n hx hb dX0_bestDaysStart_0 rfl (lv_at hl 2 rfl) ?_
  refine lv_iconst (v := nI 0) hx hb dX0_bestDaysStart_1 (by decide) ?_
  refine lv_aload_n hx hb dX0_bestDaysStart_2 rfl (lv_at hl 0 rfl) ?_
  refine lv_iload_n hx hb dX0_bestDaysStart_3 rfl (lv_at hl 1 rfl) ?_
  have hpm_3451 : (([(o, .inl (G.2 5, 1, .inr (.inl of)))] ++ (W ++ [])) : va_W).Perm ((W ++ []) ++ [(o, .inl (G.2 5, 1, .inr (.inl of)))]) := segs_perm [[(o, .inl (G.2 5, 1, .inr (.inl of)))], W] [1] [0] rfl
  have hF := hF_ofP (wc := (W ++ [])) hD hS hA hpm_3451
  refine go_cxP hS hP hD hpm_3451 hF
      (vx_runV (As := [.int v]) (rest := [.int (nI 0), .ref o]) cf (dX1_bestDaysStart l G d S W v (show DyW G d S W from by first | assumption | omega) hfl H.size) (cwV 1 hts (lw_V q1380 q1381 q1382 q47 q1383) rfl rfl rfl (by decide +kernel) ⟨Nat.le_of_ble_eq_true rfl, Nat.le_of_ble_eq_true rfl⟩) (preV_of hKB hE hS hF (DyW.recv hK h (seg_at [[(o, .inl (G.2 5, 1, .inr (.inl of)))], W] 1 rfl hP)) (P_left (P_perm hpm_3451 hP)) ((D_left (D_perm hpm_3451 hD)).weaken (fun _ _ _ _ => trivial)) trivial) rfl rfl hl.1 rfl (lv_room (Nat.le_of_ble_eq_true rfl)) dX0_bestDaysStart_4 ⟨show 0 + 8300 ≤ 8300 from by first | decide | omega, show 0 + 17000 ≤ 17000 from by first | decide | omega⟩)
      (fun u_ H locs ce q9 hq hph (hP : va_P G.1 CL ([(o, .inl (G.2 5, 1, .inr (.inl of)))] ++ (u_.2 ++ [])) H) (hD : va_D A ([(o, .inl (G.2 5, 1, .inr (.inl of)))] ++ (u_.2 ++ []))) hS hfz hfk hce hcv hcl => ?_) (fun u_ H locs hq hph (hP : va_P G.1 CL ([(o, .inl (G.2 5, 1, .inr (.inl of)))] ++ (u_.2 ++ [])) H) (hD : va_D A ([(o, .inl (G.2 5, 1, .inr (.inl of)))] ++ (u_.2 ++ []))) hS hfz hfk => ?_)
  · obtain ⟨kx_3454, W2_3455⟩ := u_
    obtain ⟨hq_3456, hq_3457, hq_3458⟩ : (q_bestStart (dC S) v).1 = kx_3454 ∧ DyW G d S W2_3455 ∧ 1 ≤ kx_3454 ∧ kx_3454 ≤ 2 := hq
    have hpm_3459 : ([(o, .inl (G.2 5, 1, .inr (.inl of)))] ++ (W2_3455 ++ []) : va_W).Perm ([(o, .inl (G.2 5, 1, .inr (.inl of)))] ++ (W2_3455 ++ [])) := segs_perm2 [[(o, .inl (G.2 5, 1, .inr (.inl of)))]] [W2_3455] [0, 1] rfl
    have hP : va_P G.1 CL ([(o, .inl (G.2 5, 1, .inr (.inl of)))] ++ (W2_3455 ++ [])) H := P_perm hpm_3459 hP
    have hD : va_D A ([(o, .inl (G.2 5, 1, .inr (.inl of)))] ++ (W2_3455 ++ [])) := D_perm hpm_3459 hD
    rcases (show kx_3454 = 1 ∨ kx_3454 = 2 by omega) with rfl | rfl
    · have hcl9 : s.vm.findClass eA = some ce.cls := hcl
      refine vx_catch (name := eA) (E := eA) hown [] (⟨0, 9, 12, 13⟩ : ExceptionTableEntry) [(⟨0, 9, 15, 24⟩ : ExceptionTableEntry)] (by rw [htab]; rfl) (fun z hz => absurd hz List.not_mem_nil) (by decide) (by decide) (hts _ q680) (va_Nw.use rfl (hKB.nest q698 rfl)) hce hcv hcl9 ?_
      refine W.eq (g2 := F0 m 12 ls [.ref q9]) rfl ?_
      refine lv_astore_n (lv' := [(3, .ref q9), (0, .ref d), (1, .int v), (2, .ref o)]) hx hb dX0_bestDaysStart_12 rfl hl (by decide) rfl (fun ls hl => ?_)
      refine lv_iconst (v := nI 1) hx hb dX0_bestDaysStart_13 (by decide) ?_
      refine vx_ret ?_
      have hpm_3460 : (([(o, .inl (G.2 5, 1, .inr (.inl of)))] ++ (W2_3455 ++ [])) : va_W).Perm (([(o, .inl (G.2 5, 1, .inr (.inl of)))] ++ (W2_3455 ++ [])) ++ []) := segs_perm [[(o, .inl (G.2 5, 1, .inr (.inl of)))], W2_3455] [0, 1] [] rfl
      have hP9 : va_P G.1 CL ([(o, .inl (G.2 5, 1, .inr (.inl of)))] ++ (W2_3455 ++ [])) H := P_left (P_perm hpm_3460 hP)
      have hD9 : va_D A ([(o, .inl (G.2 5, 1, .inr (.inl of)))] ++ (W2_3455 ++ [])) := D_left (D_perm hpm_3460 hD)
      exact end_i hx hb hr hlk (rfl) (qc_of (of, W2_3455) (v := some (.int (nI 1))) (by rw [hq_3456]) (⟨fun z9 => absurd (hq_3456.symm.trans z9) (by decide), by rw [hq_3456]; decide, hq_3457⟩) hP9 hD9 (trivial) hS) hS dX0_bestDaysStart_14 (show 0 + 8300 ≤ 8300 from by first | exact Nat.le_refl _ | decide | omega) (show 0 + 17000 ≤ 17000 from by first | exact Nat.le_refl _ | decide | omega)
    · have hcl9 : s.vm.findClass eN = some ce.cls := hcl
      refine vx_catch (name := eN) (E := eN) hown [(⟨0, 9, 12, 13⟩ : ExceptionTableEntry)] (⟨0, 9, 15, 24⟩ : ExceptionTableEntry) [] (by rw [htab]; rfl) (fun z hz => by rcases List.mem_singleton.mp hz with rfl; exact Or.inr ⟨by decide, _, hts _ q680, hNc _ (List.mem_of_getElem? (i := 3) rfl)⟩) (by decide) (by decide) (hts _ q1013) (va_Nw.use rfl (hKB.nest q334 rfl)) hce hcv hcl9 ?_
      refine W.eq (g2 := F0 m 15 ls [.ref q9]) rfl ?_
      refine lv_astore_n (lv' := [(3, .ref q9), (0, .ref d), (1, .int v), (2, .ref o)]) hx hb dX0_bestDaysStart_15 rfl hl (by decide) rfl (fun ls hl => ?_)
      refine lv_iconst (v := nI 2) hx hb dX0_bestDaysStart_16 (by decide) ?_
      refine vx_ret ?_
      have hpm_3461 : (([(o, .inl (G.2 5, 1, .inr (.inl of)))] ++ (W2_3455 ++ [])) : va_W).Perm (([(o, .inl (G.2 5, 1, .inr (.inl of)))] ++ (W2_3455 ++ [])) ++ []) := segs_perm [[(o, .inl (G.2 5, 1, .inr (.inl of)))], W2_3455] [0, 1] [] rfl
      have hP9 : va_P G.1 CL ([(o, .inl (G.2 5, 1, .inr (.inl of)))] ++ (W2_3455 ++ [])) H := P_left (P_perm hpm_3461 hP)
      have hD9 : va_D A ([(o, .inl (G.2 5, 1, .inr (.inl of)))] ++ (W2_3455 ++ [])) := D_left (D_perm hpm_3461 hD)
      exact end_i hx hb hr hlk (rfl) (qc_of (of, W2_3455) (v := some (.int (nI 2))) (by rw [hq_3456]) (⟨fun z9 => absurd (hq_3456.symm.trans z9) (by decide), by rw [hq_3456]; decide, hq_3457⟩) hP9 hD9 (trivial) hS) hS dX0_bestDaysStart_17 (show 0 + 8300 ≤ 8300 from by first | exact Nat.le_refl _ | decide | omega) (show 0 + 17000 ≤ 17000 from by first | exact Nat.le_refl _ | decide | omega)
  · obtain ⟨rr_3452, W2_3453⟩ := u_
    obtain ⟨hq_3462, hq_3463⟩ : q_bestStart (dC S) v = (0, rr_3452) ∧ DyW G d S W2_3453 := hq
    have hpm_3464 : ([(o, .inl (G.2 5, 1, .inr (.inl of)))] ++ (W2_3453 ++ []) : va_W).Perm ([(o, .inl (G.2 5, 1, .inr (.inl of)))] ++ (W2_3453 ++ [])) := segs_perm2 [[(o, .inl (G.2 5, 1, .inr (.inl of)))]] [W2_3453] [0, 1] rfl
    have hP : va_P G.1 CL ([(o, .inl (G.2 5, 1, .inr (.inl of)))] ++ (W2_3453 ++ [])) H := P_perm hpm_3464 hP
    have hD : va_D A ([(o, .inl (G.2 5, 1, .inr (.inl of)))] ++ (W2_3453 ++ [])) := D_perm hpm_3464 hD
    refine W.eq (g2 := F0 m 7 ls [.int rr_3452, .int (nI 0), .ref o]) rfl ?_
    refine lv_i2l (v := (rr_3452).toInt64) hx hb dX0_bestDaysStart_7 rfl ?_
    refine r_last hx hb hK hP hD hS 0 5 rfl rfl (i := 0) (by omega) (by omega) dX0_bestDaysStart_8 (fun H locs (hP : va_P G.1 CL ([(o, .inl (G.2 5, 1, .inr (.inl (vp_updL of 0 ((rr_3452).toInt64)))))] ++ (W2_3453 ++ [])) H) (hD : va_D A ([(o, .inl (G.2 5, 1, .inr (.inl (vp_updL of 0 ((rr_3452).toInt64)))))] ++ (W2_3453 ++ []))) hS => ?_)
    refine lv_goto (tgt := 18) hx hb dX0_bestDaysStart_9 (by decide) ?_
    refine lv_iconst (v := nI 0) hx hb dX0_bestDaysStart_18 (by decide) ?_
    refine vx_ret ?_
    have hpm_3465 : (([(o, .inl (G.2 5, 1, .inr (.inl (vp_updL of 0 ((rr_3452).toInt64)))))] ++ (W2_3453 ++ [])) : va_W).Perm (([(o, .inl (G.2 5, 1, .inr (.inl (vp_updL of 0 ((rr_3452).toInt64)))))] ++ (W2_3453 ++ [])) ++ []) := segs_perm [[(o, .inl (G.2 5, 1, .inr (.inl (vp_updL of 0 ((rr_3452).toInt64)))))], W2_3453] [0, 1] [] rfl
    have hP9 : va_P G.1 CL ([(o, .inl (G.2 5, 1, .inr (.inl (vp_updL of 0 ((rr_3452).toInt64)))))] ++ (W2_3453 ++ [])) H := P_left (P_perm hpm_3465 hP)
    have hD9 : va_D A ([(o, .inl (G.2 5, 1, .inr (.inl (vp_updL of 0 ((rr_3452).toInt64)))))] ++ (W2_3453 ++ [])) := D_left (D_perm hpm_3465 hD)
    exact end_i hx hb hr hlk (rfl) (qc_of (vp_updL of 0 ((rr_3452).toInt64), W2_3453) (v := some (.int (nI 0))) (by rw [hq_3462]) (⟨fun _ => by rw [hq_3462]; exact pk_uLs, by rw [hq_3462]; exact (by decide : (0 : Nat) < 10), hq_3463⟩) hP9 hD9 (trivial) hS) hS dX0_bestDaysStart_19 (show 0 + 8300 ≤ 8300 from by first | exact Nat.le_refl _ | decide | omega) (show 0 + 17000 ≤ 17000 from by first | exact Nat.le_refl _ | decide | omega)

set_option maxHeartbeats 4000000 in
theorem wX0_bestDaysByTrying (l : Launch) (G : Gt) (d : Nat) (S : DS) (W : va_W) (o : Nat) (of : Nat → Int64) (v : Int32) (h : DyW G d S W) (hfl : l.stackTraces = false) : CTW l G yX0_bestDaysByTrying cX0_bestDaysByTrying 4 (some .int) [(0, 9, 12, 13), (0, 9, 15, 24)] ({ frames := 14, cells := 8300, slots := 17000, locals := 302 } : Room) [.ref d, .int v, .ref o] ([(o, .inl (G.2 5, 1, .inr (.inl of)))] ++ (W ++ [])) RH0 (S := (Nat → Int64) × va_W) (fun (u_ : (Nat → Int64) × va_W) => some (.int (nI ((q_bestDays (dC S) v).1)))) (fun (u_ : (Nat → Int64) × va_W) => ((q_bestDays (dC S) v).1 = 0 → u_.1 0 = ((q_bestDays (dC S) v).2).toInt64) ∧ (q_bestDays (dC S) v).1 < 10 ∧ DyW G d S u_.2) (fun (u_ : (Nat → Int64) × va_W) => ([(o, .inl (G.2 5, 1, .inr (.inl u_.1)))] ++ (u_.2 ++ []))) (fun (u_ : (Nat → Int64) × va_W) (H : Heap) => True) := by
  refine CTW.of (by decide) (Nat.le_of_ble_eq_true rfl) ?_
  intro p e s m below meth c ls A H locs h9 hH0 hP hS hNc htab
  obtain ⟨cf, hr, hlk, hnm, hKB, hE, -, hD, -, hA, hAw, hRH, hl⟩ := h9
  have hx := cf.1
  have hb := cf.2.1
  have hml := cf.2.2.1
  have hown : s.vm.findClass RX0 = some m.cls := cf.2.2.2.1
  have hts := cf.2.2.2.2
  have hK := hKB.1
  have hl : lv_has ls 4 [(0, .ref d), (1, .int v), (2, .ref o)] := hl
  refine lv_aload_n hx hb dX0_bestDaysByTrying_0 rfl (lv_at hl 2 rfl) ?_
  refine lv_iconst (v := nI 0) hx hb dX0_bestDaysByTrying_1 (by decide) ?_
  refine lv_aload_n hx hb dX0_bestDaysByTrying_2 rfl (lv_at hl 0 rfl) ?_
  refine lv_iload_n hx hb dX0_bestDaysByTrying_3 rfl (lv_at hl 1 rfl) ?_
  have hpm_3466 : (([(o, .inl (G.2 5, 1, .inr (.inl of)))] ++ (W ++ [])) : va_W).Perm ((W ++ []) ++ [(o, .inl (G.2 5, 1, .inr (.inl of)))]) := segs_perm [[(o, .inl (G.2 5, 1, .inr (.inl of)))], W] [1] [0] rfl
  have hF := hF_ofP (wc := (W ++ [])) hD hS hA hpm_3466
  refine go_cxP hS hP hD hpm_3466 hF
      (vx_runV (As := [.int v]) (rest := [.int (nI 0), .ref o]) cf (dX1_bestDaysByTrying l G d S W v (show DyW G d S W from by first | assumption | omega) hfl H.size) (cwV 1 hts (lw_V q1373 q1374 q1375 q47 q1376) rfl rfl rfl (by decide +kernel) ⟨Nat.le_of_ble_eq_true rfl, Nat.le_of_ble_eq_true rfl⟩) (preV_of hKB hE hS hF (DyW.recv hK h (seg_at [[(o, .inl (G.2 5, 1, .inr (.inl of)))], W] 1 rfl hP)) (P_left (P_perm hpm_3466 hP)) ((D_left (D_perm hpm_3466 hD)).weaken (fun _ _ _ _ => trivial)) trivial) rfl rfl hl.1 rfl (lv_room (Nat.le_of_ble_eq_true rfl)) dX0_bestDaysByTrying_4 ⟨show 0 + 8300 ≤ 8300 from by first | decide | omega, show 0 + 17000 ≤ 17000 from by first | decide | omega⟩)
      (fun u_ H locs ce q9 hq hph (hP : va_P G.1 CL ([(o, .inl (G.2 5, 1, .inr (.inl of)))] ++ (u_.2 ++ [])) H) (hD : va_D A ([(o, .inl (G.2 5, 1, .inr (.inl of)))] ++ (u_.2 ++ []))) hS hfz hfk hce hcv hcl => ?_) (fun u_ H locs hq hph (hP : va_P G.1 CL ([(o, .inl (G.2 5, 1, .inr (.inl of)))] ++ (u_.2 ++ [])) H) (hD : va_D A ([(o, .inl (G.2 5, 1, .inr (.inl of)))] ++ (u_.2 ++ []))) hS hfz hfk => ?_)
  · obtain ⟨kx_3469, W2_3470⟩ := u_
    obtain ⟨hq_3471, hq_3472, hq_3473⟩ : (q_bestDays (dC S) v).1 = kx_3469 ∧ DyW G d S W2_3470 ∧ 1 ≤ kx_3469 ∧ kx_3469 ≤ 2 := hq
    have hpm_3474 : ([(o, .inl (G.2 5, 1, .inr (.inl of)))] ++ (W2_3470 ++ []) : va_W).Perm ([(o, .inl (G.2 5, 1, .inr (.inl of)))] ++ (W2_3470 ++ [])) := segs_perm2 [[(o, .inl (G.2 5, 1, .inr (.inl of)))]] [W2_3470] [0, 1] rfl
    have hP : va_P G.1 CL ([(o, .inl (G.2 5, 1, .inr (.inl of)))] ++ (W2_3470 ++ [])) H := P_perm hpm_3474 hP
    have hD : va_D A ([(o, .inl (G.2 5, 1, .inr (.inl of)))] ++ (W2_3470 ++ [])) := D_perm hpm_3474 hD
    rcases (show kx_3469 = 1 ∨ kx_3469 = 2 by omega) with rfl | rfl
    · have hcl9 : s.vm.findClass eA = some ce.cls := hcl
      refine vx_catch (name := eA) (E := eA) hown [] (⟨0, 9, 12, 13⟩ : ExceptionTableEntry) [(⟨0, 9, 15, 24⟩ : ExceptionTableEntry)] (by rw [htab]; rfl) (fun z hz => absurd hz List.not_mem_nil) (by decide) (by decide) (hts _ q680) (va_Nw.use rfl (hKB.nest q698 rfl)) hce hcv hcl9 ?_
      refine W.eq (g2 := F0 m 12 ls [.ref q9]) rfl ?_
      refine lv_astore_n (lv' := [(3, .ref q9), (0, .ref d), (1, .int v), (2, .ref o)]) hx hb dX0_bestDaysByTrying_12 rfl hl (by decide) rfl (fun ls hl => ?_)
      refine lv_iconst (v := nI 1) hx hb dX0_bestDaysByTrying_13 (by decide) ?_
      refine vx_ret ?_
      have hpm_3475 : (([(o, .inl (G.2 5, 1, .inr (.inl of)))] ++ (W2_3470 ++ [])) : va_W).Perm (([(o, .inl (G.2 5, 1, .inr (.inl of)))] ++ (W2_3470 ++ [])) ++ []) := segs_perm [[(o, .inl (G.2 5, 1, .inr (.inl of)))], W2_3470] [0, 1] [] rfl
      have hP9 : va_P G.1 CL ([(o, .inl (G.2 5, 1, .inr (.inl of)))] ++ (W2_3470 ++ [])) H := P_left (P_perm hpm_3475 hP)
      have hD9 : va_D A ([(o, .inl (G.2 5, 1, .inr (.inl of)))] ++ (W2_3470 ++ [])) := D_left (D_perm hpm_3475 hD)
      exact end_i hx hb hr hlk (rfl) (qc_of (of, W2_3470) (v := some (.int (nI 1))) (by rw [hq_3471]) (⟨fun z9 => absurd (hq_3471.symm.trans z9) (by decide), by rw [hq_3471]; decide, hq_3472⟩) hP9 hD9 (trivial) hS) hS dX0_bestDaysByTrying_14 (show 0 + 8300 ≤ 8300 from by first | exact Nat.le_refl _ | decide | omega) (show 0 + 17000 ≤ 17000 from by first | exact Nat.le_refl _ | decide | omega)
    · have hcl9 : s.vm.findClass eN = some ce.cls := hcl
      refine vx_catch (name := eN) (E := eN) hown [(⟨0, 9, 12, 13⟩ : ExceptionTableEntry)] (⟨0, 9, 15, 24⟩ : ExceptionTableEntry) [] (by rw [htab]; rfl) (fun z hz => by rcases List.mem_singleton.mp hz with rfl; exact Or.inr ⟨by decide, _, hts _ q680, hNc _ (List.mem_of_getElem? (i := 3) rfl)⟩) (by decide) (by decide) (hts _ q1013) (va_Nw.use rfl (hKB.nest q334 rfl)) hce hcv hcl9 ?_
      refine W.eq (g2 := F0 m 15 ls [.ref q9]) rfl ?_
      refine lv_astore_n (lv' := [(3, .ref q9), (0, .ref d), (1, .int v), (2, .ref o)]) hx hb dX0_bestDaysByTrying_15 rfl hl (by decide) rfl (fun ls hl => ?_)
      refine lv_iconst (v := nI 2) hx hb dX0_bestDaysByTrying_16 (by decide) ?_
      refine vx_ret ?_
      have hpm_3476 : (([(o, .inl (G.2 5, 1, .inr (.inl of)))] ++ (W2_3470 ++ [])) : va_W).Perm (([(o, .inl (G.2 5, 1, .inr (.inl of)))] ++ (W2_3470 ++ [])) ++ []) := segs_perm [[(o, .inl (G.2 5, 1, .inr (.inl of)))], W2_3470] [0, 1] [] rfl
      have hP9 : va_P G.1 CL ([(o, .inl (G.2 5, 1, .inr (.inl of)))] ++ (W2_3470 ++ [])) H := P_left (P_perm hpm_3476 hP)
      have hD9 : va_D A ([(o, .inl (G.2 5, 1, .inr (.inl of)))] ++ (W2_3470 ++ [])) := D_left (D_perm hpm_3476 hD)
      exact end_i hx hb hr hlk (rfl) (qc_of (of, W2_3470) (v := some (.int (nI 2))) (by rw [hq_3471]) (⟨fun z9 => absurd (hq_3471.symm.trans z9) (by decide), by rw [hq_3471]; decide, hq_3472⟩) hP9 hD9 (trivial) hS) hS dX0_bestDaysByTrying_17 (show 0 + 8300 ≤ 8300 from by first | exact Nat.le_refl _ | decide | omega) (show 0 + 17000 ≤ 17000 from by first | exact Nat.le_refl _ | decide | omega)
  · obtain ⟨rr_3467, W2_3468⟩ := u_
    obtain ⟨hq_3477, hq_3478⟩ : q_bestDays (dC S) v = (0, rr_3467) ∧ DyW G d S W2_3468 := hq
    have hpm_3479 : ([(o, .inl (G.2 5, 1, .inr (.inl of)))] ++ (W2_3468 ++ []) : va_W).Perm ([(o, .inl (G.2 5, 1, .inr (.inl of)))] ++ (W2_3468 ++ [])) := segs_perm2 [[(o, .inl (G.2 5, 1, .inr (.inl of)))]] [W2_3468] [0, 1] rfl
    have hP : va_P G.1 CL ([(o, .inl (G.2 5, 1, .inr (.inl of)))] ++ (W2_3468 ++ [])) H := P_perm hpm_3479 hP
    have hD : va_D A ([(o, .inl (G.2 5, 1, .inr (.inl of)))] ++ (W2_3468 ++ [])) := D_perm hpm_3479 hD
    refine W.eq (g2 := F0 m 7 ls [.int rr_3467, .int (nI 0), .ref o]) rfl ?_
    refine lv_i2l (v := (rr_3467).toInt64) hx hb dX0_bestDaysByTrying_7 rfl ?_
    refine r_last hx hb hK hP hD hS 0 5 rfl rfl (i := 0) (by omega) (by omega) dX0_bestDaysByTrying_8 (fun H locs (hP : va_P G.1 CL ([(o, .inl (G.2 5, 1, .inr (.inl (vp_updL of 0 ((rr_3467).toInt64)))))] ++ (W2_3468 ++ [])) H) (hD : va_D A ([(o, .inl (G.2 5, 1, .inr (.inl (vp_updL of 0 ((rr_3467).toInt64)))))] ++ (W2_3468 ++ []))) hS => ?_)
    refine lv_goto (tgt := 18) hx hb dX0_bestDaysByTrying_9 (by decide) ?_
    refine lv_iconst (v := nI 0) hx hb dX0_bestDaysByTrying_18 (by decide) ?_
    refine vx_ret ?_
    have hpm_3480 : (([(o, .inl (G.2 5, 1, .inr (.inl (vp_updL of 0 ((rr_3467).toInt64)))))] ++ (W2_3468 ++ [])) : va_W).Perm (([(o, .inl (G.2 5, 1, .inr (.inl (vp_updL of 0 ((rr_3467).toInt64)))))] ++ (W2_3468 ++ [])) ++ []) := segs_perm [[(o, .inl (G.2 5, 1, .inr (.inl (vp_updL of 0 ((rr_3467).toInt64)))))], W2_3468] [0, 1] [] rfl
    have hP9 : va_P G.1 CL ([(o, .inl (G.2 5, 1, .inr (.inl (vp_updL of 0 ((rr_3467).toInt64)))))] ++ (W2_3468 ++ [])) H := P_left (P_perm hpm_3480 hP)
    have hD9 : va_D A ([(o, .inl (G.2 5, 1, .inr (.inl (vp_updL of 0 ((rr_3467).toInt64)))))] ++ (W2_3468 ++ [])) := D_left (D_perm hpm_3480 hD)
    exact end_i hx hb hr hlk (rfl) (qc_of (vp_updL of 0 ((rr_3467).toInt64), W2_3468) (v := some (.int (nI 0))) (by rw [hq_3477]) (⟨fun _ => by rw [hq_3477]; exact pk_uLs, by rw [hq_3477]; exact (by decide : (0 : Nat) < 10), hq_3478⟩) hP9 hD9 (trivial) hS) hS dX0_bestDaysByTrying_19 (show 0 + 8300 ≤ 8300 from by first | exact Nat.le_refl _ | decide | omega) (show 0 + 17000 ≤ 17000 from by first | exact Nat.le_refl _ | decide | omega)

set_option maxHeartbeats 4000000 in
theorem wX0_zoneShare (l : Launch) (G : Gt) (d : Nat) (S : DS) (W : va_W) (o : Nat) (of : Nat → UInt64) (v : Int32) (h : DyW G d S W) (hfl : l.stackTraces = false) : CTW l G yX0_zoneShare cX0_zoneShare 4 (some .int) [(0, 9, 12, 13), (0, 9, 15, 84)] ({ frames := 10, cells := 60, slots := 200, locals := 213 } : Room) [.ref d, .int v, .ref o] ([(o, .inl (G.2 6, 1, .inr (.inr (.inr (.inl of)))))] ++ (W ++ [])) RH0 (S := (Nat → UInt64) × va_W) (fun (u_ : (Nat → UInt64) × va_W) => some (.int (nI ((q_share (dC S) v).1)))) (fun (u_ : (Nat → UInt64) × va_W) => ((q_share (dC S) v).1 = 0 → u_.1 0 = FP.f2d (q_share (dC S) v).2) ∧ (q_share (dC S) v).1 < 10 ∧ DyW G d S u_.2) (fun (u_ : (Nat → UInt64) × va_W) => ([(o, .inl (G.2 6, 1, .inr (.inr (.inr (.inl u_.1)))))] ++ (u_.2 ++ []))) (fun (u_ : (Nat → UInt64) × va_W) (H : Heap) => True) := by
  refine CTW.of (by decide) (Nat.le_of_ble_eq_true rfl) ?_
  intro p e s m below meth c ls A H locs h9 hH0 hP hS hNc htab
  obtain ⟨cf, hr, hlk, hnm, hKB, hE, -, hD, -, hA, hAw, hRH, hl⟩ := h9
  have hx := cf.1
  have hb := cf.2.1
  have hml := cf.2.2.1
  have hown : s.vm.findClass RX0 = some m.cls := cf.2.2.2.1
  have hts := cf.2.2.2.2
  have hK := hKB.1
  have hl : lv_has ls 4 [(0, .ref d), (1, .int v), (2, .ref o)] := hl
  refine lv_aload_n hx hb dX0_zoneShare_0 rfl (lv_at hl 2 rfl) ?_
  refine lv_iconst (v := nI 0) hx hb dX0_zoneShare_1 (by decide) ?_
  refine lv_aload_n hx hb dX0_zoneShare_2 rfl (lv_at hl 0 rfl) ?_
  refine lv_iload_n hx hb dX0_zoneShare_3 rfl (lv_at hl 1 rfl) ?_
  have hpm_3481 : (([(o, .inl (G.2 6, 1, .inr (.inr (.inr (.inl of)))))] ++ (W ++ [])) : va_W).Perm ((W ++ []) ++ [(o, .inl (G.2 6, 1, .inr (.inr (.inr (.inl of)))))]) := segs_perm [[(o, .inl (G.2 6, 1, .inr (.inr (.inr (.inl of)))))], W] [1] [0] rfl
  have hF := hF_ofP (wc := (W ++ [])) hD hS hA hpm_3481
  refine go_cxP hS hP hD hpm_3481 hF
      (vx_runV (As := [.int v]) (rest := [.int (nI 0), .ref o]) cf (dX1_zoneShare l G d S W v (show DyW G d S W from by first | assumption | omega) hfl H.size) (cwV 1 hts (lw_V q1292 q1293 q1294 q47 q1295) rfl rfl rfl (by decide +kernel) ⟨Nat.le_of_ble_eq_true rfl, Nat.le_of_ble_eq_true rfl⟩) (preV_of hKB hE hS hF (DyW.recv hK h (seg_at [[(o, .inl (G.2 6, 1, .inr (.inr (.inr (.inl of)))))], W] 1 rfl hP)) (P_left (P_perm hpm_3481 hP)) ((D_left (D_perm hpm_3481 hD)).weaken (fun _ _ _ _ => trivial)) trivial) rfl rfl hl.1 rfl (lv_room (Nat.le_of_ble_eq_true rfl)) dX0_zoneShare_4 ⟨show 0 + 60 ≤ 60 from by first | decide | omega, show 0 + 200 ≤ 200 from by first | decide | omega⟩)
      (fun u_ H locs ce q9 hq hph (hP : va_P G.1 CL ([(o, .inl (G.2 6, 1, .inr (.inr (.inr (.inl of)))))] ++ (u_.2 ++ [])) H) (hD : va_D A ([(o, .inl (G.2 6, 1, .inr (.inr (.inr (.inl of)))))] ++ (u_.2 ++ []))) hS hfz hfk hce hcv hcl => ?_) (fun u_ H locs hq hph (hP : va_P G.1 CL ([(o, .inl (G.2 6, 1, .inr (.inr (.inr (.inl of)))))] ++ (u_.2 ++ [])) H) (hD : va_D A ([(o, .inl (G.2 6, 1, .inr (.inr (.inr (.inl of)))))] ++ (u_.2 ++ []))) hS hfz hfk => ?_)
  · obtain ⟨kx_3484, W2_3485⟩ := u_
    obtain ⟨hq_3486, hq_3487, hq_3488⟩ : (q_share (dC S) v).1 = kx_3484 ∧ DyW G d S W2_3485 ∧ 1 ≤ kx_3484 ∧ kx_3484 ≤ 2 := hq
    have hpm_3489 : ([(o, .inl (G.2 6, 1, .inr (.inr (.inr (.inl of)))))] ++ (W2_3485 ++ []) : va_W).Perm ([(o, .inl (G.2 6, 1, .inr (.inr (.inr (.inl of)))))] ++ (W2_3485 ++ [])) := segs_perm2 [[(o, .inl (G.2 6, 1, .inr (.inr (.inr (.inl of)))))]] [W2_3485] [0, 1] rfl
    have hP : va_P G.1 CL ([(o, .inl (G.2 6, 1, .inr (.inr (.inr (.inl of)))))] ++ (W2_3485 ++ [])) H := P_perm hpm_3489 hP
    have hD : va_D A ([(o, .inl (G.2 6, 1, .inr (.inr (.inr (.inl of)))))] ++ (W2_3485 ++ [])) := D_perm hpm_3489 hD
    rcases (show kx_3484 = 1 ∨ kx_3484 = 2 by omega) with rfl | rfl
    · have hcl9 : s.vm.findClass eA = some ce.cls := hcl
      refine vx_catch (name := eA) (E := eA) hown [] (⟨0, 9, 12, 13⟩ : ExceptionTableEntry) [(⟨0, 9, 15, 84⟩ : ExceptionTableEntry)] (by rw [htab]; rfl) (fun z hz => absurd hz List.not_mem_nil) (by decide) (by decide) (hts _ q680) (va_Nw.use rfl (hKB.nest q698 rfl)) hce hcv hcl9 ?_
      refine W.eq (g2 := F0 m 12 ls [.ref q9]) rfl ?_
      refine lv_astore_n (lv' := [(3, .ref q9), (0, .ref d), (1, .int v), (2, .ref o)]) hx hb dX0_zoneShare_12 rfl hl (by decide) rfl (fun ls hl => ?_)
      refine lv_iconst (v := nI 1) hx hb dX0_zoneShare_13 (by decide) ?_
      refine vx_ret ?_
      have hpm_3490 : (([(o, .inl (G.2 6, 1, .inr (.inr (.inr (.inl of)))))] ++ (W2_3485 ++ [])) : va_W).Perm (([(o, .inl (G.2 6, 1, .inr (.inr (.inr (.inl of)))))] ++ (W2_3485 ++ [])) ++ []) := segs_perm [[(o, .inl (G.2 6, 1, .inr (.inr (.inr (.inl of)))))], W2_3485] [0, 1] [] rfl
      have hP9 : va_P G.1 CL ([(o, .inl (G.2 6, 1, .inr (.inr (.inr (.inl of)))))] ++ (W2_3485 ++ [])) H := P_left (P_perm hpm_3490 hP)
      have hD9 : va_D A ([(o, .inl (G.2 6, 1, .inr (.inr (.inr (.inl of)))))] ++ (W2_3485 ++ [])) := D_left (D_perm hpm_3490 hD)
      exact end_i hx hb hr hlk (rfl) (qc_of (of, W2_3485) (v := some (.int (nI 1))) (by rw [hq_3486]) (⟨fun z9 => absurd (hq_3486.symm.trans z9) (by decide), by rw [hq_3486]; decide, hq_3487⟩) hP9 hD9 (trivial) hS) hS dX0_zoneShare_14 (show 0 + 60 ≤ 60 from by first | exact Nat.le_refl _ | decide | omega) (show 0 + 200 ≤ 200 from by first | exact Nat.le_refl _ | decide | omega)
    · have hcl9 : s.vm.findClass eR = some ce.cls := hcl
      refine vx_catch (name := eR) (E := eR) hown [(⟨0, 9, 12, 13⟩ : ExceptionTableEntry)] (⟨0, 9, 15, 84⟩ : ExceptionTableEntry) [] (by rw [htab]; rfl) (fun z hz => by rcases List.mem_singleton.mp hz with rfl; exact Or.inr ⟨by decide, _, hts _ q680, hNc _ (List.mem_of_getElem? (i := 4) rfl)⟩) (by decide) (by decide) (hts _ q1278) (va_Nw.use rfl (hKB.nest q1290 rfl)) hce hcv hcl9 ?_
      refine W.eq (g2 := F0 m 15 ls [.ref q9]) rfl ?_
      refine lv_astore_n (lv' := [(3, .ref q9), (0, .ref d), (1, .int v), (2, .ref o)]) hx hb dX0_zoneShare_15 rfl hl (by decide) rfl (fun ls hl => ?_)
      refine lv_iconst (v := nI 2) hx hb dX0_zoneShare_16 (by decide) ?_
      refine vx_ret ?_
      have hpm_3491 : (([(o, .inl (G.2 6, 1, .inr (.inr (.inr (.inl of)))))] ++ (W2_3485 ++ [])) : va_W).Perm (([(o, .inl (G.2 6, 1, .inr (.inr (.inr (.inl of)))))] ++ (W2_3485 ++ [])) ++ []) := segs_perm [[(o, .inl (G.2 6, 1, .inr (.inr (.inr (.inl of)))))], W2_3485] [0, 1] [] rfl
      have hP9 : va_P G.1 CL ([(o, .inl (G.2 6, 1, .inr (.inr (.inr (.inl of)))))] ++ (W2_3485 ++ [])) H := P_left (P_perm hpm_3491 hP)
      have hD9 : va_D A ([(o, .inl (G.2 6, 1, .inr (.inr (.inr (.inl of)))))] ++ (W2_3485 ++ [])) := D_left (D_perm hpm_3491 hD)
      exact end_i hx hb hr hlk (rfl) (qc_of (of, W2_3485) (v := some (.int (nI 2))) (by rw [hq_3486]) (⟨fun z9 => absurd (hq_3486.symm.trans z9) (by decide), by rw [hq_3486]; decide, hq_3487⟩) hP9 hD9 (trivial) hS) hS dX0_zoneShare_17 (show 0 + 60 ≤ 60 from by first | exact Nat.le_refl _ | decide | omega) (show 0 + 200 ≤ 200 from by first | exact Nat.le_refl _ | decide | omega)
  · obtain ⟨rr_3482, W2_3483⟩ := u_
    obtain ⟨hq_3492, hq_3493⟩ : q_share (dC S) v = (0, rr_3482) ∧ DyW G d S W2_3483 := hq
    have hpm_3494 : ([(o, .inl (G.2 6, 1, .inr (.inr (.inr (.inl of)))))] ++ (W2_3483 ++ []) : va_W).Perm ([(o, .inl (G.2 6, 1, .inr (.inr (.inr (.inl of)))))] ++ (W2_3483 ++ [])) := segs_perm2 [[(o, .inl (G.2 6, 1, .inr (.inr (.inr (.inl of)))))]] [W2_3483] [0, 1] rfl
    have hP : va_P G.1 CL ([(o, .inl (G.2 6, 1, .inr (.inr (.inr (.inl of)))))] ++ (W2_3483 ++ [])) H := P_perm hpm_3494 hP
    have hD : va_D A ([(o, .inl (G.2 6, 1, .inr (.inr (.inr (.inl of)))))] ++ (W2_3483 ++ [])) := D_perm hpm_3494 hD
    refine W.eq (g2 := F0 m 7 ls [.float rr_3482, .int (nI 0), .ref o]) rfl ?_
    refine lv_f2d hx hb dX0_zoneShare_7 (share_f2d h.inv.1 hq_3492) ?_
    refine r_dast hx hb hK hP hD hS 0 6 rfl rfl (i := 0) (by omega) (by omega) dX0_zoneShare_8 (fun H locs (hP : va_P G.1 CL ([(o, .inl (G.2 6, 1, .inr (.inr (.inr (.inl (vf_upd of 0 (FP.f2d rr_3482)))))))] ++ (W2_3483 ++ [])) H) (hD : va_D A ([(o, .inl (G.2 6, 1, .inr (.inr (.inr (.inl (vf_upd of 0 (FP.f2d rr_3482)))))))] ++ (W2_3483 ++ []))) hS => ?_)
    refine lv_goto (tgt := 18) hx hb dX0_zoneShare_9 (by decide) ?_
    refine lv_iconst (v := nI 0) hx hb dX0_zoneShare_18 (by decide) ?_
    refine vx_ret ?_
    have hpm_3495 : (([(o, .inl (G.2 6, 1, .inr (.inr (.inr (.inl (vf_upd of 0 (FP.f2d rr_3482)))))))] ++ (W2_3483 ++ [])) : va_W).Perm (([(o, .inl (G.2 6, 1, .inr (.inr (.inr (.inl (vf_upd of 0 (FP.f2d rr_3482)))))))] ++ (W2_3483 ++ [])) ++ []) := segs_perm [[(o, .inl (G.2 6, 1, .inr (.inr (.inr (.inl (vf_upd of 0 (FP.f2d rr_3482)))))))], W2_3483] [0, 1] [] rfl
    have hP9 : va_P G.1 CL ([(o, .inl (G.2 6, 1, .inr (.inr (.inr (.inl (vf_upd of 0 (FP.f2d rr_3482)))))))] ++ (W2_3483 ++ [])) H := P_left (P_perm hpm_3495 hP)
    have hD9 : va_D A ([(o, .inl (G.2 6, 1, .inr (.inr (.inr (.inl (vf_upd of 0 (FP.f2d rr_3482)))))))] ++ (W2_3483 ++ [])) := D_left (D_perm hpm_3495 hD)
    exact end_i hx hb hr hlk (rfl) (qc_of (vf_upd of 0 (FP.f2d rr_3482), W2_3483) (v := some (.int (nI 0))) (by rw [hq_3492]) (⟨fun _ => by rw [hq_3492]; exact vf_us, by rw [hq_3492]; exact (by decide : (0 : Nat) < 10), hq_3493⟩) hP9 hD9 (trivial) hS) hS dX0_zoneShare_19 (show 0 + 60 ≤ 60 from by first | exact Nat.le_refl _ | decide | omega) (show 0 + 200 ≤ 200 from by first | exact Nat.le_refl _ | decide | omega)

set_option maxHeartbeats 4000000 in
theorem wX0_bestEffort (l : Launch) (G : Gt) (d : Nat) (S : DS) (W : va_W) (o : Nat) (of : Nat → Int64) (v : Int32) (h : DyW G d S W) (hfl : l.stackTraces = false) : CTW l G yX0_bestEffort cX0_bestEffort 4 (some .int) [(0, 9, 12, 13), (0, 9, 15, 24)] ({ frames := 8, cells := 90, slots := 20000, locals := 140 } : Room) [.ref d, .int v, .ref o] ([(o, .inl (G.2 5, 1, .inr (.inl of)))] ++ (W ++ [])) RH0 (S := (Nat → Int64) × va_W) (fun (u_ : (Nat → Int64) × va_W) => some (.int (nI ((q_bestEff (dC S) v).1)))) (fun (u_ : (Nat → Int64) × va_W) => ((q_bestEff (dC S) v).1 = 0 → u_.1 0 = ((q_bestEff (dC S) v).2).toInt64) ∧ (q_bestEff (dC S) v).1 < 10 ∧ DyW G d S u_.2) (fun (u_ : (Nat → Int64) × va_W) => ([(o, .inl (G.2 5, 1, .inr (.inl u_.1)))] ++ (u_.2 ++ []))) (fun (u_ : (Nat → Int64) × va_W) (H : Heap) => True) := by
  refine CTW.of (by decide) (Nat.le_of_ble_eq_true rfl) ?_
  intro p e s m below meth c ls A H locs h9 hH0 hP hS hNc htab
  obtain ⟨cf, hr, hlk, hnm, hKB, hE, -, hD, -, hA, hAw, hRH, hl⟩ := h9
  have hx := cf.1
  have hb := cf.2.1
  have hml := cf.2.2.1
  have hown : s.vm.findClass RX0 = some m.cls := cf.2.2.2.1
  have hts := cf.2.2.2.2
  have hK := hKB.1
  have hl : lv_has ls 4 [(0, .ref d), (1, .int v), (2, .ref o)] := hl
  refine lv_aload_n hx hb dX0_bestEffort_0 rfl (lv_at hl 2 rfl) ?_
  refine lv_iconst (v := nI 0) hx hb dX0_bestEffort_1 (by decide) ?_
  refine lv_aload_n hx hb dX0_bestEffort_2 rfl (lv_at hl 0 rfl) ?_
  refine lv_iload_n hx hb dX0_bestEffort_3 rfl (lv_at hl 1 rfl) ?_
  have hpm_3496 : (([(o, .inl (G.2 5, 1, .inr (.inl of)))] ++ (W ++ [])) : va_W).Perm ((W ++ []) ++ [(o, .inl (G.2 5, 1, .inr (.inl of)))]) := segs_perm [[(o, .inl (G.2 5, 1, .inr (.inl of)))], W] [1] [0] rfl
  have hF := hF_ofP (wc := (W ++ [])) hD hS hA hpm_3496
  refine go_cxP hS hP hD hpm_3496 hF
      (vx_runV (As := [.int v]) (rest := [.int (nI 0), .ref o]) cf (dX1_bestEffort l G d S W v (show DyW G d S W from by first | assumption | omega) hfl H.size) (cwV 1 hts (lw_V q1387 q1388 q1389 q47 q1390) rfl rfl rfl (by decide +kernel) ⟨Nat.le_of_ble_eq_true rfl, Nat.le_of_ble_eq_true rfl⟩) (preV_of hKB hE hS hF (DyW.recv hK h (seg_at [[(o, .inl (G.2 5, 1, .inr (.inl of)))], W] 1 rfl hP)) (P_left (P_perm hpm_3496 hP)) ((D_left (D_perm hpm_3496 hD)).weaken (fun _ _ _ _ => trivial)) trivial) rfl rfl hl.1 rfl (lv_room (Nat.le_of_ble_eq_true rfl)) dX0_bestEffort_4 ⟨show 0 + 90 ≤ 90 from by first | decide | omega, show 0 + 20000 ≤ 20000 from by first | decide | omega⟩)
      (fun u_ H locs ce q9 hq hph (hP : va_P G.1 CL ([(o, .inl (G.2 5, 1, .inr (.inl of)))] ++ (u_.2 ++ [])) H) (hD : va_D A ([(o, .inl (G.2 5, 1, .inr (.inl of)))] ++ (u_.2 ++ []))) hS hfz hfk hce hcv hcl => ?_) (fun u_ H locs hq hph (hP : va_P G.1 CL ([(o, .inl (G.2 5, 1, .inr (.inl of)))] ++ (u_.2 ++ [])) H) (hD : va_D A ([(o, .inl (G.2 5, 1, .inr (.inl of)))] ++ (u_.2 ++ []))) hS hfz hfk => ?_)
  · obtain ⟨kx_3499, W2_3500⟩ := u_
    obtain ⟨hq_3501, hq_3502, hq_3503⟩ : (q_bestEff (dC S) v).1 = kx_3499 ∧ DyW G d S W2_3500 ∧ 1 ≤ kx_3499 ∧ kx_3499 ≤ 2 := hq
    have hpm_3504 : ([(o, .inl (G.2 5, 1, .inr (.inl of)))] ++ (W2_3500 ++ []) : va_W).Perm ([(o, .inl (G.2 5, 1, .inr (.inl of)))] ++ (W2_3500 ++ [])) := segs_perm2 [[(o, .inl (G.2 5, 1, .inr (.inl of)))]] [W2_3500] [0, 1] rfl
    have hP : va_P G.1 CL ([(o, .inl (G.2 5, 1, .inr (.inl of)))] ++ (W2_3500 ++ [])) H := P_perm hpm_3504 hP
    have hD : va_D A ([(o, .inl (G.2 5, 1, .inr (.inl of)))] ++ (W2_3500 ++ [])) := D_perm hpm_3504 hD
    rcases (show kx_3499 = 1 ∨ kx_3499 = 2 by omega) with rfl | rfl
    · have hcl9 : s.vm.findClass eA = some ce.cls := hcl
      refine vx_catch (name := eA) (E := eA) hown [] (⟨0, 9, 12, 13⟩ : ExceptionTableEntry) [(⟨0, 9, 15, 24⟩ : ExceptionTableEntry)] (by rw [htab]; rfl) (fun z hz => absurd hz List.not_mem_nil) (by decide) (by decide) (hts _ q680) (va_Nw.use rfl (hKB.nest q698 rfl)) hce hcv hcl9 ?_
      refine W.eq (g2 := F0 m 12 ls [.ref q9]) rfl ?_
      refine lv_astore_n (lv' := [(3, .ref q9), (0, .ref d), (1, .int v), (2, .ref o)]) hx hb dX0_bestEffort_12 rfl hl (by decide) rfl (fun ls hl => ?_)
      refine lv_iconst (v := nI 1) hx hb dX0_bestEffort_13 (by decide) ?_
      refine vx_ret ?_
      have hpm_3505 : (([(o, .inl (G.2 5, 1, .inr (.inl of)))] ++ (W2_3500 ++ [])) : va_W).Perm (([(o, .inl (G.2 5, 1, .inr (.inl of)))] ++ (W2_3500 ++ [])) ++ []) := segs_perm [[(o, .inl (G.2 5, 1, .inr (.inl of)))], W2_3500] [0, 1] [] rfl
      have hP9 : va_P G.1 CL ([(o, .inl (G.2 5, 1, .inr (.inl of)))] ++ (W2_3500 ++ [])) H := P_left (P_perm hpm_3505 hP)
      have hD9 : va_D A ([(o, .inl (G.2 5, 1, .inr (.inl of)))] ++ (W2_3500 ++ [])) := D_left (D_perm hpm_3505 hD)
      exact end_i hx hb hr hlk (rfl) (qc_of (of, W2_3500) (v := some (.int (nI 1))) (by rw [hq_3501]) (⟨fun z9 => absurd (hq_3501.symm.trans z9) (by decide), by rw [hq_3501]; decide, hq_3502⟩) hP9 hD9 (trivial) hS) hS dX0_bestEffort_14 (show 0 + 90 ≤ 90 from by first | exact Nat.le_refl _ | decide | omega) (show 0 + 20000 ≤ 20000 from by first | exact Nat.le_refl _ | decide | omega)
    · have hcl9 : s.vm.findClass eN = some ce.cls := hcl
      refine vx_catch (name := eN) (E := eN) hown [(⟨0, 9, 12, 13⟩ : ExceptionTableEntry)] (⟨0, 9, 15, 24⟩ : ExceptionTableEntry) [] (by rw [htab]; rfl) (fun z hz => by rcases List.mem_singleton.mp hz with rfl; exact Or.inr ⟨by decide, _, hts _ q680, hNc _ (List.mem_of_getElem? (i := 3) rfl)⟩) (by decide) (by decide) (hts _ q1013) (va_Nw.use rfl (hKB.nest q334 rfl)) hce hcv hcl9 ?_
      refine W.eq (g2 := F0 m 15 ls [.ref q9]) rfl ?_
      refine lv_astore_n (lv' := [(3, .ref q9), (0, .ref d), (1, .int v), (2, .ref o)]) hx hb dX0_bestEffort_15 rfl hl (by decide) rfl (fun ls hl => ?_)
      refine lv_iconst (v := nI 2) hx hb dX0_bestEffort_16 (by decide) ?_
      refine vx_ret ?_
      have hpm_3506 : (([(o, .inl (G.2 5, 1, .inr (.inl of)))] ++ (W2_3500 ++ [])) : va_W).Perm (([(o, .inl (G.2 5, 1, .inr (.inl of)))] ++ (W2_3500 ++ [])) ++ []) := segs_perm [[(o, .inl (G.2 5, 1, .inr (.inl of)))], W2_3500] [0, 1] [] rfl
      have hP9 : va_P G.1 CL ([(o, .inl (G.2 5, 1, .inr (.inl of)))] ++ (W2_3500 ++ [])) H := P_left (P_perm hpm_3506 hP)
      have hD9 : va_D A ([(o, .inl (G.2 5, 1, .inr (.inl of)))] ++ (W2_3500 ++ [])) := D_left (D_perm hpm_3506 hD)
      exact end_i hx hb hr hlk (rfl) (qc_of (of, W2_3500) (v := some (.int (nI 2))) (by rw [hq_3501]) (⟨fun z9 => absurd (hq_3501.symm.trans z9) (by decide), by rw [hq_3501]; decide, hq_3502⟩) hP9 hD9 (trivial) hS) hS dX0_bestEffort_17 (show 0 + 90 ≤ 90 from by first | exact Nat.le_refl _ | decide | omega) (show 0 + 20000 ≤ 20000 from by first | exact Nat.le_refl _ | decide | omega)
  · obtain ⟨rr_3497, W2_3498⟩ := u_
    obtain ⟨hq_3507, hq_3508⟩ : q_bestEff (dC S) v = (0, rr_3497) ∧ DyW G d S W2_3498 := hq
    have hpm_3509 : ([(o, .inl (G.2 5, 1, .inr (.inl of)))] ++ (W2_3498 ++ []) : va_W).Perm ([(o, .inl (G.2 5, 1, .inr (.inl of)))] ++ (W2_3498 ++ [])) := segs_perm2 [[(o, .inl (G.2 5, 1, .inr (.inl of)))]] [W2_3498] [0, 1] rfl
    have hP : va_P G.1 CL ([(o, .inl (G.2 5, 1, .inr (.inl of)))] ++ (W2_3498 ++ [])) H := P_perm hpm_3509 hP
    have hD : va_D A ([(o, .inl (G.2 5, 1, .inr (.inl of)))] ++ (W2_3498 ++ [])) := D_perm hpm_3509 hD
    refine W.eq (g2 := F0 m 7 ls [.int rr_3497, .int (nI 0), .ref o]) rfl ?_
    refine lv_i2l (v := (rr_3497).toInt64) hx hb dX0_bestEffort_7 rfl ?_
    refine r_last hx hb hK hP hD hS 0 5 rfl rfl (i := 0) (by omega) (by omega) dX0_bestEffort_8 (fun H locs (hP : va_P G.1 CL ([(o, .inl (G.2 5, 1, .inr (.inl (vp_updL of 0 ((rr_3497).toInt64)))))] ++ (W2_3498 ++ [])) H) (hD : va_D A ([(o, .inl (G.2 5, 1, .inr (.inl (vp_updL of 0 ((rr_3497).toInt64)))))] ++ (W2_3498 ++ []))) hS => ?_)
    refine lv_goto (tgt := 18) hx hb dX0_bestEffort_9 (by decide) ?_
    refine lv_iconst (v := nI 0) hx hb dX0_bestEffort_18 (by decide) ?_
    refine vx_ret ?_
    have hpm_3510 : (([(o, .inl (G.2 5, 1, .inr (.inl (vp_updL of 0 ((rr_3497).toInt64)))))] ++ (W2_3498 ++ [])) : va_W).Perm (([(o, .inl (G.2 5, 1, .inr (.inl (vp_updL of 0 ((rr_3497).toInt64)))))] ++ (W2_3498 ++ [])) ++ []) := segs_perm [[(o, .inl (G.2 5, 1, .inr (.inl (vp_updL of 0 ((rr_3497).toInt64)))))], W2_3498] [0, 1] [] rfl
    have hP9 : va_P G.1 CL ([(o, .inl (G.2 5, 1, .inr (.inl (vp_updL of 0 ((rr_3497).toInt64)))))] ++ (W2_3498 ++ [])) H := P_left (P_perm hpm_3510 hP)
    have hD9 : va_D A ([(o, .inl (G.2 5, 1, .inr (.inl (vp_updL of 0 ((rr_3497).toInt64)))))] ++ (W2_3498 ++ [])) := D_left (D_perm hpm_3510 hD)
    exact end_i hx hb hr hlk (rfl) (qc_of (vp_updL of 0 ((rr_3497).toInt64), W2_3498) (v := some (.int (nI 0))) (by rw [hq_3507]) (⟨fun _ => by rw [hq_3507]; exact pk_uLs, by rw [hq_3507]; exact (by decide : (0 : Nat) < 10), hq_3508⟩) hP9 hD9 (trivial) hS) hS dX0_bestEffort_19 (show 0 + 90 ≤ 90 from by first | exact Nat.le_refl _ | decide | omega) (show 0 + 20000 ≤ 20000 from by first | exact Nat.le_refl _ | decide | omega)

set_option maxHeartbeats 4000000 in
theorem wX0_bestEffortSession (l : Launch) (G : Gt) (d : Nat) (S : DS) (W : va_W) (o : Nat) (of : Nat → Int64) (v : Int32) (h : DyW G d S W) (hfl : l.stackTraces = false) : CTW l G yX0_bestEffortSession cX0_bestEffortSession 4 (some .int) [(0, 9, 12, 13), (0, 9, 15, 24)] ({ frames := 8, cells := 90, slots := 20000, locals := 142 } : Room) [.ref d, .int v, .ref o] ([(o, .inl (G.2 5, 1, .inr (.inl of)))] ++ (W ++ [])) RH0 (S := (Nat → Int64) × va_W) (fun (u_ : (Nat → Int64) × va_W) => some (.int (nI ((q_bestEffS (dC S) v).1)))) (fun (u_ : (Nat → Int64) × va_W) => ((q_bestEffS (dC S) v).1 = 0 → u_.1 0 = ((q_bestEffS (dC S) v).2).toInt64) ∧ (q_bestEffS (dC S) v).1 < 10 ∧ DyW G d S u_.2) (fun (u_ : (Nat → Int64) × va_W) => ([(o, .inl (G.2 5, 1, .inr (.inl u_.1)))] ++ (u_.2 ++ []))) (fun (u_ : (Nat → Int64) × va_W) (H : Heap) => True) := by
  refine CTW.of (by decide) (Nat.le_of_ble_eq_true rfl) ?_
  intro p e s m below meth c ls A H locs h9 hH0 hP hS hNc htab
  obtain ⟨cf, hr, hlk, hnm, hKB, hE, -, hD, -, hA, hAw, hRH, hl⟩ := h9
  have hx := cf.1
  have hb := cf.2.1
  have hml := cf.2.2.1
  have hown : s.vm.findClass RX0 = some m.cls := cf.2.2.2.1
  have hts := cf.2.2.2.2
  have hK := hKB.1
  have hl : lv_has ls 4 [(0, .ref d), (1, .int v), (2, .ref o)] := hl
  refine lv_aload_n hx hb dX0_bestEffortSession_0 rfl (lv_at hl 2 rfl) ?_
  refine lv_iconst (v := nI 0) hx hb dX0_bestEffortSession_1 (by decide) ?_
  refine lv_aload_n hx hb dX0_bestEffortSession_2 rfl (lv_at hl 0 rfl) ?_
  refine lv_iload_n hx hb dX0_bestEffortSession_3 rfl (lv_at hl 1 rfl) ?_
  have hpm_3511 : (([(o, .inl (G.2 5, 1, .inr (.inl of)))] ++ (W ++ [])) : va_W).Perm ((W ++ []) ++ [(o, .inl (G.2 5, 1, .inr (.inl of)))]) := segs_perm [[(o, .inl (G.2 5, 1, .inr (.inl of)))], W] [1] [0] rfl
  have hF := hF_ofP (wc := (W ++ [])) hD hS hA hpm_3511
  refine go_cxP hS hP hD hpm_3511 hF
      (vx_runV (As := [.int v]) (rest := [.int (nI 0), .ref o]) cf (dX1_bestEffortSession l G d S W v (show DyW G d S W from by first | assumption | omega) hfl H.size) (cwV 1 hts (lw_V q1409 q1410 q1411 q47 q1412) rfl rfl rfl (by decide +kernel) ⟨Nat.le_of_ble_eq_true rfl, Nat.le_of_ble_eq_true rfl⟩) (preV_of hKB hE hS hF (DyW.recv hK h (seg_at [[(o, .inl (G.2 5, 1, .inr (.inl of)))], W] 1 rfl hP)) (P_left (P_perm hpm_3511 hP)) ((D_left (D_perm hpm_3511 hD)).weaken (fun _ _ _ _ => trivial)) trivial) rfl rfl hl.1 rfl (lv_room (Nat.le_of_ble_eq_true rfl)) dX0_bestEffortSession_4 ⟨show 0 + 90 ≤ 90 from by first | decide | omega, show 0 + 20000 ≤ 20000 from by first | decide | omega⟩)
      (fun u_ H locs ce q9 hq hph (hP : va_P G.1 CL ([(o, .inl (G.2 5, 1, .inr (.inl of)))] ++ (u_.2 ++ [])) H) (hD : va_D A ([(o, .inl (G.2 5, 1, .inr (.inl of)))] ++ (u_.2 ++ []))) hS hfz hfk hce hcv hcl => ?_) (fun u_ H locs hq hph (hP : va_P G.1 CL ([(o, .inl (G.2 5, 1, .inr (.inl of)))] ++ (u_.2 ++ [])) H) (hD : va_D A ([(o, .inl (G.2 5, 1, .inr (.inl of)))] ++ (u_.2 ++ []))) hS hfz hfk => ?_)
  · obtain ⟨kx_3514, W2_3515⟩ := u_
    obtain ⟨hq_3516, hq_3517, hq_3518⟩ : (q_bestEffS (dC S) v).1 = kx_3514 ∧ DyW G d S W2_3515 ∧ 1 ≤ kx_3514 ∧ kx_3514 ≤ 2 := hq
    have hpm_3519 : ([(o, .inl (G.2 5, 1, .inr (.inl of)))] ++ (W2_3515 ++ []) : va_W).Perm ([(o, .inl (G.2 5, 1, .inr (.inl of)))] ++ (W2_3515 ++ [])) := segs_perm2 [[(o, .inl (G.2 5, 1, .inr (.inl of)))]] [W2_3515] [0, 1] rfl
    have hP : va_P G.1 CL ([(o, .inl (G.2 5, 1, .inr (.inl of)))] ++ (W2_3515 ++ [])) H := P_perm hpm_3519 hP
    have hD : va_D A ([(o, .inl (G.2 5, 1, .inr (.inl of)))] ++ (W2_3515 ++ [])) := D_perm hpm_3519 hD
    rcases (show kx_3514 = 1 ∨ kx_3514 = 2 by omega) with rfl | rfl
    · have hcl9 : s.vm.findClass eA = some ce.cls := hcl
      refine vx_catch (name := eA) (E := eA) hown [] (⟨0, 9, 12, 13⟩ : ExceptionTableEntry) [(⟨0, 9, 15, 24⟩ : ExceptionTableEntry)] (by rw [htab]; rfl) (fun z hz => absurd hz List.not_mem_nil) (by decide) (by decide) (hts _ q680) (va_Nw.use rfl (hKB.nest q698 rfl)) hce hcv hcl9 ?_
      refine W.eq (g2 := F0 m 12 ls [.ref q9]) rfl ?_
      refine lv_astore_n (lv' := [(3, .ref q9), (0, .ref d), (1, .int v), (2, .ref o)]) hx hb dX0_bestEffortSession_12 rfl hl (by decide) rfl (fun ls hl => ?_)
      refine lv_iconst (v := nI 1) hx hb dX0_bestEffortSession_13 (by decide) ?_
      refine vx_ret ?_
      have hpm_3520 : (([(o, .inl (G.2 5, 1, .inr (.inl of)))] ++ (W2_3515 ++ [])) : va_W).Perm (([(o, .inl (G.2 5, 1, .inr (.inl of)))] ++ (W2_3515 ++ [])) ++ []) := segs_perm [[(o, .inl (G.2 5, 1, .inr (.inl of)))], W2_3515] [0, 1] [] rfl
      have hP9 : va_P G.1 CL ([(o, .inl (G.2 5, 1, .inr (.inl of)))] ++ (W2_3515 ++ [])) H := P_left (P_perm hpm_3520 hP)
      have hD9 : va_D A ([(o, .inl (G.2 5, 1, .inr (.inl of)))] ++ (W2_3515 ++ [])) := D_left (D_perm hpm_3520 hD)
      exact end_i hx hb hr hlk (rfl) (qc_of (of, W2_3515) (v := some (.int (nI 1))) (by rw [hq_3516]) (⟨fun z9 => absurd (hq_3516.symm.trans z9) (by decide), by rw [hq_3516]; decide, hq_3517⟩) hP9 hD9 (trivial) hS) hS dX0_bestEffortSession_14 (show 0 + 90 ≤ 90 from by first | exact Nat.le_refl _ | decide | omega) (show 0 + 20000 ≤ 20000 from by first | exact Nat.le_refl _ | decide | omega)
    · have hcl9 : s.vm.findClass eN = some ce.cls := hcl
      refine vx_catch (name := eN) (E := eN) hown [(⟨0, 9, 12, 13⟩ : ExceptionTableEntry)] (⟨0, 9, 15, 24⟩ : ExceptionTableEntry) [] (by rw [htab]; rfl) (fun z hz => by rcases List.mem_singleton.mp hz with rfl; exact Or.inr ⟨by decide, _, hts _ q680, hNc _ (List.mem_of_getElem? (i := 3) rfl)⟩) (by decide) (by decide) (hts _ q1013) (va_Nw.use rfl (hKB.nest q334 rfl)) hce hcv hcl9 ?_
      refine W.eq (g2 := F0 m 15 ls [.ref q9]) rfl ?_
      refine lv_astore_n (lv' := [(3, .ref q9), (0, .ref d), (1, .int v), (2, .ref o)]) hx hb dX0_bestEffortSession_15 rfl hl (by decide) rfl (fun ls hl => ?_)
      refine lv_iconst (v := nI 2) hx hb dX0_bestEffortSession_16 (by decide) ?_
      refine vx_ret ?_
      have hpm_3521 : (([(o, .inl (G.2 5, 1, .inr (.inl of)))] ++ (W2_3515 ++ [])) : va_W).Perm (([(o, .inl (G.2 5, 1, .inr (.inl of)))] ++ (W2_3515 ++ [])) ++ []) := segs_perm [[(o, .inl (G.2 5, 1, .inr (.inl of)))], W2_3515] [0, 1] [] rfl
      have hP9 : va_P G.1 CL ([(o, .inl (G.2 5, 1, .inr (.inl of)))] ++ (W2_3515 ++ [])) H := P_left (P_perm hpm_3521 hP)
      have hD9 : va_D A ([(o, .inl (G.2 5, 1, .inr (.inl of)))] ++ (W2_3515 ++ [])) := D_left (D_perm hpm_3521 hD)
      exact end_i hx hb hr hlk (rfl) (qc_of (of, W2_3515) (v := some (.int (nI 2))) (by rw [hq_3516]) (⟨fun z9 => absurd (hq_3516.symm.trans z9) (by decide), by rw [hq_3516]; decide, hq_3517⟩) hP9 hD9 (trivial) hS) hS dX0_bestEffortSession_17 (show 0 + 90 ≤ 90 from by first | exact Nat.le_refl _ | decide | omega) (show 0 + 20000 ≤ 20000 from by first | exact Nat.le_refl _ | decide | omega)
  · obtain ⟨rr_3512, W2_3513⟩ := u_
    obtain ⟨hq_3522, hq_3523⟩ : q_bestEffS (dC S) v = (0, rr_3512) ∧ DyW G d S W2_3513 := hq
    have hpm_3524 : ([(o, .inl (G.2 5, 1, .inr (.inl of)))] ++ (W2_3513 ++ []) : va_W).Perm ([(o, .inl (G.2 5, 1, .inr (.inl of)))] ++ (W2_3513 ++ [])) := segs_perm2 [[(o, .inl (G.2 5, 1, .inr (.inl of)))]] [W2_3513] [0, 1] rfl
    have hP : va_P G.1 CL ([(o, .inl (G.2 5, 1, .inr (.inl of)))] ++ (W2_3513 ++ [])) H := P_perm hpm_3524 hP
    have hD : va_D A ([(o, .inl (G.2 5, 1, .inr (.inl of)))] ++ (W2_3513 ++ [])) := D_perm hpm_3524 hD
    refine W.eq (g2 := F0 m 7 ls [.int rr_3512, .int (nI 0), .ref o]) rfl ?_
    refine lv_i2l (v := (rr_3512).toInt64) hx hb dX0_bestEffortSession_7 rfl ?_
    refine r_last hx hb hK hP hD hS 0 5 rfl rfl (i := 0) (by omega) (by omega) dX0_bestEffortSession_8 (fun H locs (hP : va_P G.1 CL ([(o, .inl (G.2 5, 1, .inr (.inl (vp_updL of 0 ((rr_3512).toInt64)))))] ++ (W2_3513 ++ [])) H) (hD : va_D A ([(o, .inl (G.2 5, 1, .inr (.inl (vp_updL of 0 ((rr_3512).toInt64)))))] ++ (W2_3513 ++ []))) hS => ?_)
    refine lv_goto (tgt := 18) hx hb dX0_bestEffortSession_9 (by decide) ?_
    refine lv_iconst (v := nI 0) hx hb dX0_bestEffortSession_18 (by decide) ?_
    refine vx_ret ?_
    have hpm_3525 : (([(o, .inl (G.2 5, 1, .inr (.inl (vp_updL of 0 ((rr_3512).toInt64)))))] ++ (W2_3513 ++ [])) : va_W).Perm (([(o, .inl (G.2 5, 1, .inr (.inl (vp_updL of 0 ((rr_3512).toInt64)))))] ++ (W2_3513 ++ [])) ++ []) := segs_perm [[(o, .inl (G.2 5, 1, .inr (.inl (vp_updL of 0 ((rr_3512).toInt64)))))], W2_3513] [0, 1] [] rfl
    have hP9 : va_P G.1 CL ([(o, .inl (G.2 5, 1, .inr (.inl (vp_updL of 0 ((rr_3512).toInt64)))))] ++ (W2_3513 ++ [])) H := P_left (P_perm hpm_3525 hP)
    have hD9 : va_D A ([(o, .inl (G.2 5, 1, .inr (.inl (vp_updL of 0 ((rr_3512).toInt64)))))] ++ (W2_3513 ++ [])) := D_left (D_perm hpm_3525 hD)
    exact end_i hx hb hr hlk (rfl) (qc_of (vp_updL of 0 ((rr_3512).toInt64), W2_3513) (v := some (.int (nI 0))) (by rw [hq_3522]) (⟨fun _ => by rw [hq_3522]; exact pk_uLs, by rw [hq_3522]; exact (by decide : (0 : Nat) < 10), hq_3523⟩) hP9 hD9 (trivial) hS) hS dX0_bestEffortSession_19 (show 0 + 90 ≤ 90 from by first | exact Nat.le_refl _ | decide | omega) (show 0 + 20000 ≤ 20000 from by first | exact Nat.le_refl _ | decide | omega)

set_option maxHeartbeats 4000000 in
theorem wX0_bestEffortByTrying (l : Launch) (G : Gt) (d : Nat) (S : DS) (W : va_W) (o : Nat) (of : Nat → Int64) (v : Int32) (h : DyW G d S W) (hfl : l.stackTraces = false) : CTW l G yX0_bestEffortByTrying cX0_bestEffortByTrying 4 (some .int) [(0, 9, 12, 13), (0, 9, 15, 24)] ({ frames := 8, cells := 90, slots := 20000, locals := 144 } : Room) [.ref d, .int v, .ref o] ([(o, .inl (G.2 5, 1, .inr (.inl of)))] ++ (W ++ [])) RH0 (S := (Nat → Int64) × va_W) (fun (u_ : (Nat → Int64) × va_W) => some (.int (nI ((q_bestEff (dC S) v).1)))) (fun (u_ : (Nat → Int64) × va_W) => ((q_bestEff (dC S) v).1 = 0 → u_.1 0 = ((q_bestEff (dC S) v).2).toInt64) ∧ (q_bestEff (dC S) v).1 < 10 ∧ DyW G d S u_.2) (fun (u_ : (Nat → Int64) × va_W) => ([(o, .inl (G.2 5, 1, .inr (.inl u_.1)))] ++ (u_.2 ++ []))) (fun (u_ : (Nat → Int64) × va_W) (H : Heap) => True) := by
  refine CTW.of (by decide) (Nat.le_of_ble_eq_true rfl) ?_
  intro p e s m below meth c ls A H locs h9 hH0 hP hS hNc htab
  obtain ⟨cf, hr, hlk, hnm, hKB, hE, -, hD, -, hA, hAw, hRH, hl⟩ := h9
  have hx := cf.1
  have hb := cf.2.1
  have hml := cf.2.2.1
  have hown : s.vm.findClass RX0 = some m.cls := cf.2.2.2.1
  have hts := cf.2.2.2.2
  have hK := hKB.1
  have hl : lv_has ls 4 [(0, .ref d), (1, .int v), (2, .ref o)] := hl
  refine lv_aload_n hx hb dX0_bestEffortByTrying_0 rfl (lv_at hl 2 rfl) ?_
  refine lv_iconst (v := nI 0) hx hb dX0_bestEffortByTrying_1 (by decide) ?_
  refine lv_aload_n hx hb dX0_bestEffortByTrying_2 rfl (lv_at hl 0 rfl) ?_
  refine lv_iload_n hx hb dX0_bestEffortByTrying_3 rfl (lv_at hl 1 rfl) ?_
  have hpm_3526 : (([(o, .inl (G.2 5, 1, .inr (.inl of)))] ++ (W ++ [])) : va_W).Perm ((W ++ []) ++ [(o, .inl (G.2 5, 1, .inr (.inl of)))]) := segs_perm [[(o, .inl (G.2 5, 1, .inr (.inl of)))], W] [1] [0] rfl
  have hF := hF_ofP (wc := (W ++ [])) hD hS hA hpm_3526
  refine go_cxP hS hP hD hpm_3526 hF
      (vx_runV (As := [.int v]) (rest := [.int (nI 0), .ref o]) cf (dX1_bestEffortByTrying l G d S W v (show DyW G d S W from by first | assumption | omega) hfl H.size) (cwV 1 hts (lw_V q1402 q1403 q1404 q47 q1405) rfl rfl rfl (by decide +kernel) ⟨Nat.le_of_ble_eq_true rfl, Nat.le_of_ble_eq_true rfl⟩) (preV_of hKB hE hS hF (DyW.recv hK h (seg_at [[(o, .inl (G.2 5, 1, .inr (.inl of)))], W] 1 rfl hP)) (P_left (P_perm hpm_3526 hP)) ((D_left (D_perm hpm_3526 hD)).weaken (fun _ _ _ _ => trivial)) trivial) rfl rfl hl.1 rfl (lv_room (Nat.le_of_ble_eq_true rfl)) dX0_bestEffortByTrying_4 ⟨show 0 + 90 ≤ 90 from by first | decide | omega, show 0 + 20000 ≤ 20000 from by first | decide | omega⟩)
      (fun u_ H locs ce q9 hq hph (hP : va_P G.1 CL ([(o, .inl (G.2 5, 1, .inr (.inl of)))] ++ (u_.2 ++ [])) H) (hD : va_D A ([(o, .inl (G.2 5, 1, .inr (.inl of)))] ++ (u_.2 ++ []))) hS hfz hfk hce hcv hcl => ?_) (fun u_ H locs hq hph (hP : va_P G.1 CL ([(o, .inl (G.2 5, 1, .inr (.inl of)))] ++ (u_.2 ++ [])) H) (hD : va_D A ([(o, .inl (G.2 5, 1, .inr (.inl of)))] ++ (u_.2 ++ []))) hS hfz hfk => ?_)
  · obtain ⟨kx_3529, W2_3530⟩ := u_
    obtain ⟨hq_3531, hq_3532, hq_3533⟩ : (q_bestEff (dC S) v).1 = kx_3529 ∧ DyW G d S W2_3530 ∧ 1 ≤ kx_3529 ∧ kx_3529 ≤ 2 := hq
    have hpm_3534 : ([(o, .inl (G.2 5, 1, .inr (.inl of)))] ++ (W2_3530 ++ []) : va_W).Perm ([(o, .inl (G.2 5, 1, .inr (.inl of)))] ++ (W2_3530 ++ [])) := segs_perm2 [[(o, .inl (G.2 5, 1, .inr (.inl of)))]] [W2_3530] [0, 1] rfl
    have hP : va_P G.1 CL ([(o, .inl (G.2 5, 1, .inr (.inl of)))] ++ (W2_3530 ++ [])) H := P_perm hpm_3534 hP
    have hD : va_D A ([(o, .inl (G.2 5, 1, .inr (.inl of)))] ++ (W2_3530 ++ [])) := D_perm hpm_3534 hD
    rcases (show kx_3529 = 1 ∨ kx_3529 = 2 by omega) with rfl | rfl
    · have hcl9 : s.vm.findClass eA = some ce.cls := hcl
      refine vx_catch (name := eA) (E := eA) hown [] (⟨0, 9, 12, 13⟩ : ExceptionTableEntry) [(⟨0, 9, 15, 24⟩ : ExceptionTableEntry)] (by rw [htab]; rfl) (fun z hz => absurd hz List.not_mem_nil) (by decide) (by decide) (hts _ q680) (va_Nw.use rfl (hKB.nest q698 rfl)) hce hcv hcl9 ?_
      refine W.eq (g2 := F0 m 12 ls [.ref q9]) rfl ?_
      refine lv_astore_n (lv' := [(3, .ref q9), (0, .ref d), (1, .int v), (2, .ref o)]) hx hb dX0_bestEffortByTrying_12 rfl hl (by decide) rfl (fun ls hl => ?_)
      refine lv_iconst (v := nI 1) hx hb dX0_bestEffortByTrying_13 (by decide) ?_
      refine vx_ret ?_
      have hpm_3535 : (([(o, .inl (G.2 5, 1, .inr (.inl of)))] ++ (W2_3530 ++ [])) : va_W).Perm (([(o, .inl (G.2 5, 1, .inr (.inl of)))] ++ (W2_3530 ++ [])) ++ []) := segs_perm [[(o, .inl (G.2 5, 1, .inr (.inl of)))], W2_3530] [0, 1] [] rfl
      have hP9 : va_P G.1 CL ([(o, .inl (G.2 5, 1, .inr (.inl of)))] ++ (W2_3530 ++ [])) H := P_left (P_perm hpm_3535 hP)
      have hD9 : va_D A ([(o, .inl (G.2 5, 1, .inr (.inl of)))] ++ (W2_3530 ++ [])) := D_left (D_perm hpm_3535 hD)
      exact end_i hx hb hr hlk (rfl) (qc_of (of, W2_3530) (v := some (.int (nI 1))) (by rw [hq_3531]) (⟨fun z9 => absurd (hq_3531.symm.trans z9) (by decide), by rw [hq_3531]; decide, hq_3532⟩) hP9 hD9 (trivial) hS) hS dX0_bestEffortByTrying_14 (show 0 + 90 ≤ 90 from by first | exact Nat.le_refl _ | decide | omega) (show 0 + 20000 ≤ 20000 from by first | exact Nat.le_refl _ | decide | omega)
    · have hcl9 : s.vm.findClass eN = some ce.cls := hcl
      refine vx_catch (name := eN) (E := eN) hown [(⟨0, 9, 12, 13⟩ : ExceptionTableEntry)] (⟨0, 9, 15, 24⟩ : ExceptionTableEntry) [] (by rw [htab]; rfl) (fun z hz => by rcases List.mem_singleton.mp hz with rfl; exact Or.inr ⟨by decide, _, hts _ q680, hNc _ (List.mem_of_getElem? (i := 3) rfl)⟩) (by decide) (by decide) (hts _ q1013) (va_Nw.use rfl (hKB.nest q334 rfl)) hce hcv hcl9 ?_
      refine W.eq (g2 := F0 m 15 ls [.ref q9]) rfl ?_
      refine lv_astore_n (lv' := [(3, .ref q9), (0, .ref d), (1, .int v), (2, .ref o)]) hx hb dX0_bestEffortByTrying_15 rfl hl (by decide) rfl (fun ls hl => ?_)
      refine lv_iconst (v := nI 2) hx hb dX0_bestEffortByTrying_16 (by decide) ?_
      refine vx_ret ?_
      have hpm_3536 : (([(o, .inl (G.2 5, 1, .inr (.inl of)))] ++ (W2_3530 ++ [])) : va_W).Perm (([(o, .inl (G.2 5, 1, .inr (.inl of)))] ++ (W2_3530 ++ [])) ++ []) := segs_perm [[(o, .inl (G.2 5, 1, .inr (.inl of)))], W2_3530] [0, 1] [] rfl
      have hP9 : va_P G.1 CL ([(o, .inl (G.2 5, 1, .inr (.inl of)))] ++ (W2_3530 ++ [])) H := P_left (P_perm hpm_3536 hP)
      have hD9 : va_D A ([(o, .inl (G.2 5, 1, .inr (.inl of)))] ++ (W2_3530 ++ [])) := D_left (D_perm hpm_3536 hD)
      exact end_i hx hb hr hlk (rfl) (qc_of (of, W2_3530) (v := some (.int (nI 2))) (by rw [hq_3531]) (⟨fun z9 => absurd (hq_3531.symm.trans z9) (by decide), by rw [hq_3531]; decide, hq_3532⟩) hP9 hD9 (trivial) hS) hS dX0_bestEffortByTrying_17 (show 0 + 90 ≤ 90 from by first | exact Nat.le_refl _ | decide | omega) (show 0 + 20000 ≤ 20000 from by first | exact Nat.le_refl _ | decide | omega)
  · obtain ⟨rr_3527, W2_3528⟩ := u_
    obtain ⟨hq_3537, hq_3538⟩ : q_bestEff (dC S) v = (0, rr_3527) ∧ DyW G d S W2_3528 := hq
    have hpm_3539 : ([(o, .inl (G.2 5, 1, .inr (.inl of)))] ++ (W2_3528 ++ []) : va_W).Perm ([(o, .inl (G.2 5, 1, .inr (.inl of)))] ++ (W2_3528 ++ [])) := segs_perm2 [[(o, .inl (G.2 5, 1, .inr (.inl of)))]] [W2_3528] [0, 1] rfl
    have hP : va_P G.1 CL ([(o, .inl (G.2 5, 1, .inr (.inl of)))] ++ (W2_3528 ++ [])) H := P_perm hpm_3539 hP
    have hD : va_D A ([(o, .inl (G.2 5, 1, .inr (.inl of)))] ++ (W2_3528 ++ [])) := D_perm hpm_3539 hD
    refine W.eq (g2 := F0 m 7 ls [.int rr_3527, .int (nI 0), .ref o]) rfl ?_
    refine lv_i2l (v := (rr_3527).toInt64) hx hb dX0_bestEffortByTrying_7 rfl ?_
    refine r_last hx hb hK hP hD hS 0 5 rfl rfl (i := 0) (by omega) (by omega) dX0_bestEffortByTrying_8 (fun H locs (hP : va_P G.1 CL ([(o, .inl (G.2 5, 1, .inr (.inl (vp_updL of 0 ((rr_3527).toInt64)))))] ++ (W2_3528 ++ [])) H) (hD : va_D A ([(o, .inl (G.2 5, 1, .inr (.inl (vp_updL of 0 ((rr_3527).toInt64)))))] ++ (W2_3528 ++ []))) hS => ?_)
    refine lv_goto (tgt := 18) hx hb dX0_bestEffortByTrying_9 (by decide) ?_
    refine lv_iconst (v := nI 0) hx hb dX0_bestEffortByTrying_18 (by decide) ?_
    refine vx_ret ?_
    have hpm_3540 : (([(o, .inl (G.2 5, 1, .inr (.inl (vp_updL of 0 ((rr_3527).toInt64)))))] ++ (W2_3528 ++ [])) : va_W).Perm (([(o, .inl (G.2 5, 1, .inr (.inl (vp_updL of 0 ((rr_3527).toInt64)))))] ++ (W2_3528 ++ [])) ++ []) := segs_perm [[(o, .inl (G.2 5, 1, .inr (.inl (vp_updL of 0 ((rr_3527).toInt64)))))], W2_3528] [0, 1] [] rfl
    have hP9 : va_P G.1 CL ([(o, .inl (G.2 5, 1, .inr (.inl (vp_updL of 0 ((rr_3527).toInt64)))))] ++ (W2_3528 ++ [])) H := P_left (P_perm hpm_3540 hP)
    have hD9 : va_D A ([(o, .inl (G.2 5, 1, .inr (.inl (vp_updL of 0 ((rr_3527).toInt64)))))] ++ (W2_3528 ++ [])) := D_left (D_perm hpm_3540 hD)
    exact end_i hx hb hr hlk (rfl) (qc_of (vp_updL of 0 ((rr_3527).toInt64), W2_3528) (v := some (.int (nI 0))) (by rw [hq_3537]) (⟨fun _ => by rw [hq_3537]; exact pk_uLs, by rw [hq_3537]; exact (by decide : (0 : Nat) < 10), hq_3538⟩) hP9 hD9 (trivial) hS) hS dX0_bestEffortByTrying_19 (show 0 + 90 ≤ 90 from by first | exact Nat.le_refl _ | decide | omega) (show 0 + 20000 ≤ 20000 from by first | exact Nat.le_refl _ | decide | omega)

set_option maxHeartbeats 4000000 in
theorem wX0_dueEntry (l : Launch) (G : Gt) (d : Nat) (S : DS) (W : va_W) (o : Nat) (of : Nat → Int64) (h : DyW G d S W) (hfl : l.stackTraces = false) : CTW l G yX0_dueEntry cX0_dueEntry 3 (some .int) [(0, 8, 11, 24)] ({ frames := 15, cells := 8300, slots := 17000, locals := 318 } : Room) [.ref d, .ref o] ([(o, .inl (G.2 5, 1, .inr (.inl of)))] ++ (W ++ [])) RH0 (S := (Nat → Int64) × va_W) (fun (u_ : (Nat → Int64) × va_W) => some (.int (nI ((q_due (dC S)).1)))) (fun (u_ : (Nat → Int64) × va_W) => ((q_due (dC S)).1 = 0 → u_.1 0 = ((q_due (dC S)).2).toInt64) ∧ (q_due (dC S)).1 < 10 ∧ DyW G d S u_.2) (fun (u_ : (Nat → Int64) × va_W) => ([(o, .inl (G.2 5, 1, .inr (.inl u_.1)))] ++ (u_.2 ++ []))) (fun (u_ : (Nat → Int64) × va_W) (H : Heap) => True) := by
  refine CTW.of (by decide) (Nat.le_of_ble_eq_true rfl) ?_
  intro p e s m below meth c ls A H locs h9 hH0 hP hS hNc htab
  obtain ⟨cf, hr, hlk, hnm, hKB, hE, -, hD, -, hA, hAw, hRH, hl⟩ := h9
  have hx := cf.1
  have hb := cf.2.1
  have hml := cf.2.2.1
  have hown : s.vm.findClass RX0 = some m.cls := cf.2.2.2.1
  have hts := cf.2.2.2.2
  have hK := hKB.1
  have hl : lv_has ls 3 [(0, .ref d), (1, .ref o)] := hl
  refine lv_aload_n hx hb dX0_dueEntry_0 rfl (lv_at hl 1 rfl) ?_
  refine lv_iconst (v := nI 0) hx hb dX0_dueEntry_1 (by decide) ?_
  refine lv_aload_n hx hb dX0_dueEntry_2 rfl (lv_at hl 0 rfl) ?_
  have hpm_3541 : (([(o, .inl (G.2 5, 1, .inr (.inl of)))] ++ (W ++ [])) : va_W).Perm ((W ++ []) ++ [(o, .inl (G.2 5, 1, .inr (.inl of)))]) := segs_perm [[(o, .inl (G.2 5, 1, .inr (.inl of)))], W] [1] [0] rfl
  have hF := hF_ofP (wc := (W ++ [])) hD hS hA hpm_3541
  refine go_cxP hS hP hD hpm_3541 hF
      (vx_runV (As := []) (rest := [.int (nI 0), .ref o]) cf (dX1_dueEntry l G d S W (show DyW G d S W from by first | assumption | omega) hfl H.size) (cwV 0 hts (lw_V q1434 q1435 q1436 q47 q1437) rfl rfl rfl (by decide +kernel) ⟨Nat.le_of_ble_eq_true rfl, Nat.le_of_ble_eq_true rfl⟩) (preV_of hKB hE hS hF (DyW.recv hK h (seg_at [[(o, .inl (G.2 5, 1, .inr (.inl of)))], W] 1 rfl hP)) (P_left (P_perm hpm_3541 hP)) ((D_left (D_perm hpm_3541 hD)).weaken (fun _ _ _ _ => trivial)) trivial) rfl rfl hl.1 rfl (lv_room (Nat.le_of_ble_eq_true rfl)) dX0_dueEntry_3 ⟨show 0 + 8300 ≤ 8300 from by first | decide | omega, show 0 + 17000 ≤ 17000 from by first | decide | omega⟩)
      (fun u_ H locs ce q9 hq hph (hP : va_P G.1 CL ([(o, .inl (G.2 5, 1, .inr (.inl of)))] ++ (u_.2 ++ [])) H) (hD : va_D A ([(o, .inl (G.2 5, 1, .inr (.inl of)))] ++ (u_.2 ++ []))) hS hfz hfk hce hcv hcl => ?_) (fun u_ H locs hq hph (hP : va_P G.1 CL ([(o, .inl (G.2 5, 1, .inr (.inl of)))] ++ (u_.2 ++ [])) H) (hD : va_D A ([(o, .inl (G.2 5, 1, .inr (.inl of)))] ++ (u_.2 ++ []))) hS hfz hfk => ?_)
  · obtain ⟨kx_3544, W2_3545⟩ := u_
    obtain ⟨hq_3546, hq_3547, hq_3548⟩ : (q_due (dC S)).1 = kx_3544 ∧ DyW G d S W2_3545 ∧ 1 ≤ kx_3544 ∧ kx_3544 ≤ 1 := hq
    have hpm_3549 : ([(o, .inl (G.2 5, 1, .inr (.inl of)))] ++ (W2_3545 ++ []) : va_W).Perm ([(o, .inl (G.2 5, 1, .inr (.inl of)))] ++ (W2_3545 ++ [])) := segs_perm2 [[(o, .inl (G.2 5, 1, .inr (.inl of)))]] [W2_3545] [0, 1] rfl
    have hP : va_P G.1 CL ([(o, .inl (G.2 5, 1, .inr (.inl of)))] ++ (W2_3545 ++ [])) H := P_perm hpm_3549 hP
    have hD : va_D A ([(o, .inl (G.2 5, 1, .inr (.inl of)))] ++ (W2_3545 ++ [])) := D_perm hpm_3549 hD
    obtain rfl : kx_3544 = 1 := by omega
    have hcl9 : s.vm.findClass eN = some ce.cls := hcl
    refine vx_catch (name := eN) (E := eN) hown [] (⟨0, 8, 11, 24⟩ : ExceptionTableEntry) [] (by rw [htab]; rfl) (fun z hz => absurd hz List.not_mem_nil) (by decide) (by decide) (hts _ q1013) (va_Nw.use rfl (hKB.nest q334 rfl)) hce hcv hcl9 ?_
    refine W.eq (g2 := F0 m 11 ls [.ref q9]) rfl ?_
    refine lv_astore_n (lv' := [(2, .ref q9), (0, .ref d), (1, .ref o)]) hx hb dX0_dueEntry_11 rfl hl (by decide) rfl (fun ls hl => ?_)
    refine lv_iconst (v := nI 1) hx hb dX0_dueEntry_12 (by decide) ?_
    refine vx_ret ?_
    have hpm_3550 : (([(o, .inl (G.2 5, 1, .inr (.inl of)))] ++ (W2_3545 ++ [])) : va_W).Perm (([(o, .inl (G.2 5, 1, .inr (.inl of)))] ++ (W2_3545 ++ [])) ++ []) := segs_perm [[(o, .inl (G.2 5, 1, .inr (.inl of)))], W2_3545] [0, 1] [] rfl
    have hP9 : va_P G.1 CL ([(o, .inl (G.2 5, 1, .inr (.inl of)))] ++ (W2_3545 ++ [])) H := P_left (P_perm hpm_3550 hP)
    have hD9 : va_D A ([(o, .inl (G.2 5, 1, .inr (.inl of)))] ++ (W2_3545 ++ [])) := D_left (D_perm hpm_3550 hD)
    exact end_i hx hb hr hlk (rfl) (qc_of (of, W2_3545) (v := some (.int (nI 1))) (by rw [hq_3546]) (⟨fun z9 => absurd (hq_3546.symm.trans z9) (by decide), by rw [hq_3546]; decide, hq_3547⟩) hP9 hD9 (trivial) hS) hS dX0_dueEntry_13 (show 0 + 8300 ≤ 8300 from by first | exact Nat.le_refl _ | decide | omega) (show 0 + 17000 ≤ 17000 from by first | exact Nat.le_refl _ | decide | omega)
  · obtain ⟨rr_3542, W2_3543⟩ := u_
    obtain ⟨hq_3551, hq_3552⟩ : q_due (dC S) = (0, rr_3542) ∧ DyW G d S W2_3543 := hq
    have hpm_3553 : ([(o, .inl (G.2 5, 1, .inr (.inl of)))] ++ (W2_3543 ++ []) : va_W).Perm ([(o, .inl (G.2 5, 1, .inr (.inl of)))] ++ (W2_3543 ++ [])) := segs_perm2 [[(o, .inl (G.2 5, 1, .inr (.inl of)))]] [W2_3543] [0, 1] rfl
    have hP : va_P G.1 CL ([(o, .inl (G.2 5, 1, .inr (.inl of)))] ++ (W2_3543 ++ [])) H := P_perm hpm_3553 hP
    have hD : va_D A ([(o, .inl (G.2 5, 1, .inr (.inl of)))] ++ (W2_3543 ++ [])) := D_perm hpm_3553 hD
    refine W.eq (g2 := F0 m 6 ls [.int rr_3542, .int (nI 0), .ref o]) rfl ?_
    refine lv_i2l (v := (rr_3542).toInt64) hx hb dX0_dueEntry_6 rfl ?_
    refine r_last hx hb hK hP hD hS 0 5 rfl rfl (i := 0) (by omega) (by omega) dX0_dueEntry_7 (fun H locs (hP : va_P G.1 CL ([(o, .inl (G.2 5, 1, .inr (.inl (vp_updL of 0 ((rr_3542).toInt64)))))] ++ (W2_3543 ++ [])) H) (hD : va_D A ([(o, .inl (G.2 5, 1, .inr (.inl (vp_updL of 0 ((rr_3542).toInt64)))))] ++ (W2_3543 ++ []))) hS => ?_)
    refine lv_goto (tgt := 14) hx hb dX0_dueEntry_8 (by decide) ?_
    refine lv_iconst (v := nI 0) hx hb dX0_dueEntry_14 (by decide) ?_
    refine vx_ret ?_
    have hpm_3554 : (([(o, .inl (G.2 5, 1, .inr (.inl (vp_updL of 0 ((rr_3542).toInt64)))))] ++ (W2_3543 ++ [])) : va_W).Perm (([(o, .inl (G.2 5, 1, .inr (.inl (vp_updL of 0 ((rr_3542).toInt64)))))] ++ (W2_3543 ++ [])) ++ []) := segs_perm [[(o, .inl (G.2 5, 1, .inr (.inl (vp_updL of 0 ((rr_3542).toInt64)))))], W2_3543] [0, 1] [] rfl
    have hP9 : va_P G.1 CL ([(o, .inl (G.2 5, 1, .inr (.inl (vp_updL of 0 ((rr_3542).toInt64)))))] ++ (W2_3543 ++ [])) H := P_left (P_perm hpm_3554 hP)
    have hD9 : va_D A ([(o, .inl (G.2 5, 1, .inr (.inl (vp_updL of 0 ((rr_3542).toInt64)))))] ++ (W2_3543 ++ [])) := D_left (D_perm hpm_3554 hD)
    exact end_i hx hb hr hlk (rfl) (qc_of (vp_updL of 0 ((rr_3542).toInt64), W2_3543) (v := some (.int (nI 0))) (by rw [hq_3551]) (⟨fun _ => by rw [hq_3551]; exact pk_uLs, by rw [hq_3551]; exact (by decide : (0 : Nat) < 10), hq_3552⟩) hP9 hD9 (trivial) hS) hS dX0_dueEntry_15 (show 0 + 8300 ≤ 8300 from by first | exact Nat.le_refl _ | decide | omega) (show 0 + 17000 ≤ 17000 from by first | exact Nat.le_refl _ | decide | omega)

set_option maxHeartbeats 4000000 in
theorem wX0_planEnd (l : Launch) (G : Gt) (d : Nat) (S : DS) (W : va_W) (o : Nat) (of : Nat → Int64) (h : DyW G d S W) (hfl : l.stackTraces = false) : CTW l G yX0_planEnd cX0_planEnd 3 (some .int) [(0, 8, 11, 24)] ({ frames := 15, cells := 8300, slots := 17000, locals := 318 } : Room) [.ref d, .ref o] ([(o, .inl (G.2 5, 1, .inr (.inl of)))] ++ (W ++ [])) RH0 (S := (Nat → Int64) × va_W) (fun (u_ : (Nat → Int64) × va_W) => some (.int (nI ((q_end (dC S)).1)))) (fun (u_ : (Nat → Int64) × va_W) => ((q_end (dC S)).1 = 0 → u_.1 0 = ((q_end (dC S)).2).toInt64) ∧ (q_end (dC S)).1 < 10 ∧ DyW G d S u_.2) (fun (u_ : (Nat → Int64) × va_W) => ([(o, .inl (G.2 5, 1, .inr (.inl u_.1)))] ++ (u_.2 ++ []))) (fun (u_ : (Nat → Int64) × va_W) (H : Heap) => True) := by
  refine CTW.of (by decide) (Nat.le_of_ble_eq_true rfl) ?_
  intro p e s m below meth c ls A H locs h9 hH0 hP hS hNc htab
  obtain ⟨cf, hr, hlk, hnm, hKB, hE, -, hD, -, hA, hAw, hRH, hl⟩ := h9
  have hx := cf.1
  have hb := cf.2.1
  have hml := cf.2.2.1
  have hown : s.vm.findClass RX0 = some m.cls := cf.2.2.2.1
  have hts := cf.2.2.2.2
  have hK := hKB.1
  have hl : lv_has ls 3 [(0, .ref d), (1, .ref o)] := hl
  refine lv_aload_n hx hb dX0_planEnd_0 rfl (lv_at hl 1 rfl) ?_
  refine lv_iconst (v := nI 0) hx hb dX0_planEnd_1 (by decide) ?_
  refine lv_aload_n hx hb dX0_planEnd_2 rfl (lv_at hl 0 rfl) ?_
  have hpm_3555 : (([(o, .inl (G.2 5, 1, .inr (.inl of)))] ++ (W ++ [])) : va_W).Perm ((W ++ []) ++ [(o, .inl (G.2 5, 1, .inr (.inl of)))]) := segs_perm [[(o, .inl (G.2 5, 1, .inr (.inl of)))], W] [1] [0] rfl
  have hF := hF_ofP (wc := (W ++ [])) hD hS hA hpm_3555
  refine go_cxP hS hP hD hpm_3555 hF
      (vx_runV (As := []) (rest := [.int (nI 0), .ref o]) cf (dX1_planEnd l G d S W (show DyW G d S W from by first | assumption | omega) hfl H.size) (cwV 0 hts (lw_V q1441 q1442 q1443 q47 q1444) rfl rfl rfl (by decide +kernel) ⟨Nat.le_of_ble_eq_true rfl, Nat.le_of_ble_eq_true rfl⟩) (preV_of hKB hE hS hF (DyW.recv hK h (seg_at [[(o, .inl (G.2 5, 1, .inr (.inl of)))], W] 1 rfl hP)) (P_left (P_perm hpm_3555 hP)) ((D_left (D_perm hpm_3555 hD)).weaken (fun _ _ _ _ => trivial)) trivial) rfl rfl hl.1 rfl (lv_room (Nat.le_of_ble_eq_true rfl)) dX0_planEnd_3 ⟨show 0 + 8300 ≤ 8300 from by first | decide | omega, show 0 + 17000 ≤ 17000 from by first | decide | omega⟩)
      (fun u_ H locs ce q9 hq hph (hP : va_P G.1 CL ([(o, .inl (G.2 5, 1, .inr (.inl of)))] ++ (u_.2 ++ [])) H) (hD : va_D A ([(o, .inl (G.2 5, 1, .inr (.inl of)))] ++ (u_.2 ++ []))) hS hfz hfk hce hcv hcl => ?_) (fun u_ H locs hq hph (hP : va_P G.1 CL ([(o, .inl (G.2 5, 1, .inr (.inl of)))] ++ (u_.2 ++ [])) H) (hD : va_D A ([(o, .inl (G.2 5, 1, .inr (.inl of)))] ++ (u_.2 ++ []))) hS hfz hfk => ?_)
  · obtain ⟨kx_3558, W2_3559⟩ := u_
    obtain ⟨hq_3560, hq_3561, hq_3562⟩ : (q_end (dC S)).1 = kx_3558 ∧ DyW G d S W2_3559 ∧ 1 ≤ kx_3558 ∧ kx_3558 ≤ 1 := hq
    have hpm_3563 : ([(o, .inl (G.2 5, 1, .inr (.inl of)))] ++ (W2_3559 ++ []) : va_W).Perm ([(o, .inl (G.2 5, 1, .inr (.inl of)))] ++ (W2_3559 ++ [])) := segs_perm2 [[(o, .inl (G.2 5, 1, .inr (.inl of)))]] [W2_3559] [0, 1] rfl
    have hP : va_P G.1 CL ([(o, .inl (G.2 5, 1, .inr (.inl of)))] ++ (W2_3559 ++ [])) H := P_perm hpm_3563 hP
    have hD : va_D A ([(o, .inl (G.2 5, 1, .inr (.inl of)))] ++ (W2_3559 ++ [])) := D_perm hpm_3563 hD
    obtain rfl : kx_3558 = 1 := by omega
    have hcl9 : s.vm.findClass eN = some ce.cls := hcl
    refine vx_catch (name := eN) (E := eN) hown [] (⟨0, 8, 11, 24⟩ : ExceptionTableEntry) [] (by rw [htab]; rfl) (fun z hz => absurd hz List.not_mem_nil) (by decide) (by decide) (hts _ q1013) (va_Nw.use rfl (hKB.nest q334 rfl)) hce hcv hcl9 ?_
    refine W.eq (g2 := F0 m 11 ls [.ref q9]) rfl ?_
    refine lv_astore_n (lv' := [(2, .ref q9), (0, .ref d), (1, .ref o)]) hx hb dX0_planEnd_11 rfl hl (by decide) rfl (fun ls hl => ?_)
    refine lv_iconst (v := nI 1) hx hb dX0_planEnd_12 (by decide) ?_
    refine vx_ret ?_
    have hpm_3564 : (([(o, .inl (G.2 5, 1, .inr (.inl of)))] ++ (W2_3559 ++ [])) : va_W).Perm (([(o, .inl (G.2 5, 1, .inr (.inl of)))] ++ (W2_3559 ++ [])) ++ []) := segs_perm [[(o, .inl (G.2 5, 1, .inr (.inl of)))], W2_3559] [0, 1] [] rfl
    have hP9 : va_P G.1 CL ([(o, .inl (G.2 5, 1, .inr (.inl of)))] ++ (W2_3559 ++ [])) H := P_left (P_perm hpm_3564 hP)
    have hD9 : va_D A ([(o, .inl (G.2 5, 1, .inr (.inl of)))] ++ (W2_3559 ++ [])) := D_left (D_perm hpm_3564 hD)
    exact end_i hx hb hr hlk (rfl) (qc_of (of, W2_3559) (v := some (.int (nI 1))) (by rw [hq_3560]) (⟨fun z9 => absurd (hq_3560.symm.trans z9) (by decide), by rw [hq_3560]; decide, hq_3561⟩) hP9 hD9 (trivial) hS) hS dX0_planEnd_13 (show 0 + 8300 ≤ 8300 from by first | exact Nat.le_refl _ | decide | omega) (show 0 + 17000 ≤ 17000 from by first | exact Nat.le_refl _ | decide | omega)
  · obtain ⟨rr_3556, W2_3557⟩ := u_
    obtain ⟨hq_3565, hq_3566⟩ : q_end (dC S) = (0, rr_3556) ∧ DyW G d S W2_3557 := hq
    have hpm_3567 : ([(o, .inl (G.2 5, 1, .inr (.inl of)))] ++ (W2_3557 ++ []) : va_W).Perm ([(o, .inl (G.2 5, 1, .inr (.inl of)))] ++ (W2_3557 ++ [])) := segs_perm2 [[(o, .inl (G.2 5, 1, .inr (.inl of)))]] [W2_3557] [0, 1] rfl
    have hP : va_P G.1 CL ([(o, .inl (G.2 5, 1, .inr (.inl of)))] ++ (W2_3557 ++ [])) H := P_perm hpm_3567 hP
    have hD : va_D A ([(o, .inl (G.2 5, 1, .inr (.inl of)))] ++ (W2_3557 ++ [])) := D_perm hpm_3567 hD
    refine W.eq (g2 := F0 m 6 ls [.int rr_3556, .int (nI 0), .ref o]) rfl ?_
    refine lv_i2l (v := (rr_3556).toInt64) hx hb dX0_planEnd_6 rfl ?_
    refine r_last hx hb hK hP hD hS 0 5 rfl rfl (i := 0) (by omega) (by omega) dX0_planEnd_7 (fun H locs (hP : va_P G.1 CL ([(o, .inl (G.2 5, 1, .inr (.inl (vp_updL of 0 ((rr_3556).toInt64)))))] ++ (W2_3557 ++ [])) H) (hD : va_D A ([(o, .inl (G.2 5, 1, .inr (.inl (vp_updL of 0 ((rr_3556).toInt64)))))] ++ (W2_3557 ++ []))) hS => ?_)
    refine lv_goto (tgt := 14) hx hb dX0_planEnd_8 (by decide) ?_
    refine lv_iconst (v := nI 0) hx hb dX0_planEnd_14 (by decide) ?_
    refine vx_ret ?_
    have hpm_3568 : (([(o, .inl (G.2 5, 1, .inr (.inl (vp_updL of 0 ((rr_3556).toInt64)))))] ++ (W2_3557 ++ [])) : va_W).Perm (([(o, .inl (G.2 5, 1, .inr (.inl (vp_updL of 0 ((rr_3556).toInt64)))))] ++ (W2_3557 ++ [])) ++ []) := segs_perm [[(o, .inl (G.2 5, 1, .inr (.inl (vp_updL of 0 ((rr_3556).toInt64)))))], W2_3557] [0, 1] [] rfl
    have hP9 : va_P G.1 CL ([(o, .inl (G.2 5, 1, .inr (.inl (vp_updL of 0 ((rr_3556).toInt64)))))] ++ (W2_3557 ++ [])) H := P_left (P_perm hpm_3568 hP)
    have hD9 : va_D A ([(o, .inl (G.2 5, 1, .inr (.inl (vp_updL of 0 ((rr_3556).toInt64)))))] ++ (W2_3557 ++ [])) := D_left (D_perm hpm_3568 hD)
    exact end_i hx hb hr hlk (rfl) (qc_of (vp_updL of 0 ((rr_3556).toInt64), W2_3557) (v := some (.int (nI 0))) (by rw [hq_3565]) (⟨fun _ => by rw [hq_3565]; exact pk_uLs, by rw [hq_3565]; exact (by decide : (0 : Nat) < 10), hq_3566⟩) hP9 hD9 (trivial) hS) hS dX0_planEnd_15 (show 0 + 8300 ≤ 8300 from by first | exact Nat.le_refl _ | decide | omega) (show 0 + 17000 ≤ 17000 from by first | exact Nat.le_refl _ | decide | omega)

set_option maxHeartbeats 4000000 in
theorem wX0_pass (l : Launch) (G : Gt) (d : Nat) (S : DS) (W : va_W) (o : Nat) (of : Nat → Int64) (v : Int32) (h : DyW G d S W) (hfl : l.stackTraces = false) : CTW l G yX0_pass cX0_pass 4 (some .int) [(0, 9, 12, 13), (0, 9, 15, 15)] ({ frames := 10, cells := 1 + 101, slots := 6 + 5800, locals := 232 } : Room) [.ref d, .int v, .ref o] ([(o, .inl (G.2 5, 1, .inr (.inl of)))] ++ (W ++ [])) RH0 (S := (Nat → Int64) × DS × va_W) (fun (u_ : (Nat → Int64) × DS × va_W) => some (.int (nI ((o_pass (dC S) v).1)))) (fun (u_ : (Nat → Int64) × DS × va_W) => ((o_pass (dC S) v).1 = 0 → u_.1 0 = ((o_pass (dC S) v).2.1).toInt64) ∧ NxS S (o_pass (dC S) v) u_.2.1 ∧ (o_pass (dC S) v).1 < 10 ∧ DyW G d u_.2.1 u_.2.2) (fun (u_ : (Nat → Int64) × DS × va_W) => ([(o, .inl (G.2 5, 1, .inr (.inl u_.1)))] ++ (u_.2.2 ++ []))) (fun (u_ : (Nat → Int64) × DS × va_W) (H : Heap) => True) := by
  refine CTW.of (by decide) (Nat.le_of_ble_eq_true rfl) ?_
  intro p e s m below meth c ls A H locs h9 hH0 hP hS hNc htab
  obtain ⟨cf, hr, hlk, hnm, hKB, hE, -, hD, -, hA, hAw, hRH, hl⟩ := h9
  have hx := cf.1
  have hb := cf.2.1
  have hml := cf.2.2.1
  have hown : s.vm.findClass RX0 = some m.cls := cf.2.2.2.1
  have hts := cf.2.2.2.2
  have hK := hKB.1
  have hl : lv_has ls 4 [(0, .ref d), (1, .int v), (2, .ref o)] := hl
  refine lv_aload_n hx hb dX0_pass_0 rfl (lv_at hl 2 rfl) ?_
  refine lv_iconst (v := nI 0) hx hb dX0_pass_1 (by decide) ?_
  refine lv_aload_n hx hb dX0_pass_2 rfl (lv_at hl 0 rfl) ?_
  refine lv_iload_n hx hb dX0_pass_3 rfl (lv_at hl 1 rfl) ?_
  have hpm_3569 : (([(o, .inl (G.2 5, 1, .inr (.inl of)))] ++ (W ++ [])) : va_W).Perm ((W ++ []) ++ [(o, .inl (G.2 5, 1, .inr (.inl of)))]) := segs_perm [[(o, .inl (G.2 5, 1, .inr (.inl of)))], W] [1] [0] rfl
  have hF := hF_ofP (wc := (W ++ [])) hD hS hA hpm_3569
  refine go_cxP hS hP hD hpm_3569 hF
      (vx_runV (As := [.int v]) (rest := [.int (nI 0), .ref o]) cf (dX1_pass l G d S W v (show DyW G d S W from by first | assumption | omega) hfl H.size) (cwV 1 hts (lw_V q682 q683 q684 q47 q685) rfl rfl rfl (by decide +kernel) ⟨Nat.le_of_ble_eq_true rfl, Nat.le_of_ble_eq_true rfl⟩) (preV_of hKB hE hS hF (DyW.recv hK h (seg_at [[(o, .inl (G.2 5, 1, .inr (.inl of)))], W] 1 rfl hP)) (P_left (P_perm hpm_3569 hP)) ((D_left (D_perm hpm_3569 hD)).weaken (fun _ _ _ _ => trivial)) trivial) rfl rfl hl.1 rfl (lv_room (Nat.le_of_ble_eq_true rfl)) dX0_pass_4 ⟨show 0 + (1 + 101) ≤ 1 + 101 from by first | decide | omega, show 0 + (6 + 5800) ≤ 6 + 5800 from by first | decide | omega⟩)
      (fun u_ H locs ce q9 hq hph (hP : va_P G.1 CL ([(o, .inl (G.2 5, 1, .inr (.inl of)))] ++ (W ++ [])) H) (hD : va_D A ([(o, .inl (G.2 5, 1, .inr (.inl of)))] ++ (W ++ []))) hS hfz hfk hce hcv hcl => ?_) (fun u_ H locs hq hph (hP : va_P G.1 CL ([(o, .inl (G.2 5, 1, .inr (.inl of)))] ++ (u_.2.2 ++ [])) H) (hD : va_D A ([(o, .inl (G.2 5, 1, .inr (.inl of)))] ++ (u_.2.2 ++ []))) hS hfz hfk => ?_)
  · obtain ⟨kx_3573, rfl⟩ : ∃ z, z = u_ := ⟨_, rfl⟩
    obtain ⟨hq_3574, hq_3575⟩ : (o_pass (dC S) v).1 = kx_3573 ∧ 1 ≤ kx_3573 ∧ kx_3573 ≤ 2 := hq
    have hpm_3576 : ([(o, .inl (G.2 5, 1, .inr (.inl of)))] ++ (W ++ []) : va_W).Perm ([(o, .inl (G.2 5, 1, .inr (.inl of)))] ++ (W ++ [])) := segs_perm2 [[(o, .inl (G.2 5, 1, .inr (.inl of)))]] [W] [0, 1] rfl
    have hP : va_P G.1 CL ([(o, .inl (G.2 5, 1, .inr (.inl of)))] ++ (W ++ [])) H := P_perm hpm_3576 hP
    have hD : va_D A ([(o, .inl (G.2 5, 1, .inr (.inl of)))] ++ (W ++ [])) := D_perm hpm_3576 hD
    rcases (show kx_3573 = 1 ∨ kx_3573 = 2 by omega) with rfl | rfl
    · have hcl9 : s.vm.findClass eA = some ce.cls := hcl
      refine vx_catch (name := eA) (E := eA) hown [] (⟨0, 9, 12, 13⟩ : ExceptionTableEntry) [(⟨0, 9, 15, 15⟩ : ExceptionTableEntry)] (by rw [htab]; rfl) (fun z hz => absurd hz List.not_mem_nil) (by decide) (by decide) (hts _ q680) (va_Nw.use rfl (hKB.nest q698 rfl)) hce hcv hcl9 ?_
      refine W.eq (g2 := F0 m 12 ls [.ref q9]) rfl ?_
      refine lv_astore_n (lv' := [(3, .ref q9), (0, .ref d), (1, .int v), (2, .ref o)]) hx hb dX0_pass_12 rfl hl (by decide) rfl (fun ls hl => ?_)
      refine lv_iconst (v := nI 1) hx hb dX0_pass_13 (by decide) ?_
      refine vx_ret ?_
      have hpm_3577 : (([(o, .inl (G.2 5, 1, .inr (.inl of)))] ++ (W ++ [])) : va_W).Perm (([(o, .inl (G.2 5, 1, .inr (.inl of)))] ++ (W ++ [])) ++ []) := segs_perm [[(o, .inl (G.2 5, 1, .inr (.inl of)))], W] [0, 1] [] rfl
      have hP9 : va_P G.1 CL ([(o, .inl (G.2 5, 1, .inr (.inl of)))] ++ (W ++ [])) H := P_left (P_perm hpm_3577 hP)
      have hD9 : va_D A ([(o, .inl (G.2 5, 1, .inr (.inl of)))] ++ (W ++ [])) := D_left (D_perm hpm_3577 hD)
      exact end_i hx hb hr hlk (rfl) (qc_of (of, S, W) (v := some (.int (nI 1))) (by rw [hq_3574]) (⟨fun z9 => absurd (hq_3574.symm.trans z9) (by decide), NxS.no (fun z9 => absurd (hq_3574.symm.trans z9) (by decide)), by rw [hq_3574]; decide, h⟩) hP9 hD9 (trivial) hS) hS dX0_pass_14 (show 0 + (1 + 101) ≤ 1 + 101 from by first | exact Nat.le_refl _ | decide | omega) (show 0 + (6 + 5800) ≤ 6 + 5800 from by first | exact Nat.le_refl _ | decide | omega)
    · have hcl9 : s.vm.findClass eS9 = some ce.cls := hcl
      refine vx_catch (name := eS9) (E := eS9) hown [(⟨0, 9, 12, 13⟩ : ExceptionTableEntry)] (⟨0, 9, 15, 15⟩ : ExceptionTableEntry) [] (by rw [htab]; rfl) (fun z hz => by rcases List.mem_singleton.mp hz with rfl; exact Or.inr ⟨by decide, _, hts _ q680, hNc _ (List.mem_of_getElem? (i := 0) rfl)⟩) (by decide) (by decide) (hts _ q681) (va_Nw.use rfl (hKB.nest q577 rfl)) hce hcv hcl9 ?_
      refine W.eq (g2 := F0 m 15 ls [.ref q9]) rfl ?_
      refine lv_astore_n (lv' := [(3, .ref q9), (0, .ref d), (1, .int v), (2, .ref o)]) hx hb dX0_pass_15 rfl hl (by decide) rfl (fun ls hl => ?_)
      refine lv_iconst (v := nI 2) hx hb dX0_pass_16 (by decide) ?_
      refine vx_ret ?_
      have hpm_3578 : (([(o, .inl (G.2 5, 1, .inr (.inl of)))] ++ (W ++ [])) : va_W).Perm (([(o, .inl (G.2 5, 1, .inr (.inl of)))] ++ (W ++ [])) ++ []) := segs_perm [[(o, .inl (G.2 5, 1, .inr (.inl of)))], W] [0, 1] [] rfl
      have hP9 : va_P G.1 CL ([(o, .inl (G.2 5, 1, .inr (.inl of)))] ++ (W ++ [])) H := P_left (P_perm hpm_3578 hP)
      have hD9 : va_D A ([(o, .inl (G.2 5, 1, .inr (.inl of)))] ++ (W ++ [])) := D_left (D_perm hpm_3578 hD)
      exact end_i hx hb hr hlk (rfl) (qc_of (of, S, W) (v := some (.int (nI 2))) (by rw [hq_3574]) (⟨fun z9 => absurd (hq_3574.symm.trans z9) (by decide), NxS.no (fun z9 => absurd (hq_3574.symm.trans z9) (by decide)), by rw [hq_3574]; decide, h⟩) hP9 hD9 (trivial) hS) hS dX0_pass_17 (show 0 + (1 + 101) ≤ 1 + 101 from by first | exact Nat.le_refl _ | decide | omega) (show 0 + (6 + 5800) ≤ 6 + 5800 from by first | exact Nat.le_refl _ | decide | omega)
  · obtain ⟨rr_3570, B2_3571, W2_3572⟩ := u_
    obtain ⟨hq_3579, hq_3580, hq_3581, hq_3582⟩ : (o_pass (dC S) v).1 = 0 ∧ rr_3570 = (o_pass (dC S) v).2.1 ∧ Sim (o_pass (dC S) v).2.2 B2_3571 ∧ DyW G d ((B2_3571, dS S, min 6 (dK S + 1), hsR (dH S) (dK S) (dC S), dL S, dN S) : DS) W2_3572 := hq
    have hpm_3583 : ([(o, .inl (G.2 5, 1, .inr (.inl of)))] ++ (W2_3572 ++ []) : va_W).Perm ([(o, .inl (G.2 5, 1, .inr (.inl of)))] ++ (W2_3572 ++ [])) := segs_perm2 [[(o, .inl (G.2 5, 1, .inr (.inl of)))]] [W2_3572] [0, 1] rfl
    have hP : va_P G.1 CL ([(o, .inl (G.2 5, 1, .inr (.inl of)))] ++ (W2_3572 ++ [])) H := P_perm hpm_3583 hP
    have hD : va_D A ([(o, .inl (G.2 5, 1, .inr (.inl of)))] ++ (W2_3572 ++ [])) := D_perm hpm_3583 hD
    refine W.eq (g2 := F0 m 7 ls [.int rr_3570, .int (nI 0), .ref o]) rfl ?_
    refine lv_i2l (v := (rr_3570).toInt64) hx hb dX0_pass_7 rfl ?_
    refine r_last hx hb hK hP hD hS 0 5 rfl rfl (i := 0) (by omega) (by omega) dX0_pass_8 (fun H locs (hP : va_P G.1 CL ([(o, .inl (G.2 5, 1, .inr (.inl (vp_updL of 0 ((rr_3570).toInt64)))))] ++ (W2_3572 ++ [])) H) (hD : va_D A ([(o, .inl (G.2 5, 1, .inr (.inl (vp_updL of 0 ((rr_3570).toInt64)))))] ++ (W2_3572 ++ []))) hS => ?_)
    refine lv_goto (tgt := 18) hx hb dX0_pass_9 (by decide) ?_
    refine lv_iconst (v := nI 0) hx hb dX0_pass_18 (by decide) ?_
    refine vx_ret ?_
    have hpm_3584 : (([(o, .inl (G.2 5, 1, .inr (.inl (vp_updL of 0 ((rr_3570).toInt64)))))] ++ (W2_3572 ++ [])) : va_W).Perm (([(o, .inl (G.2 5, 1, .inr (.inl (vp_updL of 0 ((rr_3570).toInt64)))))] ++ (W2_3572 ++ [])) ++ []) := segs_perm [[(o, .inl (G.2 5, 1, .inr (.inl (vp_updL of 0 ((rr_3570).toInt64)))))], W2_3572] [0, 1] [] rfl
    have hP9 : va_P G.1 CL ([(o, .inl (G.2 5, 1, .inr (.inl (vp_updL of 0 ((rr_3570).toInt64)))))] ++ (W2_3572 ++ [])) H := P_left (P_perm hpm_3584 hP)
    have hD9 : va_D A ([(o, .inl (G.2 5, 1, .inr (.inl (vp_updL of 0 ((rr_3570).toInt64)))))] ++ (W2_3572 ++ [])) := D_left (D_perm hpm_3584 hD)
    exact end_i hx hb hr hlk (rfl) (qc_of (vp_updL of 0 ((rr_3570).toInt64), ((B2_3571, dS S, min 6 (dK S + 1), hsR (dH S) (dK S) (dC S), dL S, dN S) : DS), W2_3572) (v := some (.int (nI 0))) (by rw [hq_3579]) (⟨fun _ => by rw [← hq_3580]; exact pk_uLs, NxS.yes hq_3579 hq_3581, by rw [hq_3579]; decide, hq_3582⟩) hP9 hD9 (trivial) hS) hS dX0_pass_19 (show 0 + (1 + 101) ≤ 1 + 101 from by first | exact Nat.le_refl _ | decide | omega) (show 0 + (6 + 5800) ≤ 6 + 5800 from by first | exact Nat.le_refl _ | decide | omega)

set_option maxHeartbeats 4000000 in
theorem wX0_addTest (l : Launch) (G : Gt) (d : Nat) (S : DS) (W : va_W) (o : Nat) (of : Nat → Int64) (v : Int32) (w : Int32) (h : DyW G d S W) (hfl : l.stackTraces = false) : CTW l G yX0_addTest cX0_addTest 5 (some .int) [(0, 10, 13, 13), (0, 10, 17, 15)] ({ frames := 11, cells := 95 + 101, slots := 300 + 5800, locals := 235 } : Room) [.ref d, .int v, .int w, .ref o] ([(o, .inl (G.2 5, 1, .inr (.inl of)))] ++ (W ++ [])) RH0 (S := (Nat → Int64) × DS × va_W) (fun (u_ : (Nat → Int64) × DS × va_W) => some (.int (nI ((o_addTest (dC S) v w).1)))) (fun (u_ : (Nat → Int64) × DS × va_W) => ((o_addTest (dC S) v w).1 = 0 → u_.1 0 = ((o_addTest (dC S) v w).2.1).toInt64) ∧ NxS S (o_addTest (dC S) v w) u_.2.1 ∧ (o_addTest (dC S) v w).1 < 10 ∧ DyW G d u_.2.1 u_.2.2) (fun (u_ : (Nat → Int64) × DS × va_W) => ([(o, .inl (G.2 5, 1, .inr (.inl u_.1)))] ++ (u_.2.2 ++ []))) (fun (u_ : (Nat → Int64) × DS × va_W) (H : Heap) => True) := by
  refine CTW.of (by decide) (Nat.le_of_ble_eq_true rfl) ?_
  intro p e s m below meth c ls A H locs h9 hH0 hP hS hNc htab
  obtain ⟨cf, hr, hlk, hnm, hKB, hE, -, hD, -, hA, hAw, hRH, hl⟩ := h9
  have hx := cf.1
  have hb := cf.2.1
  have hml := cf.2.2.1
  have hown : s.vm.findClass RX0 = some m.cls := cf.2.2.2.1
  have hts := cf.2.2.2.2
  have hK := hKB.1
  have hl : lv_has ls 5 [(0, .ref d), (1, .int v), (2, .int w), (3, .ref o)] := hl
  refine lv_aload_n hx hb dX0_addTest_0 rfl (lv_at hl 3 rfl) ?_
  refine lv_iconst (v := nI 0) hx hb dX0_addTest_1 (by decide) ?_
  refine lv_aload_n hx hb dX0_addTest_2 rfl (lv_at hl 0 rfl) ?_
  refine lv_iload_n hx hb dX0_addTest_3 rfl (lv_at hl 1 rfl) ?_
  refine lv_iload_n hx hb dX0_addTest_4 rfl (lv_at hl 2 rfl) ?_
  have hpm_3585 : (([(o, .inl (G.2 5, 1, .inr (.inl of)))] ++ (W ++ [])) : va_W).Perm ((W ++ []) ++ [(o, .inl (G.2 5, 1, .inr (.inl of)))]) := segs_perm [[(o, .inl (G.2 5, 1, .inr (.inl of)))], W] [1] [0] rfl
  have hF := hF_ofP (wc := (W ++ [])) hD hS hA hpm_3585
  refine go_cxP hS hP hD hpm_3585 hF
      (vx_runV (As := [.int v, .int w]) (rest := [.int (nI 0), .ref o]) cf (dX1_addTest l G d S W v w (show DyW G d S W from by first | assumption | omega) hfl H.size) (cwV 2 hts (lw_V q721 q722 q723 q47 q724) rfl rfl rfl (by decide +kernel) ⟨Nat.le_of_ble_eq_true rfl, Nat.le_of_ble_eq_true rfl⟩) (preV_of hKB hE hS hF (DyW.recv hK h (seg_at [[(o, .inl (G.2 5, 1, .inr (.inl of)))], W] 1 rfl hP)) (P_left (P_perm hpm_3585 hP)) ((D_left (D_perm hpm_3585 hD)).weaken (fun _ _ _ _ => trivial)) trivial) rfl rfl hl.1 rfl (lv_room (Nat.le_of_ble_eq_true rfl)) dX0_addTest_5 ⟨show 0 + (95 + 101) ≤ 95 + 101 from by first | decide | omega, show 0 + (300 + 5800) ≤ 300 + 5800 from by first | decide | omega⟩)
      (fun u_ H locs ce q9 hq hph (hP : va_P G.1 CL ([(o, .inl (G.2 5, 1, .inr (.inl of)))] ++ (W ++ [])) H) (hD : va_D A ([(o, .inl (G.2 5, 1, .inr (.inl of)))] ++ (W ++ []))) hS hfz hfk hce hcv hcl => ?_) (fun u_ H locs hq hph (hP : va_P G.1 CL ([(o, .inl (G.2 5, 1, .inr (.inl of)))] ++ (u_.2.2 ++ [])) H) (hD : va_D A ([(o, .inl (G.2 5, 1, .inr (.inl of)))] ++ (u_.2.2 ++ []))) hS hfz hfk => ?_)
  · obtain ⟨kx_3589, rfl⟩ : ∃ z, z = u_ := ⟨_, rfl⟩
    obtain ⟨hq_3590, hq_3591⟩ : (o_addTest (dC S) v w).1 = kx_3589 ∧ 1 ≤ kx_3589 ∧ kx_3589 ≤ 2 := hq
    have hpm_3592 : ([(o, .inl (G.2 5, 1, .inr (.inl of)))] ++ (W ++ []) : va_W).Perm ([(o, .inl (G.2 5, 1, .inr (.inl of)))] ++ (W ++ [])) := segs_perm2 [[(o, .inl (G.2 5, 1, .inr (.inl of)))]] [W] [0, 1] rfl
    have hP : va_P G.1 CL ([(o, .inl (G.2 5, 1, .inr (.inl of)))] ++ (W ++ [])) H := P_perm hpm_3592 hP
    have hD : va_D A ([(o, .inl (G.2 5, 1, .inr (.inl of)))] ++ (W ++ [])) := D_perm hpm_3592 hD
    rcases (show kx_3589 = 1 ∨ kx_3589 = 2 by omega) with rfl | rfl
    · have hcl9 : s.vm.findClass eA = some ce.cls := hcl
      refine vx_catch (name := eA) (E := eA) hown [] (⟨0, 10, 13, 13⟩ : ExceptionTableEntry) [(⟨0, 10, 17, 15⟩ : ExceptionTableEntry)] (by rw [htab]; rfl) (fun z hz => absurd hz List.not_mem_nil) (by decide) (by decide) (hts _ q680) (va_Nw.use rfl (hKB.nest q698 rfl)) hce hcv hcl9 ?_
      refine W.eq (g2 := F0 m 13 ls [.ref q9]) rfl ?_
      refine lv_astore (lv' := [(4, .ref q9), (0, .ref d), (1, .int v), (2, .int w), (3, .ref o)]) hx hb dX0_addTest_13 hl (by decide) rfl (fun ls hl => ?_)
      refine lv_iconst (v := nI 1) hx hb dX0_addTest_15 (by decide) ?_
      refine vx_ret ?_
      have hpm_3593 : (([(o, .inl (G.2 5, 1, .inr (.inl of)))] ++ (W ++ [])) : va_W).Perm (([(o, .inl (G.2 5, 1, .inr (.inl of)))] ++ (W ++ [])) ++ []) := segs_perm [[(o, .inl (G.2 5, 1, .inr (.inl of)))], W] [0, 1] [] rfl
      have hP9 : va_P G.1 CL ([(o, .inl (G.2 5, 1, .inr (.inl of)))] ++ (W ++ [])) H := P_left (P_perm hpm_3593 hP)
      have hD9 : va_D A ([(o, .inl (G.2 5, 1, .inr (.inl of)))] ++ (W ++ [])) := D_left (D_perm hpm_3593 hD)
      exact end_i hx hb hr hlk (rfl) (qc_of (of, S, W) (v := some (.int (nI 1))) (by rw [hq_3590]) (⟨fun z9 => absurd (hq_3590.symm.trans z9) (by decide), NxS.no (fun z9 => absurd (hq_3590.symm.trans z9) (by decide)), by rw [hq_3590]; decide, h⟩) hP9 hD9 (trivial) hS) hS dX0_addTest_16 (show 0 + (95 + 101) ≤ 95 + 101 from by first | exact Nat.le_refl _ | decide | omega) (show 0 + (300 + 5800) ≤ 300 + 5800 from by first | exact Nat.le_refl _ | decide | omega)
    · have hcl9 : s.vm.findClass eS9 = some ce.cls := hcl
      refine vx_catch (name := eS9) (E := eS9) hown [(⟨0, 10, 13, 13⟩ : ExceptionTableEntry)] (⟨0, 10, 17, 15⟩ : ExceptionTableEntry) [] (by rw [htab]; rfl) (fun z hz => by rcases List.mem_singleton.mp hz with rfl; exact Or.inr ⟨by decide, _, hts _ q680, hNc _ (List.mem_of_getElem? (i := 0) rfl)⟩) (by decide) (by decide) (hts _ q681) (va_Nw.use rfl (hKB.nest q577 rfl)) hce hcv hcl9 ?_
      refine W.eq (g2 := F0 m 17 ls [.ref q9]) rfl ?_
      refine lv_astore (lv' := [(4, .ref q9), (0, .ref d), (1, .int v), (2, .int w), (3, .ref o)]) hx hb dX0_addTest_17 hl (by decide) rfl (fun ls hl => ?_)
      refine lv_iconst (v := nI 2) hx hb dX0_addTest_19 (by decide) ?_
      refine vx_ret ?_
      have hpm_3594 : (([(o, .inl (G.2 5, 1, .inr (.inl of)))] ++ (W ++ [])) : va_W).Perm (([(o, .inl (G.2 5, 1, .inr (.inl of)))] ++ (W ++ [])) ++ []) := segs_perm [[(o, .inl (G.2 5, 1, .inr (.inl of)))], W] [0, 1] [] rfl
      have hP9 : va_P G.1 CL ([(o, .inl (G.2 5, 1, .inr (.inl of)))] ++ (W ++ [])) H := P_left (P_perm hpm_3594 hP)
      have hD9 : va_D A ([(o, .inl (G.2 5, 1, .inr (.inl of)))] ++ (W ++ [])) := D_left (D_perm hpm_3594 hD)
      exact end_i hx hb hr hlk (rfl) (qc_of (of, S, W) (v := some (.int (nI 2))) (by rw [hq_3590]) (⟨fun z9 => absurd (hq_3590.symm.trans z9) (by decide), NxS.no (fun z9 => absurd (hq_3590.symm.trans z9) (by decide)), by rw [hq_3590]; decide, h⟩) hP9 hD9 (trivial) hS) hS dX0_addTest_20 (show 0 + (95 + 101) ≤ 95 + 101 from by first | exact Nat.le_refl _ | decide | omega) (show 0 + (300 + 5800) ≤ 300 + 5800 from by first | exact Nat.le_refl _ | decide | omega)
  · obtain ⟨rr_3586, B2_3587, W2_3588⟩ := u_
    obtain ⟨hq_3595, hq_3596, hq_3597, hq_3598⟩ : (o_addTest (dC S) v w).1 = 0 ∧ rr_3586 = (o_addTest (dC S) v w).2.1 ∧ Sim (o_addTest (dC S) v w).2.2 B2_3587 ∧ DyW G d ((B2_3587, dS S, min 6 (dK S + 1), hsR (dH S) (dK S) (dC S), dL S, dN S) : DS) W2_3588 := hq
    have hpm_3599 : ([(o, .inl (G.2 5, 1, .inr (.inl of)))] ++ (W2_3588 ++ []) : va_W).Perm ([(o, .inl (G.2 5, 1, .inr (.inl of)))] ++ (W2_3588 ++ [])) := segs_perm2 [[(o, .inl (G.2 5, 1, .inr (.inl of)))]] [W2_3588] [0, 1] rfl
    have hP : va_P G.1 CL ([(o, .inl (G.2 5, 1, .inr (.inl of)))] ++ (W2_3588 ++ [])) H := P_perm hpm_3599 hP
    have hD : va_D A ([(o, .inl (G.2 5, 1, .inr (.inl of)))] ++ (W2_3588 ++ [])) := D_perm hpm_3599 hD
    refine W.eq (g2 := F0 m 8 ls [.int rr_3586, .int (nI 0), .ref o]) rfl ?_
    refine lv_i2l (v := (rr_3586).toInt64) hx hb dX0_addTest_8 rfl ?_
    refine r_last hx hb hK hP hD hS 0 5 rfl rfl (i := 0) (by omega) (by omega) dX0_addTest_9 (fun H locs (hP : va_P G.1 CL ([(o, .inl (G.2 5, 1, .inr (.inl (vp_updL of 0 ((rr_3586).toInt64)))))] ++ (W2_3588 ++ [])) H) (hD : va_D A ([(o, .inl (G.2 5, 1, .inr (.inl (vp_updL of 0 ((rr_3586).toInt64)))))] ++ (W2_3588 ++ []))) hS => ?_)
    refine lv_goto (tgt := 21) hx hb dX0_addTest_10 (by decide) ?_
    refine lv_iconst (v := nI 0) hx hb dX0_addTest_21 (by decide) ?_
    refine vx_ret ?_
    have hpm_3600 : (([(o, .inl (G.2 5, 1, .inr (.inl (vp_updL of 0 ((rr_3586).toInt64)))))] ++ (W2_3588 ++ [])) : va_W).Perm (([(o, .inl (G.2 5, 1, .inr (.inl (vp_updL of 0 ((rr_3586).toInt64)))))] ++ (W2_3588 ++ [])) ++ []) := segs_perm [[(o, .inl (G.2 5, 1, .inr (.inl (vp_updL of 0 ((rr_3586).toInt64)))))], W2_3588] [0, 1] [] rfl
    have hP9 : va_P G.1 CL ([(o, .inl (G.2 5, 1, .inr (.inl (vp_updL of 0 ((rr_3586).toInt64)))))] ++ (W2_3588 ++ [])) H := P_left (P_perm hpm_3600 hP)
    have hD9 : va_D A ([(o, .inl (G.2 5, 1, .inr (.inl (vp_updL of 0 ((rr_3586).toInt64)))))] ++ (W2_3588 ++ [])) := D_left (D_perm hpm_3600 hD)
    exact end_i hx hb hr hlk (rfl) (qc_of (vp_updL of 0 ((rr_3586).toInt64), ((B2_3587, dS S, min 6 (dK S + 1), hsR (dH S) (dK S) (dC S), dL S, dN S) : DS), W2_3588) (v := some (.int (nI 0))) (by rw [hq_3595]) (⟨fun _ => by rw [← hq_3596]; exact pk_uLs, NxS.yes hq_3595 hq_3597, by rw [hq_3595]; decide, hq_3598⟩) hP9 hD9 (trivial) hS) hS dX0_addTest_22 (show 0 + (95 + 101) ≤ 95 + 101 from by first | exact Nat.le_refl _ | decide | omega) (show 0 + (300 + 5800) ≤ 300 + 5800 from by first | exact Nat.le_refl _ | decide | omega)

set_option maxHeartbeats 4000000 in
theorem wX0_removeTest (l : Launch) (G : Gt) (d : Nat) (S : DS) (W : va_W) (o : Nat) (of : Nat → Int64) (v : Int32) (h : DyW G d S W) (hfl : l.stackTraces = false) : CTW l G yX0_removeTest cX0_removeTest 4 (some .int) [(0, 9, 12, 24)] ({ frames := 10, cells := 3 + 101, slots := 12 + 5800, locals := 232 } : Room) [.ref d, .int v, .ref o] ([(o, .inl (G.2 5, 1, .inr (.inl of)))] ++ (W ++ [])) RH0 (S := (Nat → Int64) × DS × va_W) (fun (u_ : (Nat → Int64) × DS × va_W) => some (.int (nI ((o_remTest (dC S) v).1)))) (fun (u_ : (Nat → Int64) × DS × va_W) => ((o_remTest (dC S) v).1 = 0 → u_.1 0 = ((o_remTest (dC S) v).2.1).toInt64) ∧ NxS S (o_remTest (dC S) v) u_.2.1 ∧ (o_remTest (dC S) v).1 < 10 ∧ DyW G d u_.2.1 u_.2.2) (fun (u_ : (Nat → Int64) × DS × va_W) => ([(o, .inl (G.2 5, 1, .inr (.inl u_.1)))] ++ (u_.2.2 ++ []))) (fun (u_ : (Nat → Int64) × DS × va_W) (H : Heap) => True) := by
  refine CTW.of (by decide) (Nat.le_of_ble_eq_true rfl) ?_
  intro p e s m below meth c ls A H locs h9 hH0 hP hS hNc htab
  obtain ⟨cf, hr, hlk, hnm, hKB, hE, -, hD, -, hA, hAw, hRH, hl⟩ := h9
  have hx := cf.1
  have hb := cf.2.1
  have hml := cf.2.2.1
  have hown : s.vm.findClass RX0 = some m.cls := cf.2.2.2.1
  have hts := cf.2.2.2.2
  have hK := hKB.1
  have hl : lv_has ls 4 [(0, .ref d), (1, .int v), (2, .ref o)] := hl
  refine lv_aload_n hx hb dX0_removeTest_0 rfl (lv_at hl 2 rfl) ?_
  refine lv_iconst (v := nI 0) hx hb dX0_removeTest_1 (by decide) ?_
  refine lv_aload_n hx hb dX0_removeTest_2 rfl (lv_at hl 0 rfl) ?_
  refine lv_iload_n hx hb dX0_removeTest_3 rfl (lv_at hl 1 rfl) ?_
  have hpm_3601 : (([(o, .inl (G.2 5, 1, .inr (.inl of)))] ++ (W ++ [])) : va_W).Perm ((W ++ []) ++ [(o, .inl (G.2 5, 1, .inr (.inl of)))]) := segs_perm [[(o, .inl (G.2 5, 1, .inr (.inl of)))], W] [1] [0] rfl
  have hF := hF_ofP (wc := (W ++ [])) hD hS hA hpm_3601
  refine go_cxP hS hP hD hpm_3601 hF
      (vx_runV (As := [.int v]) (rest := [.int (nI 0), .ref o]) cf (dX1_removeTest l G d S W v (show DyW G d S W from by first | assumption | omega) hfl H.size) (cwV 1 hts (lw_V q1014 q1015 q1016 q47 q1017) rfl rfl rfl (by decide +kernel) ⟨Nat.le_of_ble_eq_true rfl, Nat.le_of_ble_eq_true rfl⟩) (preV_of hKB hE hS hF (DyW.recv hK h (seg_at [[(o, .inl (G.2 5, 1, .inr (.inl of)))], W] 1 rfl hP)) (P_left (P_perm hpm_3601 hP)) ((D_left (D_perm hpm_3601 hD)).weaken (fun _ _ _ _ => trivial)) trivial) rfl rfl hl.1 rfl (lv_room (Nat.le_of_ble_eq_true rfl)) dX0_removeTest_4 ⟨show 0 + (3 + 101) ≤ 3 + 101 from by first | decide | omega, show 0 + (12 + 5800) ≤ 12 + 5800 from by first | decide | omega⟩)
      (fun u_ H locs ce q9 hq hph (hP : va_P G.1 CL ([(o, .inl (G.2 5, 1, .inr (.inl of)))] ++ (W ++ [])) H) (hD : va_D A ([(o, .inl (G.2 5, 1, .inr (.inl of)))] ++ (W ++ []))) hS hfz hfk hce hcv hcl => ?_) (fun u_ H locs hq hph (hP : va_P G.1 CL ([(o, .inl (G.2 5, 1, .inr (.inl of)))] ++ (u_.2.2 ++ [])) H) (hD : va_D A ([(o, .inl (G.2 5, 1, .inr (.inl of)))] ++ (u_.2.2 ++ []))) hS hfz hfk => ?_)
  · obtain ⟨kx_3605, rfl⟩ : ∃ z, z = u_ := ⟨_, rfl⟩
    obtain ⟨hq_3606, hq_3607⟩ : (o_remTest (dC S) v).1 = kx_3605 ∧ 1 ≤ kx_3605 ∧ kx_3605 ≤ 1 := hq
    have hpm_3608 : ([(o, .inl (G.2 5, 1, .inr (.inl of)))] ++ (W ++ []) : va_W).Perm ([(o, .inl (G.2 5, 1, .inr (.inl of)))] ++ (W ++ [])) := segs_perm2 [[(o, .inl (G.2 5, 1, .inr (.inl of)))]] [W] [0, 1] rfl
    have hP : va_P G.1 CL ([(o, .inl (G.2 5, 1, .inr (.inl of)))] ++ (W ++ [])) H := P_perm hpm_3608 hP
    have hD : va_D A ([(o, .inl (G.2 5, 1, .inr (.inl of)))] ++ (W ++ [])) := D_perm hpm_3608 hD
    obtain rfl : kx_3605 = 1 := by omega
    have hcl9 : s.vm.findClass eN = some ce.cls := hcl
    refine vx_catch (name := eN) (E := eN) hown [] (⟨0, 9, 12, 24⟩ : ExceptionTableEntry) [] (by rw [htab]; rfl) (fun z hz => absurd hz List.not_mem_nil) (by decide) (by decide) (hts _ q1013) (va_Nw.use rfl (hKB.nest q334 rfl)) hce hcv hcl9 ?_
    refine W.eq (g2 := F0 m 12 ls [.ref q9]) rfl ?_
    refine lv_astore_n (lv' := [(3, .ref q9), (0, .ref d), (1, .int v), (2, .ref o)]) hx hb dX0_removeTest_12 rfl hl (by decide) rfl (fun ls hl => ?_)
    refine lv_iconst (v := nI 1) hx hb dX0_removeTest_13 (by decide) ?_
    refine vx_ret ?_
    have hpm_3609 : (([(o, .inl (G.2 5, 1, .inr (.inl of)))] ++ (W ++ [])) : va_W).Perm (([(o, .inl (G.2 5, 1, .inr (.inl of)))] ++ (W ++ [])) ++ []) := segs_perm [[(o, .inl (G.2 5, 1, .inr (.inl of)))], W] [0, 1] [] rfl
    have hP9 : va_P G.1 CL ([(o, .inl (G.2 5, 1, .inr (.inl of)))] ++ (W ++ [])) H := P_left (P_perm hpm_3609 hP)
    have hD9 : va_D A ([(o, .inl (G.2 5, 1, .inr (.inl of)))] ++ (W ++ [])) := D_left (D_perm hpm_3609 hD)
    exact end_i hx hb hr hlk (rfl) (qc_of (of, S, W) (v := some (.int (nI 1))) (by rw [hq_3606]) (⟨fun z9 => absurd (hq_3606.symm.trans z9) (by decide), NxS.no (fun z9 => absurd (hq_3606.symm.trans z9) (by decide)), by rw [hq_3606]; decide, h⟩) hP9 hD9 (trivial) hS) hS dX0_removeTest_14 (show 0 + (3 + 101) ≤ 3 + 101 from by first | exact Nat.le_refl _ | decide | omega) (show 0 + (12 + 5800) ≤ 12 + 5800 from by first | exact Nat.le_refl _ | decide | omega)
  · obtain ⟨rr_3602, B2_3603, W2_3604⟩ := u_
    obtain ⟨hq_3610, hq_3611, hq_3612, hq_3613⟩ : (o_remTest (dC S) v).1 = 0 ∧ rr_3602 = (o_remTest (dC S) v).2.1 ∧ Sim (o_remTest (dC S) v).2.2 B2_3603 ∧ DyW G d ((B2_3603, dS S, min 6 (dK S + 1), hsR (dH S) (dK S) (dC S), dL S, dN S) : DS) W2_3604 := hq
    have hpm_3614 : ([(o, .inl (G.2 5, 1, .inr (.inl of)))] ++ (W2_3604 ++ []) : va_W).Perm ([(o, .inl (G.2 5, 1, .inr (.inl of)))] ++ (W2_3604 ++ [])) := segs_perm2 [[(o, .inl (G.2 5, 1, .inr (.inl of)))]] [W2_3604] [0, 1] rfl
    have hP : va_P G.1 CL ([(o, .inl (G.2 5, 1, .inr (.inl of)))] ++ (W2_3604 ++ [])) H := P_perm hpm_3614 hP
    have hD : va_D A ([(o, .inl (G.2 5, 1, .inr (.inl of)))] ++ (W2_3604 ++ [])) := D_perm hpm_3614 hD
    refine W.eq (g2 := F0 m 7 ls [.int rr_3602, .int (nI 0), .ref o]) rfl ?_
    refine lv_i2l (v := (rr_3602).toInt64) hx hb dX0_removeTest_7 rfl ?_
    refine r_last hx hb hK hP hD hS 0 5 rfl rfl (i := 0) (by omega) (by omega) dX0_removeTest_8 (fun H locs (hP : va_P G.1 CL ([(o, .inl (G.2 5, 1, .inr (.inl (vp_updL of 0 ((rr_3602).toInt64)))))] ++ (W2_3604 ++ [])) H) (hD : va_D A ([(o, .inl (G.2 5, 1, .inr (.inl (vp_updL of 0 ((rr_3602).toInt64)))))] ++ (W2_3604 ++ []))) hS => ?_)
    refine lv_goto (tgt := 15) hx hb dX0_removeTest_9 (by decide) ?_
    refine lv_iconst (v := nI 0) hx hb dX0_removeTest_15 (by decide) ?_
    refine vx_ret ?_
    have hpm_3615 : (([(o, .inl (G.2 5, 1, .inr (.inl (vp_updL of 0 ((rr_3602).toInt64)))))] ++ (W2_3604 ++ [])) : va_W).Perm (([(o, .inl (G.2 5, 1, .inr (.inl (vp_updL of 0 ((rr_3602).toInt64)))))] ++ (W2_3604 ++ [])) ++ []) := segs_perm [[(o, .inl (G.2 5, 1, .inr (.inl (vp_updL of 0 ((rr_3602).toInt64)))))], W2_3604] [0, 1] [] rfl
    have hP9 : va_P G.1 CL ([(o, .inl (G.2 5, 1, .inr (.inl (vp_updL of 0 ((rr_3602).toInt64)))))] ++ (W2_3604 ++ [])) H := P_left (P_perm hpm_3615 hP)
    have hD9 : va_D A ([(o, .inl (G.2 5, 1, .inr (.inl (vp_updL of 0 ((rr_3602).toInt64)))))] ++ (W2_3604 ++ [])) := D_left (D_perm hpm_3615 hD)
    exact end_i hx hb hr hlk (rfl) (qc_of (vp_updL of 0 ((rr_3602).toInt64), ((B2_3603, dS S, min 6 (dK S + 1), hsR (dH S) (dK S) (dC S), dL S, dN S) : DS), W2_3604) (v := some (.int (nI 0))) (by rw [hq_3610]) (⟨fun _ => by rw [← hq_3611]; exact pk_uLs, NxS.yes hq_3610 hq_3612, by rw [hq_3610]; decide, hq_3613⟩) hP9 hD9 (trivial) hS) hS dX0_removeTest_16 (show 0 + (3 + 101) ≤ 3 + 101 from by first | exact Nat.le_refl _ | decide | omega) (show 0 + (12 + 5800) ≤ 12 + 5800 from by first | exact Nat.le_refl _ | decide | omega)

set_option maxHeartbeats 4000000 in
theorem wX0_setBound (l : Launch) (G : Gt) (d : Nat) (S : DS) (W : va_W) (o : Nat) (of : Nat → Int64) (z : Int32) (w : Int32) (h : DyW G d S W) (hfl : l.stackTraces = false) : CTW l G yX0_setBound cX0_setBound 5 (some .int) [(0, 10, 13, 13), (0, 10, 17, 15)] ({ frames := 10, cells := 1 + 101, slots := 6 + 5800, locals := 233 } : Room) [.ref d, .int z, .int w, .ref o] ([(o, .inl (G.2 5, 1, .inr (.inl of)))] ++ (W ++ [])) RH0 (S := (Nat → Int64) × DS × va_W) (fun (u_ : (Nat → Int64) × DS × va_W) => some (.int (nI ((o_setBound (dC S) z w).1)))) (fun (u_ : (Nat → Int64) × DS × va_W) => ((o_setBound (dC S) z w).1 = 0 → u_.1 0 = ((o_setBound (dC S) z w).2.1).toInt64) ∧ NxS S (o_setBound (dC S) z w) u_.2.1 ∧ (o_setBound (dC S) z w).1 < 10 ∧ DyW G d u_.2.1 u_.2.2) (fun (u_ : (Nat → Int64) × DS × va_W) => ([(o, .inl (G.2 5, 1, .inr (.inl u_.1)))] ++ (u_.2.2 ++ []))) (fun (u_ : (Nat → Int64) × DS × va_W) (H : Heap) => True) := by
  refine CTW.of (by decide) (Nat.le_of_ble_eq_true rfl) ?_
  intro p e s m below meth c ls A H locs h9 hH0 hP hS hNc htab
  obtain ⟨cf, hr, hlk, hnm, hKB, hE, -, hD, -, hA, hAw, hRH, hl⟩ := h9
  have hx := cf.1
  have hb := cf.2.1
  have hml := cf.2.2.1
  have hown : s.vm.findClass RX0 = some m.cls := cf.2.2.2.1
  have hts := cf.2.2.2.2
  have hK := hKB.1
  have hl : lv_has ls 5 [(0, .ref d), (1, .int z), (2, .int w), (3, .ref o)] := hl
  refine lv_aload_n hx hb dX0_setBound_0 rfl (lv_at hl 3 rfl) ?_
  refine lv_iconst (v := nI 0) hx hb dX0_setBound_1 (by decide) ?_
  refine lv_aload_n hx hb dX0_setBound_2 rfl (lv_at hl 0 rfl) ?_
  refine lv_iload_n hx hb dX0_setBound_3 rfl (lv_at hl 1 rfl) ?_
  refine lv_iload_n hx hb dX0_setBound_4 rfl (lv_at hl 2 rfl) ?_
  have hpm_3616 : (([(o, .inl (G.2 5, 1, .inr (.inl of)))] ++ (W ++ [])) : va_W).Perm ((W ++ []) ++ [(o, .inl (G.2 5, 1, .inr (.inl of)))]) := segs_perm [[(o, .inl (G.2 5, 1, .inr (.inl of)))], W] [1] [0] rfl
  have hF := hF_ofP (wc := (W ++ [])) hD hS hA hpm_3616
  refine go_cxP hS hP hD hpm_3616 hF
      (vx_runV (As := [.int z, .int w]) (rest := [.int (nI 0), .ref o]) cf (dX1_setBound l G d S W z w (show DyW G d S W from by first | assumption | omega) hfl H.size) (cwV 2 hts (lw_V q1048 q1049 q1050 q47 q1051) rfl rfl rfl (by decide +kernel) ⟨Nat.le_of_ble_eq_true rfl, Nat.le_of_ble_eq_true rfl⟩) (preV_of hKB hE hS hF (DyW.recv hK h (seg_at [[(o, .inl (G.2 5, 1, .inr (.inl of)))], W] 1 rfl hP)) (P_left (P_perm hpm_3616 hP)) ((D_left (D_perm hpm_3616 hD)).weaken (fun _ _ _ _ => trivial)) trivial) rfl rfl hl.1 rfl (lv_room (Nat.le_of_ble_eq_true rfl)) dX0_setBound_5 ⟨show 0 + (1 + 101) ≤ 1 + 101 from by first | decide | omega, show 0 + (6 + 5800) ≤ 6 + 5800 from by first | decide | omega⟩)
      (fun u_ H locs ce q9 hq hph (hP : va_P G.1 CL ([(o, .inl (G.2 5, 1, .inr (.inl of)))] ++ (W ++ [])) H) (hD : va_D A ([(o, .inl (G.2 5, 1, .inr (.inl of)))] ++ (W ++ []))) hS hfz hfk hce hcv hcl => ?_) (fun u_ H locs hq hph (hP : va_P G.1 CL ([(o, .inl (G.2 5, 1, .inr (.inl of)))] ++ (u_.2.2 ++ [])) H) (hD : va_D A ([(o, .inl (G.2 5, 1, .inr (.inl of)))] ++ (u_.2.2 ++ []))) hS hfz hfk => ?_)
  · obtain ⟨kx_3620, rfl⟩ : ∃ z, z = u_ := ⟨_, rfl⟩
    obtain ⟨hq_3621, hq_3622⟩ : (o_setBound (dC S) z w).1 = kx_3620 ∧ 1 ≤ kx_3620 ∧ kx_3620 ≤ 2 := hq
    have hpm_3623 : ([(o, .inl (G.2 5, 1, .inr (.inl of)))] ++ (W ++ []) : va_W).Perm ([(o, .inl (G.2 5, 1, .inr (.inl of)))] ++ (W ++ [])) := segs_perm2 [[(o, .inl (G.2 5, 1, .inr (.inl of)))]] [W] [0, 1] rfl
    have hP : va_P G.1 CL ([(o, .inl (G.2 5, 1, .inr (.inl of)))] ++ (W ++ [])) H := P_perm hpm_3623 hP
    have hD : va_D A ([(o, .inl (G.2 5, 1, .inr (.inl of)))] ++ (W ++ [])) := D_perm hpm_3623 hD
    rcases (show kx_3620 = 1 ∨ kx_3620 = 2 by omega) with rfl | rfl
    · have hcl9 : s.vm.findClass eA = some ce.cls := hcl
      refine vx_catch (name := eA) (E := eA) hown [] (⟨0, 10, 13, 13⟩ : ExceptionTableEntry) [(⟨0, 10, 17, 15⟩ : ExceptionTableEntry)] (by rw [htab]; rfl) (fun z hz => absurd hz List.not_mem_nil) (by decide) (by decide) (hts _ q680) (va_Nw.use rfl (hKB.nest q698 rfl)) hce hcv hcl9 ?_
      refine W.eq (g2 := F0 m 13 ls [.ref q9]) rfl ?_
      refine lv_astore (lv' := [(4, .ref q9), (0, .ref d), (1, .int z), (2, .int w), (3, .ref o)]) hx hb dX0_setBound_13 hl (by decide) rfl (fun ls hl => ?_)
      refine lv_iconst (v := nI 1) hx hb dX0_setBound_15 (by decide) ?_
      refine vx_ret ?_
      have hpm_3624 : (([(o, .inl (G.2 5, 1, .inr (.inl of)))] ++ (W ++ [])) : va_W).Perm (([(o, .inl (G.2 5, 1, .inr (.inl of)))] ++ (W ++ [])) ++ []) := segs_perm [[(o, .inl (G.2 5, 1, .inr (.inl of)))], W] [0, 1] [] rfl
      have hP9 : va_P G.1 CL ([(o, .inl (G.2 5, 1, .inr (.inl of)))] ++ (W ++ [])) H := P_left (P_perm hpm_3624 hP)
      have hD9 : va_D A ([(o, .inl (G.2 5, 1, .inr (.inl of)))] ++ (W ++ [])) := D_left (D_perm hpm_3624 hD)
      exact end_i hx hb hr hlk (rfl) (qc_of (of, S, W) (v := some (.int (nI 1))) (by rw [hq_3621]) (⟨fun z9 => absurd (hq_3621.symm.trans z9) (by decide), NxS.no (fun z9 => absurd (hq_3621.symm.trans z9) (by decide)), by rw [hq_3621]; decide, h⟩) hP9 hD9 (trivial) hS) hS dX0_setBound_16 (show 0 + (1 + 101) ≤ 1 + 101 from by first | exact Nat.le_refl _ | decide | omega) (show 0 + (6 + 5800) ≤ 6 + 5800 from by first | exact Nat.le_refl _ | decide | omega)
    · have hcl9 : s.vm.findClass eS9 = some ce.cls := hcl
      refine vx_catch (name := eS9) (E := eS9) hown [(⟨0, 10, 13, 13⟩ : ExceptionTableEntry)] (⟨0, 10, 17, 15⟩ : ExceptionTableEntry) [] (by rw [htab]; rfl) (fun z hz => by rcases List.mem_singleton.mp hz with rfl; exact Or.inr ⟨by decide, _, hts _ q680, hNc _ (List.mem_of_getElem? (i := 0) rfl)⟩) (by decide) (by decide) (hts _ q681) (va_Nw.use rfl (hKB.nest q577 rfl)) hce hcv hcl9 ?_
      refine W.eq (g2 := F0 m 17 ls [.ref q9]) rfl ?_
      refine lv_astore (lv' := [(4, .ref q9), (0, .ref d), (1, .int z), (2, .int w), (3, .ref o)]) hx hb dX0_setBound_17 hl (by decide) rfl (fun ls hl => ?_)
      refine lv_iconst (v := nI 2) hx hb dX0_setBound_19 (by decide) ?_
      refine vx_ret ?_
      have hpm_3625 : (([(o, .inl (G.2 5, 1, .inr (.inl of)))] ++ (W ++ [])) : va_W).Perm (([(o, .inl (G.2 5, 1, .inr (.inl of)))] ++ (W ++ [])) ++ []) := segs_perm [[(o, .inl (G.2 5, 1, .inr (.inl of)))], W] [0, 1] [] rfl
      have hP9 : va_P G.1 CL ([(o, .inl (G.2 5, 1, .inr (.inl of)))] ++ (W ++ [])) H := P_left (P_perm hpm_3625 hP)
      have hD9 : va_D A ([(o, .inl (G.2 5, 1, .inr (.inl of)))] ++ (W ++ [])) := D_left (D_perm hpm_3625 hD)
      exact end_i hx hb hr hlk (rfl) (qc_of (of, S, W) (v := some (.int (nI 2))) (by rw [hq_3621]) (⟨fun z9 => absurd (hq_3621.symm.trans z9) (by decide), NxS.no (fun z9 => absurd (hq_3621.symm.trans z9) (by decide)), by rw [hq_3621]; decide, h⟩) hP9 hD9 (trivial) hS) hS dX0_setBound_20 (show 0 + (1 + 101) ≤ 1 + 101 from by first | exact Nat.le_refl _ | decide | omega) (show 0 + (6 + 5800) ≤ 6 + 5800 from by first | exact Nat.le_refl _ | decide | omega)
  · obtain ⟨rr_3617, B2_3618, W2_3619⟩ := u_
    obtain ⟨hq_3626, hq_3627, hq_3628, hq_3629⟩ : (o_setBound (dC S) z w).1 = 0 ∧ rr_3617 = (o_setBound (dC S) z w).2.1 ∧ Sim (o_setBound (dC S) z w).2.2 B2_3618 ∧ DyW G d ((B2_3618, dS S, min 6 (dK S + 1), hsR (dH S) (dK S) (dC S), dL S, dN S) : DS) W2_3619 := hq
    have hpm_3630 : ([(o, .inl (G.2 5, 1, .inr (.inl of)))] ++ (W2_3619 ++ []) : va_W).Perm ([(o, .inl (G.2 5, 1, .inr (.inl of)))] ++ (W2_3619 ++ [])) := segs_perm2 [[(o, .inl (G.2 5, 1, .inr (.inl of)))]] [W2_3619] [0, 1] rfl
    have hP : va_P G.1 CL ([(o, .inl (G.2 5, 1, .inr (.inl of)))] ++ (W2_3619 ++ [])) H := P_perm hpm_3630 hP
    have hD : va_D A ([(o, .inl (G.2 5, 1, .inr (.inl of)))] ++ (W2_3619 ++ [])) := D_perm hpm_3630 hD
    refine W.eq (g2 := F0 m 8 ls [.int rr_3617, .int (nI 0), .ref o]) rfl ?_
    refine lv_i2l (v := (rr_3617).toInt64) hx hb dX0_setBound_8 rfl ?_
    refine r_last hx hb hK hP hD hS 0 5 rfl rfl (i := 0) (by omega) (by omega) dX0_setBound_9 (fun H locs (hP : va_P G.1 CL ([(o, .inl (G.2 5, 1, .inr (.inl (vp_updL of 0 ((rr_3617).toInt64)))))] ++ (W2_3619 ++ [])) H) (hD : va_D A ([(o, .inl (G.2 5, 1, .inr (.inl (vp_updL of 0 ((rr_3617).toInt64)))))] ++ (W2_3619 ++ []))) hS => ?_)
    refine lv_goto (tgt := 21) hx hb dX0_setBound_10 (by decide) ?_
    refine lv_iconst (v := nI 0) hx hb dX0_setBound_21 (by decide) ?_
    refine vx_ret ?_
    have hpm_3631 : (([(o, .inl (G.2 5, 1, .inr (.inl (vp_updL of 0 ((rr_3617).toInt64)))))] ++ (W2_3619 ++ [])) : va_W).Perm (([(o, .inl (G.2 5, 1, .inr (.inl (vp_updL of 0 ((rr_3617).toInt64)))))] ++ (W2_3619 ++ [])) ++ []) := segs_perm [[(o, .inl (G.2 5, 1, .inr (.inl (vp_updL of 0 ((rr_3617).toInt64)))))], W2_3619] [0, 1] [] rfl
    have hP9 : va_P G.1 CL ([(o, .inl (G.2 5, 1, .inr (.inl (vp_updL of 0 ((rr_3617).toInt64)))))] ++ (W2_3619 ++ [])) H := P_left (P_perm hpm_3631 hP)
    have hD9 : va_D A ([(o, .inl (G.2 5, 1, .inr (.inl (vp_updL of 0 ((rr_3617).toInt64)))))] ++ (W2_3619 ++ [])) := D_left (D_perm hpm_3631 hD)
    exact end_i hx hb hr hlk (rfl) (qc_of (vp_updL of 0 ((rr_3617).toInt64), ((B2_3618, dS S, min 6 (dK S + 1), hsR (dH S) (dK S) (dC S), dL S, dN S) : DS), W2_3619) (v := some (.int (nI 0))) (by rw [hq_3626]) (⟨fun _ => by rw [← hq_3627]; exact pk_uLs, NxS.yes hq_3626 hq_3628, by rw [hq_3626]; decide, hq_3629⟩) hP9 hD9 (trivial) hS) hS dX0_setBound_22 (show 0 + (1 + 101) ≤ 1 + 101 from by first | exact Nat.le_refl _ | decide | omega) (show 0 + (6 + 5800) ≤ 6 + 5800 from by first | exact Nat.le_refl _ | decide | omega)

set_option maxHeartbeats 4000000 in
theorem wX0_setWeight (l : Launch) (G : Gt) (d : Nat) (S : DS) (W : va_W) (o : Nat) (of : Nat → Int64) (z : Int32) (w : Int32) (h : DyW G d S W) (hfl : l.stackTraces = false) : CTW l G yX0_setWeight cX0_setWeight 5 (some .int) [(0, 10, 13, 13)] ({ frames := 10, cells := 1 + 101, slots := 6 + 5800, locals := 233 } : Room) [.ref d, .int z, .int w, .ref o] ([(o, .inl (G.2 5, 1, .inr (.inl of)))] ++ (W ++ [])) RH0 (S := (Nat → Int64) × DS × va_W) (fun (u_ : (Nat → Int64) × DS × va_W) => some (.int (nI ((o_setWeight (dC S) z w).1)))) (fun (u_ : (Nat → Int64) × DS × va_W) => ((o_setWeight (dC S) z w).1 = 0 → u_.1 0 = ((o_setWeight (dC S) z w).2.1).toInt64) ∧ NxS S (o_setWeight (dC S) z w) u_.2.1 ∧ (o_setWeight (dC S) z w).1 < 10 ∧ DyW G d u_.2.1 u_.2.2) (fun (u_ : (Nat → Int64) × DS × va_W) => ([(o, .inl (G.2 5, 1, .inr (.inl u_.1)))] ++ (u_.2.2 ++ []))) (fun (u_ : (Nat → Int64) × DS × va_W) (H : Heap) => True) := by
  refine CTW.of (by decide) (Nat.le_of_ble_eq_true rfl) ?_
  intro p e s m below meth c ls A H locs h9 hH0 hP hS hNc htab
  obtain ⟨cf, hr, hlk, hnm, hKB, hE, -, hD, -, hA, hAw, hRH, hl⟩ := h9
  have hx := cf.1
  have hb := cf.2.1
  have hml := cf.2.2.1
  have hown : s.vm.findClass RX0 = some m.cls := cf.2.2.2.1
  have hts := cf.2.2.2.2
  have hK := hKB.1
  have hl : lv_has ls 5 [(0, .ref d), (1, .int z), (2, .int w), (3, .ref o)] := hl
  refine lv_aload_n hx hb dX0_setWeight_0 rfl (lv_at hl 3 rfl) ?_
  refine lv_iconst (v := nI 0) hx hb dX0_setWeight_1 (by decide) ?_
  refine lv_aload_n hx hb dX0_setWeight_2 rfl (lv_at hl 0 rfl) ?_
  refine lv_iload_n hx hb dX0_setWeight_3 rfl (lv_at hl 1 rfl) ?_
  refine lv_iload_n hx hb dX0_setWeight_4 rfl (lv_at hl 2 rfl) ?_
  have hpm_3632 : (([(o, .inl (G.2 5, 1, .inr (.inl of)))] ++ (W ++ [])) : va_W).Perm ((W ++ []) ++ [(o, .inl (G.2 5, 1, .inr (.inl of)))]) := segs_perm [[(o, .inl (G.2 5, 1, .inr (.inl of)))], W] [1] [0] rfl
  have hF := hF_ofP (wc := (W ++ [])) hD hS hA hpm_3632
  refine go_cxP hS hP hD hpm_3632 hF
      (vx_runV (As := [.int z, .int w]) (rest := [.int (nI 0), .ref o]) cf (dX1_setWeight l G d S W z w (show DyW G d S W from by first | assumption | omega) hfl H.size) (cwV 2 hts (lw_V q1066 q1067 q1068 q47 q1069) rfl rfl rfl (by decide +kernel) ⟨Nat.le_of_ble_eq_true rfl, Nat.le_of_ble_eq_true rfl⟩) (preV_of hKB hE hS hF (DyW.recv hK h (seg_at [[(o, .inl (G.2 5, 1, .inr (.inl of)))], W] 1 rfl hP)) (P_left (P_perm hpm_3632 hP)) ((D_left (D_perm hpm_3632 hD)).weaken (fun _ _ _ _ => trivial)) trivial) rfl rfl hl.1 rfl (lv_room (Nat.le_of_ble_eq_true rfl)) dX0_setWeight_5 ⟨show 0 + (1 + 101) ≤ 1 + 101 from by first | decide | omega, show 0 + (6 + 5800) ≤ 6 + 5800 from by first | decide | omega⟩)
      (fun u_ H locs ce q9 hq hph (hP : va_P G.1 CL ([(o, .inl (G.2 5, 1, .inr (.inl of)))] ++ (W ++ [])) H) (hD : va_D A ([(o, .inl (G.2 5, 1, .inr (.inl of)))] ++ (W ++ []))) hS hfz hfk hce hcv hcl => ?_) (fun u_ H locs hq hph (hP : va_P G.1 CL ([(o, .inl (G.2 5, 1, .inr (.inl of)))] ++ (u_.2.2 ++ [])) H) (hD : va_D A ([(o, .inl (G.2 5, 1, .inr (.inl of)))] ++ (u_.2.2 ++ []))) hS hfz hfk => ?_)
  · obtain ⟨kx_3636, rfl⟩ : ∃ z, z = u_ := ⟨_, rfl⟩
    obtain ⟨hq_3637, hq_3638⟩ : (o_setWeight (dC S) z w).1 = kx_3636 ∧ 1 ≤ kx_3636 ∧ kx_3636 ≤ 1 := hq
    have hpm_3639 : ([(o, .inl (G.2 5, 1, .inr (.inl of)))] ++ (W ++ []) : va_W).Perm ([(o, .inl (G.2 5, 1, .inr (.inl of)))] ++ (W ++ [])) := segs_perm2 [[(o, .inl (G.2 5, 1, .inr (.inl of)))]] [W] [0, 1] rfl
    have hP : va_P G.1 CL ([(o, .inl (G.2 5, 1, .inr (.inl of)))] ++ (W ++ [])) H := P_perm hpm_3639 hP
    have hD : va_D A ([(o, .inl (G.2 5, 1, .inr (.inl of)))] ++ (W ++ [])) := D_perm hpm_3639 hD
    obtain rfl : kx_3636 = 1 := by omega
    have hcl9 : s.vm.findClass eA = some ce.cls := hcl
    refine vx_catch (name := eA) (E := eA) hown [] (⟨0, 10, 13, 13⟩ : ExceptionTableEntry) [] (by rw [htab]; rfl) (fun z hz => absurd hz List.not_mem_nil) (by decide) (by decide) (hts _ q680) (va_Nw.use rfl (hKB.nest q698 rfl)) hce hcv hcl9 ?_
    refine W.eq (g2 := F0 m 13 ls [.ref q9]) rfl ?_
    refine lv_astore (lv' := [(4, .ref q9), (0, .ref d), (1, .int z), (2, .int w), (3, .ref o)]) hx hb dX0_setWeight_13 hl (by decide) rfl (fun ls hl => ?_)
    refine lv_iconst (v := nI 1) hx hb dX0_setWeight_15 (by decide) ?_
    refine vx_ret ?_
    have hpm_3640 : (([(o, .inl (G.2 5, 1, .inr (.inl of)))] ++ (W ++ [])) : va_W).Perm (([(o, .inl (G.2 5, 1, .inr (.inl of)))] ++ (W ++ [])) ++ []) := segs_perm [[(o, .inl (G.2 5, 1, .inr (.inl of)))], W] [0, 1] [] rfl
    have hP9 : va_P G.1 CL ([(o, .inl (G.2 5, 1, .inr (.inl of)))] ++ (W ++ [])) H := P_left (P_perm hpm_3640 hP)
    have hD9 : va_D A ([(o, .inl (G.2 5, 1, .inr (.inl of)))] ++ (W ++ [])) := D_left (D_perm hpm_3640 hD)
    exact end_i hx hb hr hlk (rfl) (qc_of (of, S, W) (v := some (.int (nI 1))) (by rw [hq_3637]) (⟨fun z9 => absurd (hq_3637.symm.trans z9) (by decide), NxS.no (fun z9 => absurd (hq_3637.symm.trans z9) (by decide)), by rw [hq_3637]; decide, h⟩) hP9 hD9 (trivial) hS) hS dX0_setWeight_16 (show 0 + (1 + 101) ≤ 1 + 101 from by first | exact Nat.le_refl _ | decide | omega) (show 0 + (6 + 5800) ≤ 6 + 5800 from by first | exact Nat.le_refl _ | decide | omega)
  · obtain ⟨rr_3633, B2_3634, W2_3635⟩ := u_
    obtain ⟨hq_3641, hq_3642, hq_3643, hq_3644⟩ : (o_setWeight (dC S) z w).1 = 0 ∧ rr_3633 = (o_setWeight (dC S) z w).2.1 ∧ Sim (o_setWeight (dC S) z w).2.2 B2_3634 ∧ DyW G d ((B2_3634, dS S, min 6 (dK S + 1), hsR (dH S) (dK S) (dC S), dL S, dN S) : DS) W2_3635 := hq
    have hpm_3645 : ([(o, .inl (G.2 5, 1, .inr (.inl of)))] ++ (W2_3635 ++ []) : va_W).Perm ([(o, .inl (G.2 5, 1, .inr (.inl of)))] ++ (W2_3635 ++ [])) := segs_perm2 [[(o, .inl (G.2 5, 1, .inr (.inl of)))]] [W2_3635] [0, 1] rfl
    have hP : va_P G.1 CL ([(o, .inl (G.2 5, 1, .inr (.inl of)))] ++ (W2_3635 ++ [])) H := P_perm hpm_3645 hP
    have hD : va_D A ([(o, .inl (G.2 5, 1, .inr (.inl of)))] ++ (W2_3635 ++ [])) := D_perm hpm_3645 hD
    refine W.eq (g2 := F0 m 8 ls [.int rr_3633, .int (nI 0), .ref o]) rfl ?_
    refine lv_i2l (v := (rr_3633).toInt64) hx hb dX0_setWeight_8 rfl ?_
    refine r_last hx hb hK hP hD hS 0 5 rfl rfl (i := 0) (by omega) (by omega) dX0_setWeight_9 (fun H locs (hP : va_P G.1 CL ([(o, .inl (G.2 5, 1, .inr (.inl (vp_updL of 0 ((rr_3633).toInt64)))))] ++ (W2_3635 ++ [])) H) (hD : va_D A ([(o, .inl (G.2 5, 1, .inr (.inl (vp_updL of 0 ((rr_3633).toInt64)))))] ++ (W2_3635 ++ []))) hS => ?_)
    refine lv_goto (tgt := 17) hx hb dX0_setWeight_10 (by decide) ?_
    refine lv_iconst (v := nI 0) hx hb dX0_setWeight_17 (by decide) ?_
    refine vx_ret ?_
    have hpm_3646 : (([(o, .inl (G.2 5, 1, .inr (.inl (vp_updL of 0 ((rr_3633).toInt64)))))] ++ (W2_3635 ++ [])) : va_W).Perm (([(o, .inl (G.2 5, 1, .inr (.inl (vp_updL of 0 ((rr_3633).toInt64)))))] ++ (W2_3635 ++ [])) ++ []) := segs_perm [[(o, .inl (G.2 5, 1, .inr (.inl (vp_updL of 0 ((rr_3633).toInt64)))))], W2_3635] [0, 1] [] rfl
    have hP9 : va_P G.1 CL ([(o, .inl (G.2 5, 1, .inr (.inl (vp_updL of 0 ((rr_3633).toInt64)))))] ++ (W2_3635 ++ [])) H := P_left (P_perm hpm_3646 hP)
    have hD9 : va_D A ([(o, .inl (G.2 5, 1, .inr (.inl (vp_updL of 0 ((rr_3633).toInt64)))))] ++ (W2_3635 ++ [])) := D_left (D_perm hpm_3646 hD)
    exact end_i hx hb hr hlk (rfl) (qc_of (vp_updL of 0 ((rr_3633).toInt64), ((B2_3634, dS S, min 6 (dK S + 1), hsR (dH S) (dK S) (dC S), dL S, dN S) : DS), W2_3635) (v := some (.int (nI 0))) (by rw [hq_3641]) (⟨fun _ => by rw [← hq_3642]; exact pk_uLs, NxS.yes hq_3641 hq_3643, by rw [hq_3641]; decide, hq_3644⟩) hP9 hD9 (trivial) hS) hS dX0_setWeight_18 (show 0 + (1 + 101) ≤ 1 + 101 from by first | exact Nat.le_refl _ | decide | omega) (show 0 + (6 + 5800) ≤ 6 + 5800 from by first | exact Nat.le_refl _ | decide | omega)

set_option maxHeartbeats 4000000 in
theorem wX0_addSession (l : Launch) (G : Gt) (d : Nat) (S : DS) (W : va_W) (o : Nat) (of : Nat → Int64) (v : Int32) (h : DyW G d S W) (hi9 : bI9 (dC S) < 1000000) (hfl : l.stackTraces = false) : CTW l G yX0_addSession cX0_addSession 4 (some .int) [(0, 9, 12, 13), (0, 9, 15, 15)] ({ frames := 10, cells := 4 + 101, slots := 64 + 5800, locals := 232 } : Room) [.ref d, .int v, .ref o] ([(o, .inl (G.2 5, 1, .inr (.inl of)))] ++ (W ++ [])) RH0 (S := (Nat → Int64) × DS × va_W) (fun (u_ : (Nat → Int64) × DS × va_W) => some (.int (nI ((o_addSes (dC S) v).1)))) (fun (u_ : (Nat → Int64) × DS × va_W) => ((o_addSes (dC S) v).1 = 0 → u_.1 0 = ((o_addSes (dC S) v).2.1).toInt64) ∧ NxS S (o_addSes (dC S) v) u_.2.1 ∧ (o_addSes (dC S) v).1 < 10 ∧ DyW G d u_.2.1 u_.2.2) (fun (u_ : (Nat → Int64) × DS × va_W) => ([(o, .inl (G.2 5, 1, .inr (.inl u_.1)))] ++ (u_.2.2 ++ []))) (fun (u_ : (Nat → Int64) × DS × va_W) (H : Heap) => True) := by
  refine CTW.of (by decide) (Nat.le_of_ble_eq_true rfl) ?_
  intro p e s m below meth c ls A H locs h9 hH0 hP hS hNc htab
  obtain ⟨cf, hr, hlk, hnm, hKB, hE, -, hD, -, hA, hAw, hRH, hl⟩ := h9
  have hx := cf.1
  have hb := cf.2.1
  have hml := cf.2.2.1
  have hown : s.vm.findClass RX0 = some m.cls := cf.2.2.2.1
  have hts := cf.2.2.2.2
  have hK := hKB.1
  have hl : lv_has ls 4 [(0, .ref d), (1, .int v), (2, .ref o)] := hl
  refine lv_aload_n hx hb dX0_addSession_0 rfl (lv_at hl 2 rfl) ?_
  refine lv_iconst (v := nI 0) hx hb dX0_addSession_1 (by decide) ?_
  refine lv_aload_n hx hb dX0_addSession_2 rfl (lv_at hl 0 rfl) ?_
  refine lv_iload_n hx hb dX0_addSession_3 rfl (lv_at hl 1 rfl) ?_
  have hpm_3647 : (([(o, .inl (G.2 5, 1, .inr (.inl of)))] ++ (W ++ [])) : va_W).Perm ((W ++ []) ++ [(o, .inl (G.2 5, 1, .inr (.inl of)))]) := segs_perm [[(o, .inl (G.2 5, 1, .inr (.inl of)))], W] [1] [0] rfl
  have hF := hF_ofP (wc := (W ++ [])) hD hS hA hpm_3647
  refine go_cxP hS hP hD hpm_3647 hF
      (vx_runV (As := [.int v]) (rest := [.int (nI 0), .ref o]) cf (dX1_addSession l G d S W v (show DyW G d S W from by first | assumption | omega) (show bI9 (dC S) < 1000000 from by first | assumption | omega) hfl H.size) (cwV 1 hts (lw_V q1095 q1096 q1097 q47 q1098) rfl rfl rfl (by decide +kernel) ⟨Nat.le_of_ble_eq_true rfl, Nat.le_of_ble_eq_true rfl⟩) (preV_of hKB hE hS hF (DyW.recv hK h (seg_at [[(o, .inl (G.2 5, 1, .inr (.inl of)))], W] 1 rfl hP)) (P_left (P_perm hpm_3647 hP)) ((D_left (D_perm hpm_3647 hD)).weaken (fun _ _ _ _ => trivial)) trivial) rfl rfl hl.1 rfl (lv_room (Nat.le_of_ble_eq_true rfl)) dX0_addSession_4 ⟨show 0 + (4 + 101) ≤ 4 + 101 from by first | decide | omega, show 0 + (64 + 5800) ≤ 64 + 5800 from by first | decide | omega⟩)
      (fun u_ H locs ce q9 hq hph (hP : va_P G.1 CL ([(o, .inl (G.2 5, 1, .inr (.inl of)))] ++ (W ++ [])) H) (hD : va_D A ([(o, .inl (G.2 5, 1, .inr (.inl of)))] ++ (W ++ []))) hS hfz hfk hce hcv hcl => ?_) (fun u_ H locs hq hph (hP : va_P G.1 CL ([(o, .inl (G.2 5, 1, .inr (.inl of)))] ++ (u_.2.2 ++ [])) H) (hD : va_D A ([(o, .inl (G.2 5, 1, .inr (.inl of)))] ++ (u_.2.2 ++ []))) hS hfz hfk => ?_)
  · obtain ⟨kx_3651, rfl⟩ : ∃ z, z = u_ := ⟨_, rfl⟩
    obtain ⟨hq_3652, hq_3653⟩ : (o_addSes (dC S) v).1 = kx_3651 ∧ 1 ≤ kx_3651 ∧ kx_3651 ≤ 2 := hq
    have hpm_3654 : ([(o, .inl (G.2 5, 1, .inr (.inl of)))] ++ (W ++ []) : va_W).Perm ([(o, .inl (G.2 5, 1, .inr (.inl of)))] ++ (W ++ [])) := segs_perm2 [[(o, .inl (G.2 5, 1, .inr (.inl of)))]] [W] [0, 1] rfl
    have hP : va_P G.1 CL ([(o, .inl (G.2 5, 1, .inr (.inl of)))] ++ (W ++ [])) H := P_perm hpm_3654 hP
    have hD : va_D A ([(o, .inl (G.2 5, 1, .inr (.inl of)))] ++ (W ++ [])) := D_perm hpm_3654 hD
    rcases (show kx_3651 = 1 ∨ kx_3651 = 2 by omega) with rfl | rfl
    · have hcl9 : s.vm.findClass eA = some ce.cls := hcl
      refine vx_catch (name := eA) (E := eA) hown [] (⟨0, 9, 12, 13⟩ : ExceptionTableEntry) [(⟨0, 9, 15, 15⟩ : ExceptionTableEntry)] (by rw [htab]; rfl) (fun z hz => absurd hz List.not_mem_nil) (by decide) (by decide) (hts _ q680) (va_Nw.use rfl (hKB.nest q698 rfl)) hce hcv hcl9 ?_
      refine W.eq (g2 := F0 m 12 ls [.ref q9]) rfl ?_
      refine lv_astore_n (lv' := [(3, .ref q9), (0, .ref d), (1, .int v), (2, .ref o)]) hx hb dX0_addSession_12 rfl hl (by decide) rfl (fun ls hl => ?_)
      refine lv_iconst (v := nI 1) hx hb dX0_addSession_13 (by decide) ?_
      refine vx_ret ?_
      have hpm_3655 : (([(o, .inl (G.2 5, 1, .inr (.inl of)))] ++ (W ++ [])) : va_W).Perm (([(o, .inl (G.2 5, 1, .inr (.inl of)))] ++ (W ++ [])) ++ []) := segs_perm [[(o, .inl (G.2 5, 1, .inr (.inl of)))], W] [0, 1] [] rfl
      have hP9 : va_P G.1 CL ([(o, .inl (G.2 5, 1, .inr (.inl of)))] ++ (W ++ [])) H := P_left (P_perm hpm_3655 hP)
      have hD9 : va_D A ([(o, .inl (G.2 5, 1, .inr (.inl of)))] ++ (W ++ [])) := D_left (D_perm hpm_3655 hD)
      exact end_i hx hb hr hlk (rfl) (qc_of (of, S, W) (v := some (.int (nI 1))) (by rw [hq_3652]) (⟨fun z9 => absurd (hq_3652.symm.trans z9) (by decide), NxS.no (fun z9 => absurd (hq_3652.symm.trans z9) (by decide)), by rw [hq_3652]; decide, h⟩) hP9 hD9 (trivial) hS) hS dX0_addSession_14 (show 0 + (4 + 101) ≤ 4 + 101 from by first | exact Nat.le_refl _ | decide | omega) (show 0 + (64 + 5800) ≤ 64 + 5800 from by first | exact Nat.le_refl _ | decide | omega)
    · have hcl9 : s.vm.findClass eS9 = some ce.cls := hcl
      refine vx_catch (name := eS9) (E := eS9) hown [(⟨0, 9, 12, 13⟩ : ExceptionTableEntry)] (⟨0, 9, 15, 15⟩ : ExceptionTableEntry) [] (by rw [htab]; rfl) (fun z hz => by rcases List.mem_singleton.mp hz with rfl; exact Or.inr ⟨by decide, _, hts _ q680, hNc _ (List.mem_of_getElem? (i := 0) rfl)⟩) (by decide) (by decide) (hts _ q681) (va_Nw.use rfl (hKB.nest q577 rfl)) hce hcv hcl9 ?_
      refine W.eq (g2 := F0 m 15 ls [.ref q9]) rfl ?_
      refine lv_astore_n (lv' := [(3, .ref q9), (0, .ref d), (1, .int v), (2, .ref o)]) hx hb dX0_addSession_15 rfl hl (by decide) rfl (fun ls hl => ?_)
      refine lv_iconst (v := nI 2) hx hb dX0_addSession_16 (by decide) ?_
      refine vx_ret ?_
      have hpm_3656 : (([(o, .inl (G.2 5, 1, .inr (.inl of)))] ++ (W ++ [])) : va_W).Perm (([(o, .inl (G.2 5, 1, .inr (.inl of)))] ++ (W ++ [])) ++ []) := segs_perm [[(o, .inl (G.2 5, 1, .inr (.inl of)))], W] [0, 1] [] rfl
      have hP9 : va_P G.1 CL ([(o, .inl (G.2 5, 1, .inr (.inl of)))] ++ (W ++ [])) H := P_left (P_perm hpm_3656 hP)
      have hD9 : va_D A ([(o, .inl (G.2 5, 1, .inr (.inl of)))] ++ (W ++ [])) := D_left (D_perm hpm_3656 hD)
      exact end_i hx hb hr hlk (rfl) (qc_of (of, S, W) (v := some (.int (nI 2))) (by rw [hq_3652]) (⟨fun z9 => absurd (hq_3652.symm.trans z9) (by decide), NxS.no (fun z9 => absurd (hq_3652.symm.trans z9) (by decide)), by rw [hq_3652]; decide, h⟩) hP9 hD9 (trivial) hS) hS dX0_addSession_17 (show 0 + (4 + 101) ≤ 4 + 101 from by first | exact Nat.le_refl _ | decide | omega) (show 0 + (64 + 5800) ≤ 64 + 5800 from by first | exact Nat.le_refl _ | decide | omega)
  · obtain ⟨rr_3648, B2_3649, W2_3650⟩ := u_
    obtain ⟨hq_3657, hq_3658, hq_3659, hq_3660⟩ : (o_addSes (dC S) v).1 = 0 ∧ rr_3648 = (o_addSes (dC S) v).2.1 ∧ Sim (o_addSes (dC S) v).2.2 B2_3649 ∧ DyW G d ((B2_3649, dS S, min 6 (dK S + 1), hsR (dH S) (dK S) (dC S), dL S, dN S) : DS) W2_3650 := hq
    have hpm_3661 : ([(o, .inl (G.2 5, 1, .inr (.inl of)))] ++ (W2_3650 ++ []) : va_W).Perm ([(o, .inl (G.2 5, 1, .inr (.inl of)))] ++ (W2_3650 ++ [])) := segs_perm2 [[(o, .inl (G.2 5, 1, .inr (.inl of)))]] [W2_3650] [0, 1] rfl
    have hP : va_P G.1 CL ([(o, .inl (G.2 5, 1, .inr (.inl of)))] ++ (W2_3650 ++ [])) H := P_perm hpm_3661 hP
    have hD : va_D A ([(o, .inl (G.2 5, 1, .inr (.inl of)))] ++ (W2_3650 ++ [])) := D_perm hpm_3661 hD
    refine W.eq (g2 := F0 m 7 ls [.int rr_3648, .int (nI 0), .ref o]) rfl ?_
    refine lv_i2l (v := (rr_3648).toInt64) hx hb dX0_addSession_7 rfl ?_
    refine r_last hx hb hK hP hD hS 0 5 rfl rfl (i := 0) (by omega) (by omega) dX0_addSession_8 (fun H locs (hP : va_P G.1 CL ([(o, .inl (G.2 5, 1, .inr (.inl (vp_updL of 0 ((rr_3648).toInt64)))))] ++ (W2_3650 ++ [])) H) (hD : va_D A ([(o, .inl (G.2 5, 1, .inr (.inl (vp_updL of 0 ((rr_3648).toInt64)))))] ++ (W2_3650 ++ []))) hS => ?_)
    refine lv_goto (tgt := 18) hx hb dX0_addSession_9 (by decide) ?_
    refine lv_iconst (v := nI 0) hx hb dX0_addSession_18 (by decide) ?_
    refine vx_ret ?_
    have hpm_3662 : (([(o, .inl (G.2 5, 1, .inr (.inl (vp_updL of 0 ((rr_3648).toInt64)))))] ++ (W2_3650 ++ [])) : va_W).Perm (([(o, .inl (G.2 5, 1, .inr (.inl (vp_updL of 0 ((rr_3648).toInt64)))))] ++ (W2_3650 ++ [])) ++ []) := segs_perm [[(o, .inl (G.2 5, 1, .inr (.inl (vp_updL of 0 ((rr_3648).toInt64)))))], W2_3650] [0, 1] [] rfl
    have hP9 : va_P G.1 CL ([(o, .inl (G.2 5, 1, .inr (.inl (vp_updL of 0 ((rr_3648).toInt64)))))] ++ (W2_3650 ++ [])) H := P_left (P_perm hpm_3662 hP)
    have hD9 : va_D A ([(o, .inl (G.2 5, 1, .inr (.inl (vp_updL of 0 ((rr_3648).toInt64)))))] ++ (W2_3650 ++ [])) := D_left (D_perm hpm_3662 hD)
    exact end_i hx hb hr hlk (rfl) (qc_of (vp_updL of 0 ((rr_3648).toInt64), ((B2_3649, dS S, min 6 (dK S + 1), hsR (dH S) (dK S) (dC S), dL S, dN S) : DS), W2_3650) (v := some (.int (nI 0))) (by rw [hq_3657]) (⟨fun _ => by rw [← hq_3658]; exact pk_uLs, NxS.yes hq_3657 hq_3659, by rw [hq_3657]; decide, hq_3660⟩) hP9 hD9 (trivial) hS) hS dX0_addSession_19 (show 0 + (4 + 101) ≤ 4 + 101 from by first | exact Nat.le_refl _ | decide | omega) (show 0 + (64 + 5800) ≤ 64 + 5800 from by first | exact Nat.le_refl _ | decide | omega)

set_option maxHeartbeats 4000000 in
theorem wX0_addPart (l : Launch) (G : Gt) (d : Nat) (S : DS) (W : va_W) (o : Nat) (of : Nat → Int64) (v : Int32) (z : Int32) (w : Int32) (h : DyW G d S W) (hfl : l.stackTraces = false) : CTW l G yX0_addPart cX0_addPart 6 (some .int) [(0, 12, 15, 24), (0, 12, 19, 13), (0, 12, 23, 15)] ({ frames := 10, cells := 5 + 101, slots := 90 + 5800, locals := 238 } : Room) [.ref d, .int v, .int z, .int w, .ref o] ([(o, .inl (G.2 5, 1, .inr (.inl of)))] ++ (W ++ [])) RH0 (S := (Nat → Int64) × DS × va_W) (fun (u_ : (Nat → Int64) × DS × va_W) => some (.int (nI ((o_addPart (dC S) v z w).1)))) (fun (u_ : (Nat → Int64) × DS × va_W) => ((o_addPart (dC S) v z w).1 = 0 → u_.1 0 = ((o_addPart (dC S) v z w).2.1).toInt64) ∧ NxS S (o_addPart (dC S) v z w) u_.2.1 ∧ (o_addPart (dC S) v z w).1 < 10 ∧ DyW G d u_.2.1 u_.2.2) (fun (u_ : (Nat → Int64) × DS × va_W) => ([(o, .inl (G.2 5, 1, .inr (.inl u_.1)))] ++ (u_.2.2 ++ []))) (fun (u_ : (Nat → Int64) × DS × va_W) (H : Heap) => True) := by
  refine CTW.of (by decide) (Nat.le_of_ble_eq_true rfl) ?_
  intro p e s m below meth c ls A H locs h9 hH0 hP hS hNc htab
  obtain ⟨cf, hr, hlk, hnm, hKB, hE, -, hD, -, hA, hAw, hRH, hl⟩ := h9
  have hx := cf.1
  have hb := cf.2.1
  have hml := cf.2.2.1
  have hown : s.vm.findClass RX0 = some m.cls := cf.2.2.2.1
  have hts := cf.2.2.2.2
  have hK := hKB.1
  have hl : lv_has ls 6 [(0, .ref d), (1, .int v), (2, .int z), (3, .int w), (4, .ref o)] := hl
  refine lv_aload hx hb dX0_addPart_0 (lv_at hl 4 rfl) ?_
  refine lv_iconst (v := nI 0) hx hb dX0_addPart_2 (by decide) ?_
  refine lv_aload_n hx hb dX0_addPart_3 rfl (lv_at hl 0 rfl) ?_
  refine lv_iload_n hx hb dX0_addPart_4 rfl (lv_at hl 1 rfl) ?_
  refine lv_iload_n hx hb dX0_addPart_5 rfl (lv_at hl 2 rfl) ?_
  refine lv_iload_n hx hb dX0_addPart_6 rfl (lv_at hl 3 rfl) ?_
  have hpm_3663 : (([(o, .inl (G.2 5, 1, .inr (.inl of)))] ++ (W ++ [])) : va_W).Perm ((W ++ []) ++ [(o, .inl (G.2 5, 1, .inr (.inl of)))]) := segs_perm [[(o, .inl (G.2 5, 1, .inr (.inl of)))], W] [1] [0] rfl
  have hF := hF_ofP (wc := (W ++ [])) hD hS hA hpm_3663
  refine go_cxP hS hP hD hpm_3663 hF
      (vx_runV (As := [.int v, .int z, .int w]) (rest := [.int (nI 0), .ref o]) cf (dX1_addPart l G d S W v z w (show DyW G d S W from by first | assumption | omega) hfl H.size) (cwV 3 hts (lw_V q1130 q1131 q1132 q47 q1133) rfl rfl rfl (by decide +kernel) ⟨Nat.le_of_ble_eq_true rfl, Nat.le_of_ble_eq_true rfl⟩) (preV_of hKB hE hS hF (DyW.recv hK h (seg_at [[(o, .inl (G.2 5, 1, .inr (.inl of)))], W] 1 rfl hP)) (P_left (P_perm hpm_3663 hP)) ((D_left (D_perm hpm_3663 hD)).weaken (fun _ _ _ _ => trivial)) trivial) rfl rfl hl.1 rfl (lv_room (Nat.le_of_ble_eq_true rfl)) dX0_addPart_7 ⟨show 0 + (5 + 101) ≤ 5 + 101 from by first | decide | omega, show 0 + (90 + 5800) ≤ 90 + 5800 from by first | decide | omega⟩)
      (fun u_ H locs ce q9 hq hph (hP : va_P G.1 CL ([(o, .inl (G.2 5, 1, .inr (.inl of)))] ++ (W ++ [])) H) (hD : va_D A ([(o, .inl (G.2 5, 1, .inr (.inl of)))] ++ (W ++ []))) hS hfz hfk hce hcv hcl => ?_) (fun u_ H locs hq hph (hP : va_P G.1 CL ([(o, .inl (G.2 5, 1, .inr (.inl of)))] ++ (u_.2.2 ++ [])) H) (hD : va_D A ([(o, .inl (G.2 5, 1, .inr (.inl of)))] ++ (u_.2.2 ++ []))) hS hfz hfk => ?_)
  · obtain ⟨kx_3667, rfl⟩ : ∃ z, z = u_ := ⟨_, rfl⟩
    obtain ⟨hq_3668, hq_3669⟩ : (o_addPart (dC S) v z w).1 = kx_3667 ∧ 1 ≤ kx_3667 ∧ kx_3667 ≤ 3 := hq
    have hpm_3670 : ([(o, .inl (G.2 5, 1, .inr (.inl of)))] ++ (W ++ []) : va_W).Perm ([(o, .inl (G.2 5, 1, .inr (.inl of)))] ++ (W ++ [])) := segs_perm2 [[(o, .inl (G.2 5, 1, .inr (.inl of)))]] [W] [0, 1] rfl
    have hP : va_P G.1 CL ([(o, .inl (G.2 5, 1, .inr (.inl of)))] ++ (W ++ [])) H := P_perm hpm_3670 hP
    have hD : va_D A ([(o, .inl (G.2 5, 1, .inr (.inl of)))] ++ (W ++ [])) := D_perm hpm_3670 hD
    rcases (show kx_3667 = 1 ∨ kx_3667 = 2 ∨ kx_3667 = 3 by omega) with rfl | rfl | rfl
    · have hcl9 : s.vm.findClass eN = some ce.cls := hcl
      refine vx_catch (name := eN) (E := eN) hown [] (⟨0, 12, 15, 24⟩ : ExceptionTableEntry) [(⟨0, 12, 19, 13⟩ : ExceptionTableEntry), (⟨0, 12, 23, 15⟩ : ExceptionTableEntry)] (by rw [htab]; rfl) (fun z hz => absurd hz List.not_mem_nil) (by decide) (by decide) (hts _ q1013) (va_Nw.use rfl (hKB.nest q334 rfl)) hce hcv hcl9 ?_
      refine W.eq (g2 := F0 m 15 ls [.ref q9]) rfl ?_
      refine lv_astore (lv' := [(5, .ref q9), (0, .ref d), (1, .int v), (2, .int z), (3, .int w), (4, .ref o)]) hx hb dX0_addPart_15 hl (by decide) rfl (fun ls hl => ?_)
      refine lv_iconst (v := nI 1) hx hb dX0_addPart_17 (by decide) ?_
      refine vx_ret ?_
      have hpm_3671 : (([(o, .inl (G.2 5, 1, .inr (.inl of)))] ++ (W ++ [])) : va_W).Perm (([(o, .inl (G.2 5, 1, .inr (.inl of)))] ++ (W ++ [])) ++ []) := segs_perm [[(o, .inl (G.2 5, 1, .inr (.inl of)))], W] [0, 1] [] rfl
      have hP9 : va_P G.1 CL ([(o, .inl (G.2 5, 1, .inr (.inl of)))] ++ (W ++ [])) H := P_left (P_perm hpm_3671 hP)
      have hD9 : va_D A ([(o, .inl (G.2 5, 1, .inr (.inl of)))] ++ (W ++ [])) := D_left (D_perm hpm_3671 hD)
      exact end_i hx hb hr hlk (rfl) (qc_of (of, S, W) (v := some (.int (nI 1))) (by rw [hq_3668]) (⟨fun z9 => absurd (hq_3668.symm.trans z9) (by decide), NxS.no (fun z9 => absurd (hq_3668.symm.trans z9) (by decide)), by rw [hq_3668]; decide, h⟩) hP9 hD9 (trivial) hS) hS dX0_addPart_18 (show 0 + (5 + 101) ≤ 5 + 101 from by first | exact Nat.le_refl _ | decide | omega) (show 0 + (90 + 5800) ≤ 90 + 5800 from by first | exact Nat.le_refl _ | decide | omega)
    · have hcl9 : s.vm.findClass eA = some ce.cls := hcl
      refine vx_catch (name := eA) (E := eA) hown [(⟨0, 12, 15, 24⟩ : ExceptionTableEntry)] (⟨0, 12, 19, 13⟩ : ExceptionTableEntry) [(⟨0, 12, 23, 15⟩ : ExceptionTableEntry)] (by rw [htab]; rfl) (fun z hz => by rcases List.mem_singleton.mp hz with rfl; exact Or.inr ⟨by decide, _, hts _ q1013, hNc _ (List.mem_of_getElem? (i := 1) rfl)⟩) (by decide) (by decide) (hts _ q680) (va_Nw.use rfl (hKB.nest q698 rfl)) hce hcv hcl9 ?_
      refine W.eq (g2 := F0 m 19 ls [.ref q9]) rfl ?_
      refine lv_astore (lv' := [(5, .ref q9), (0, .ref d), (1, .int v), (2, .int z), (3, .int w), (4, .ref o)]) hx hb dX0_addPart_19 hl (by decide) rfl (fun ls hl => ?_)
      refine lv_iconst (v := nI 2) hx hb dX0_addPart_21 (by decide) ?_
      refine vx_ret ?_
      have hpm_3672 : (([(o, .inl (G.2 5, 1, .inr (.inl of)))] ++ (W ++ [])) : va_W).Perm (([(o, .inl (G.2 5, 1, .inr (.inl of)))] ++ (W ++ [])) ++ []) := segs_perm [[(o, .inl (G.2 5, 1, .inr (.inl of)))], W] [0, 1] [] rfl
      have hP9 : va_P G.1 CL ([(o, .inl (G.2 5, 1, .inr (.inl of)))] ++ (W ++ [])) H := P_left (P_perm hpm_3672 hP)
      have hD9 : va_D A ([(o, .inl (G.2 5, 1, .inr (.inl of)))] ++ (W ++ [])) := D_left (D_perm hpm_3672 hD)
      exact end_i hx hb hr hlk (rfl) (qc_of (of, S, W) (v := some (.int (nI 2))) (by rw [hq_3668]) (⟨fun z9 => absurd (hq_3668.symm.trans z9) (by decide), NxS.no (fun z9 => absurd (hq_3668.symm.trans z9) (by decide)), by rw [hq_3668]; decide, h⟩) hP9 hD9 (trivial) hS) hS dX0_addPart_22 (show 0 + (5 + 101) ≤ 5 + 101 from by first | exact Nat.le_refl _ | decide | omega) (show 0 + (90 + 5800) ≤ 90 + 5800 from by first | exact Nat.le_refl _ | decide | omega)
    · have hcl9 : s.vm.findClass eS9 = some ce.cls := hcl
      refine vx_catch (name := eS9) (E := eS9) hown [(⟨0, 12, 15, 24⟩ : ExceptionTableEntry), (⟨0, 12, 19, 13⟩ : ExceptionTableEntry)] (⟨0, 12, 23, 15⟩ : ExceptionTableEntry) [] (by rw [htab]; rfl) (fun z hz => by rcases List.mem_cons.mp hz with rfl | hz; exact Or.inr ⟨by decide, _, hts _ q1013, hNc _ (List.mem_of_getElem? (i := 2) rfl)⟩; rcases List.mem_singleton.mp hz with rfl; exact Or.inr ⟨by decide, _, hts _ q680, hNc _ (List.mem_of_getElem? (i := 0) rfl)⟩) (by decide) (by decide) (hts _ q681) (va_Nw.use rfl (hKB.nest q577 rfl)) hce hcv hcl9 ?_
      refine W.eq (g2 := F0 m 23 ls [.ref q9]) rfl ?_
      refine lv_astore (lv' := [(5, .ref q9), (0, .ref d), (1, .int v), (2, .int z), (3, .int w), (4, .ref o)]) hx hb dX0_addPart_23 hl (by decide) rfl (fun ls hl => ?_)
      refine lv_iconst (v := nI 3) hx hb dX0_addPart_25 (by decide) ?_
      refine vx_ret ?_
      have hpm_3673 : (([(o, .inl (G.2 5, 1, .inr (.inl of)))] ++ (W ++ [])) : va_W).Perm (([(o, .inl (G.2 5, 1, .inr (.inl of)))] ++ (W ++ [])) ++ []) := segs_perm [[(o, .inl (G.2 5, 1, .inr (.inl of)))], W] [0, 1] [] rfl
      have hP9 : va_P G.1 CL ([(o, .inl (G.2 5, 1, .inr (.inl of)))] ++ (W ++ [])) H := P_left (P_perm hpm_3673 hP)
      have hD9 : va_D A ([(o, .inl (G.2 5, 1, .inr (.inl of)))] ++ (W ++ [])) := D_left (D_perm hpm_3673 hD)
      exact end_i hx hb hr hlk (rfl) (qc_of (of, S, W) (v := some (.int (nI 3))) (by rw [hq_3668]) (⟨fun z9 => absurd (hq_3668.symm.trans z9) (by decide), NxS.no (fun z9 => absurd (hq_3668.symm.trans z9) (by decide)), by rw [hq_3668]; decide, h⟩) hP9 hD9 (trivial) hS) hS dX0_addPart_26 (show 0 + (5 + 101) ≤ 5 + 101 from by first | exact Nat.le_refl _ | decide | omega) (show 0 + (90 + 5800) ≤ 90 + 5800 from by first | exact Nat.le_refl _ | decide | omega)
  · obtain ⟨rr_3664, B2_3665, W2_3666⟩ := u_
    obtain ⟨hq_3674, hq_3675, hq_3676, hq_3677⟩ : (o_addPart (dC S) v z w).1 = 0 ∧ rr_3664 = (o_addPart (dC S) v z w).2.1 ∧ Sim (o_addPart (dC S) v z w).2.2 B2_3665 ∧ DyW G d ((B2_3665, dS S, min 6 (dK S + 1), hsR (dH S) (dK S) (dC S), dL S, dN S) : DS) W2_3666 := hq
    have hpm_3678 : ([(o, .inl (G.2 5, 1, .inr (.inl of)))] ++ (W2_3666 ++ []) : va_W).Perm ([(o, .inl (G.2 5, 1, .inr (.inl of)))] ++ (W2_3666 ++ [])) := segs_perm2 [[(o, .inl (G.2 5, 1, .inr (.inl of)))]] [W2_3666] [0, 1] rfl
    have hP : va_P G.1 CL ([(o, .inl (G.2 5, 1, .inr (.inl of)))] ++ (W2_3666 ++ [])) H := P_perm hpm_3678 hP
    have hD : va_D A ([(o, .inl (G.2 5, 1, .inr (.inl of)))] ++ (W2_3666 ++ [])) := D_perm hpm_3678 hD
    refine W.eq (g2 := F0 m 10 ls [.int rr_3664, .int (nI 0), .ref o]) rfl ?_
    refine lv_i2l (v := (rr_3664).toInt64) hx hb dX0_addPart_10 rfl ?_
    refine r_last hx hb hK hP hD hS 0 5 rfl rfl (i := 0) (by omega) (by omega) dX0_addPart_11 (fun H locs (hP : va_P G.1 CL ([(o, .inl (G.2 5, 1, .inr (.inl (vp_updL of 0 ((rr_3664).toInt64)))))] ++ (W2_3666 ++ [])) H) (hD : va_D A ([(o, .inl (G.2 5, 1, .inr (.inl (vp_updL of 0 ((rr_3664).toInt64)))))] ++ (W2_3666 ++ []))) hS => ?_)
    refine lv_goto (tgt := 27) hx hb dX0_addPart_12 (by decide) ?_
    refine lv_iconst (v := nI 0) hx hb dX0_addPart_27 (by decide) ?_
    refine vx_ret ?_
    have hpm_3679 : (([(o, .inl (G.2 5, 1, .inr (.inl (vp_updL of 0 ((rr_3664).toInt64)))))] ++ (W2_3666 ++ [])) : va_W).Perm (([(o, .inl (G.2 5, 1, .inr (.inl (vp_updL of 0 ((rr_3664).toInt64)))))] ++ (W2_3666 ++ [])) ++ []) := segs_perm [[(o, .inl (G.2 5, 1, .inr (.inl (vp_updL of 0 ((rr_3664).toInt64)))))], W2_3666] [0, 1] [] rfl
    have hP9 : va_P G.1 CL ([(o, .inl (G.2 5, 1, .inr (.inl (vp_updL of 0 ((rr_3664).toInt64)))))] ++ (W2_3666 ++ [])) H := P_left (P_perm hpm_3679 hP)
    have hD9 : va_D A ([(o, .inl (G.2 5, 1, .inr (.inl (vp_updL of 0 ((rr_3664).toInt64)))))] ++ (W2_3666 ++ [])) := D_left (D_perm hpm_3679 hD)
    exact end_i hx hb hr hlk (rfl) (qc_of (vp_updL of 0 ((rr_3664).toInt64), ((B2_3665, dS S, min 6 (dK S + 1), hsR (dH S) (dK S) (dC S), dL S, dN S) : DS), W2_3666) (v := some (.int (nI 0))) (by rw [hq_3674]) (⟨fun _ => by rw [← hq_3675]; exact pk_uLs, NxS.yes hq_3674 hq_3676, by rw [hq_3674]; decide, hq_3677⟩) hP9 hD9 (trivial) hS) hS dX0_addPart_28 (show 0 + (5 + 101) ≤ 5 + 101 from by first | exact Nat.le_refl _ | decide | omega) (show 0 + (90 + 5800) ≤ 90 + 5800 from by first | exact Nat.le_refl _ | decide | omega)

set_option maxHeartbeats 4000000 in
theorem wX0_clearParts (l : Launch) (G : Gt) (d : Nat) (S : DS) (W : va_W) (o : Nat) (of : Nat → Int64) (v : Int32) (h : DyW G d S W) (hfl : l.stackTraces = false) : CTW l G yX0_clearParts cX0_clearParts 4 (some .int) [(0, 9, 12, 24)] ({ frames := 10, cells := 5 + 101, slots := 70 + 5800, locals := 234 } : Room) [.ref d, .int v, .ref o] ([(o, .inl (G.2 5, 1, .inr (.inl of)))] ++ (W ++ [])) RH0 (S := (Nat → Int64) × DS × va_W) (fun (u_ : (Nat → Int64) × DS × va_W) => some (.int (nI ((o_clear (dC S) v).1)))) (fun (u_ : (Nat → Int64) × DS × va_W) => ((o_clear (dC S) v).1 = 0 → u_.1 0 = ((o_clear (dC S) v).2.1).toInt64) ∧ NxS S (o_clear (dC S) v) u_.2.1 ∧ (o_clear (dC S) v).1 < 10 ∧ DyW G d u_.2.1 u_.2.2) (fun (u_ : (Nat → Int64) × DS × va_W) => ([(o, .inl (G.2 5, 1, .inr (.inl u_.1)))] ++ (u_.2.2 ++ []))) (fun (u_ : (Nat → Int64) × DS × va_W) (H : Heap) => True) := by
  refine CTW.of (by decide) (Nat.le_of_ble_eq_true rfl) ?_
  intro p e s m below meth c ls A H locs h9 hH0 hP hS hNc htab
  obtain ⟨cf, hr, hlk, hnm, hKB, hE, -, hD, -, hA, hAw, hRH, hl⟩ := h9
  have hx := cf.1
  have hb := cf.2.1
  have hml := cf.2.2.1
  have hown : s.vm.findClass RX0 = some m.cls := cf.2.2.2.1
  have hts := cf.2.2.2.2
  have hK := hKB.1
  have hl : lv_has ls 4 [(0, .ref d), (1, .int v), (2, .ref o)] := hl
  refine lv_aload_n hx hb dX0_clearParts_0 rfl (lv_at hl 2 rfl) ?_
  refine lv_iconst (v := nI 0) hx hb dX0_clearParts_1 (by decide) ?_
  refine lv_aload_n hx hb dX0_clearParts_2 rfl (lv_at hl 0 rfl) ?_
  refine lv_iload_n hx hb dX0_clearParts_3 rfl (lv_at hl 1 rfl) ?_
  have hpm_3680 : (([(o, .inl (G.2 5, 1, .inr (.inl of)))] ++ (W ++ [])) : va_W).Perm ((W ++ []) ++ [(o, .inl (G.2 5, 1, .inr (.inl of)))]) := segs_perm [[(o, .inl (G.2 5, 1, .inr (.inl of)))], W] [1] [0] rfl
  have hF := hF_ofP (wc := (W ++ [])) hD hS hA hpm_3680
  refine go_cxP hS hP hD hpm_3680 hF
      (vx_runV (As := [.int v]) (rest := [.int (nI 0), .ref o]) cf (dX1_clearParts l G d S W v (show DyW G d S W from by first | assumption | omega) hfl H.size) (cwV 1 hts (lw_V q1160 q1161 q1162 q47 q1163) rfl rfl rfl (by decide +kernel) ⟨Nat.le_of_ble_eq_true rfl, Nat.le_of_ble_eq_true rfl⟩) (preV_of hKB hE hS hF (DyW.recv hK h (seg_at [[(o, .inl (G.2 5, 1, .inr (.inl of)))], W] 1 rfl hP)) (P_left (P_perm hpm_3680 hP)) ((D_left (D_perm hpm_3680 hD)).weaken (fun _ _ _ _ => trivial)) trivial) rfl rfl hl.1 rfl (lv_room (Nat.le_of_ble_eq_true rfl)) dX0_clearParts_4 ⟨show 0 + (5 + 101) ≤ 5 + 101 from by first | decide | omega, show 0 + (70 + 5800) ≤ 70 + 5800 from by first | decide | omega⟩)
      (fun u_ H locs ce q9 hq hph (hP : va_P G.1 CL ([(o, .inl (G.2 5, 1, .inr (.inl of)))] ++ (W ++ [])) H) (hD : va_D A ([(o, .inl (G.2 5, 1, .inr (.inl of)))] ++ (W ++ []))) hS hfz hfk hce hcv hcl => ?_) (fun u_ H locs hq hph (hP : va_P G.1 CL ([(o, .inl (G.2 5, 1, .inr (.inl of)))] ++ (u_.2.2 ++ [])) H) (hD : va_D A ([(o, .inl (G.2 5, 1, .inr (.inl of)))] ++ (u_.2.2 ++ []))) hS hfz hfk => ?_)
  · obtain ⟨kx_3684, rfl⟩ : ∃ z, z = u_ := ⟨_, rfl⟩
    obtain ⟨hq_3685, hq_3686⟩ : (o_clear (dC S) v).1 = kx_3684 ∧ 1 ≤ kx_3684 ∧ kx_3684 ≤ 1 := hq
    have hpm_3687 : ([(o, .inl (G.2 5, 1, .inr (.inl of)))] ++ (W ++ []) : va_W).Perm ([(o, .inl (G.2 5, 1, .inr (.inl of)))] ++ (W ++ [])) := segs_perm2 [[(o, .inl (G.2 5, 1, .inr (.inl of)))]] [W] [0, 1] rfl
    have hP : va_P G.1 CL ([(o, .inl (G.2 5, 1, .inr (.inl of)))] ++ (W ++ [])) H := P_perm hpm_3687 hP
    have hD : va_D A ([(o, .inl (G.2 5, 1, .inr (.inl of)))] ++ (W ++ [])) := D_perm hpm_3687 hD
    obtain rfl : kx_3684 = 1 := by omega
    have hcl9 : s.vm.findClass eN = some ce.cls := hcl
    refine vx_catch (name := eN) (E := eN) hown [] (⟨0, 9, 12, 24⟩ : ExceptionTableEntry) [] (by rw [htab]; rfl) (fun z hz => absurd hz List.not_mem_nil) (by decide) (by decide) (hts _ q1013) (va_Nw.use rfl (hKB.nest q334 rfl)) hce hcv hcl9 ?_
    refine W.eq (g2 := F0 m 12 ls [.ref q9]) rfl ?_
    refine lv_astore_n (lv' := [(3, .ref q9), (0, .ref d), (1, .int v), (2, .ref o)]) hx hb dX0_clearParts_12 rfl hl (by decide) rfl (fun ls hl => ?_)
    refine lv_iconst (v := nI 1) hx hb dX0_clearParts_13 (by decide) ?_
    refine vx_ret ?_
    have hpm_3688 : (([(o, .inl (G.2 5, 1, .inr (.inl of)))] ++ (W ++ [])) : va_W).Perm (([(o, .inl (G.2 5, 1, .inr (.inl of)))] ++ (W ++ [])) ++ []) := segs_perm [[(o, .inl (G.2 5, 1, .inr (.inl of)))], W] [0, 1] [] rfl
    have hP9 : va_P G.1 CL ([(o, .inl (G.2 5, 1, .inr (.inl of)))] ++ (W ++ [])) H := P_left (P_perm hpm_3688 hP)
    have hD9 : va_D A ([(o, .inl (G.2 5, 1, .inr (.inl of)))] ++ (W ++ [])) := D_left (D_perm hpm_3688 hD)
    exact end_i hx hb hr hlk (rfl) (qc_of (of, S, W) (v := some (.int (nI 1))) (by rw [hq_3685]) (⟨fun z9 => absurd (hq_3685.symm.trans z9) (by decide), NxS.no (fun z9 => absurd (hq_3685.symm.trans z9) (by decide)), by rw [hq_3685]; decide, h⟩) hP9 hD9 (trivial) hS) hS dX0_clearParts_14 (show 0 + (5 + 101) ≤ 5 + 101 from by first | exact Nat.le_refl _ | decide | omega) (show 0 + (70 + 5800) ≤ 70 + 5800 from by first | exact Nat.le_refl _ | decide | omega)
  · obtain ⟨rr_3681, B2_3682, W2_3683⟩ := u_
    obtain ⟨hq_3689, hq_3690, hq_3691, hq_3692⟩ : (o_clear (dC S) v).1 = 0 ∧ rr_3681 = (o_clear (dC S) v).2.1 ∧ Sim (o_clear (dC S) v).2.2 B2_3682 ∧ DyW G d ((B2_3682, dS S, min 6 (dK S + 1), hsR (dH S) (dK S) (dC S), dL S, dN S) : DS) W2_3683 := hq
    have hpm_3693 : ([(o, .inl (G.2 5, 1, .inr (.inl of)))] ++ (W2_3683 ++ []) : va_W).Perm ([(o, .inl (G.2 5, 1, .inr (.inl of)))] ++ (W2_3683 ++ [])) := segs_perm2 [[(o, .inl (G.2 5, 1, .inr (.inl of)))]] [W2_3683] [0, 1] rfl
    have hP : va_P G.1 CL ([(o, .inl (G.2 5, 1, .inr (.inl of)))] ++ (W2_3683 ++ [])) H := P_perm hpm_3693 hP
    have hD : va_D A ([(o, .inl (G.2 5, 1, .inr (.inl of)))] ++ (W2_3683 ++ [])) := D_perm hpm_3693 hD
    refine W.eq (g2 := F0 m 7 ls [.int rr_3681, .int (nI 0), .ref o]) rfl ?_
    refine lv_i2l (v := (rr_3681).toInt64) hx hb dX0_clearParts_7 rfl ?_
    refine r_last hx hb hK hP hD hS 0 5 rfl rfl (i := 0) (by omega) (by omega) dX0_clearParts_8 (fun H locs (hP : va_P G.1 CL ([(o, .inl (G.2 5, 1, .inr (.inl (vp_updL of 0 ((rr_3681).toInt64)))))] ++ (W2_3683 ++ [])) H) (hD : va_D A ([(o, .inl (G.2 5, 1, .inr (.inl (vp_updL of 0 ((rr_3681).toInt64)))))] ++ (W2_3683 ++ []))) hS => ?_)
    refine lv_goto (tgt := 15) hx hb dX0_clearParts_9 (by decide) ?_
    refine lv_iconst (v := nI 0) hx hb dX0_clearParts_15 (by decide) ?_
    refine vx_ret ?_
    have hpm_3694 : (([(o, .inl (G.2 5, 1, .inr (.inl (vp_updL of 0 ((rr_3681).toInt64)))))] ++ (W2_3683 ++ [])) : va_W).Perm (([(o, .inl (G.2 5, 1, .inr (.inl (vp_updL of 0 ((rr_3681).toInt64)))))] ++ (W2_3683 ++ [])) ++ []) := segs_perm [[(o, .inl (G.2 5, 1, .inr (.inl (vp_updL of 0 ((rr_3681).toInt64)))))], W2_3683] [0, 1] [] rfl
    have hP9 : va_P G.1 CL ([(o, .inl (G.2 5, 1, .inr (.inl (vp_updL of 0 ((rr_3681).toInt64)))))] ++ (W2_3683 ++ [])) H := P_left (P_perm hpm_3694 hP)
    have hD9 : va_D A ([(o, .inl (G.2 5, 1, .inr (.inl (vp_updL of 0 ((rr_3681).toInt64)))))] ++ (W2_3683 ++ [])) := D_left (D_perm hpm_3694 hD)
    exact end_i hx hb hr hlk (rfl) (qc_of (vp_updL of 0 ((rr_3681).toInt64), ((B2_3682, dS S, min 6 (dK S + 1), hsR (dH S) (dK S) (dC S), dL S, dN S) : DS), W2_3683) (v := some (.int (nI 0))) (by rw [hq_3689]) (⟨fun _ => by rw [← hq_3690]; exact pk_uLs, NxS.yes hq_3689 hq_3691, by rw [hq_3689]; decide, hq_3692⟩) hP9 hD9 (trivial) hS) hS dX0_clearParts_16 (show 0 + (5 + 101) ≤ 5 + 101 from by first | exact Nat.le_refl _ | decide | omega) (show 0 + (70 + 5800) ≤ 70 + 5800 from by first | exact Nat.le_refl _ | decide | omega)

set_option maxHeartbeats 4000000 in
theorem wX0_moveSession (l : Launch) (G : Gt) (d : Nat) (S : DS) (W : va_W) (o : Nat) (of : Nat → Int64) (v : Int32) (w : Int32) (h : DyW G d S W) (hfl : l.stackTraces = false) : CTW l G yX0_moveSession cX0_moveSession 5 (some .int) [(0, 10, 13, 24), (0, 10, 17, 13)] ({ frames := 10, cells := 3 + 101, slots := 70 + 5800, locals := 236 } : Room) [.ref d, .int v, .int w, .ref o] ([(o, .inl (G.2 5, 1, .inr (.inl of)))] ++ (W ++ [])) RH0 (S := (Nat → Int64) × DS × va_W) (fun (u_ : (Nat → Int64) × DS × va_W) => some (.int (nI ((o_move (dC S) v w).1)))) (fun (u_ : (Nat → Int64) × DS × va_W) => ((o_move (dC S) v w).1 = 0 → u_.1 0 = ((o_move (dC S) v w).2.1).toInt64) ∧ NxS S (o_move (dC S) v w) u_.2.1 ∧ (o_move (dC S) v w).1 < 10 ∧ DyW G d u_.2.1 u_.2.2) (fun (u_ : (Nat → Int64) × DS × va_W) => ([(o, .inl (G.2 5, 1, .inr (.inl u_.1)))] ++ (u_.2.2 ++ []))) (fun (u_ : (Nat → Int64) × DS × va_W) (H : Heap) => True) := by
  refine CTW.of (by decide) (Nat.le_of_ble_eq_true rfl) ?_
  intro p e s m below meth c ls A H locs h9 hH0 hP hS hNc htab
  obtain ⟨cf, hr, hlk, hnm, hKB, hE, -, hD, -, hA, hAw, hRH, hl⟩ := h9
  have hx := cf.1
  have hb := cf.2.1
  have hml := cf.2.2.1
  have hown : s.vm.findClass RX0 = some m.cls := cf.2.2.2.1
  have hts := cf.2.2.2.2
  have hK := hKB.1
  have hl : lv_has ls 5 [(0, .ref d), (1, .int v), (2, .int w), (3, .ref o)] := hl
  refine lv_aload_n hx hb dX0_moveSession_0 rfl (lv_at hl 3 rfl) ?_
  refine lv_iconst (v := nI 0) hx hb dX0_moveSession_1 (by decide) ?_
  refine lv_aload_n hx hb dX0_moveSession_2 rfl (lv_at hl 0 rfl) ?_
  refine lv_iload_n hx hb dX0_moveSession_3 rfl (lv_at hl 1 rfl) ?_
  refine lv_iload_n hx hb dX0_moveSession_4 rfl (lv_at hl 2 rfl) ?_
  have hpm_3695 : (([(o, .inl (G.2 5, 1, .inr (.inl of)))] ++ (W ++ [])) : va_W).Perm ((W ++ []) ++ [(o, .inl (G.2 5, 1, .inr (.inl of)))]) := segs_perm [[(o, .inl (G.2 5, 1, .inr (.inl of)))], W] [1] [0] rfl
  have hF := hF_ofP (wc := (W ++ [])) hD hS hA hpm_3695
  refine go_cxP hS hP hD hpm_3695 hF
      (vx_runV (As := [.int v, .int w]) (rest := [.int (nI 0), .ref o]) cf (dX1_moveSession l G d S W v w (show DyW G d S W from by first | assumption | omega) hfl H.size) (cwV 2 hts (lw_V q1171 q1172 q1173 q47 q1174) rfl rfl rfl (by decide +kernel) ⟨Nat.le_of_ble_eq_true rfl, Nat.le_of_ble_eq_true rfl⟩) (preV_of hKB hE hS hF (DyW.recv hK h (seg_at [[(o, .inl (G.2 5, 1, .inr (.inl of)))], W] 1 rfl hP)) (P_left (P_perm hpm_3695 hP)) ((D_left (D_perm hpm_3695 hD)).weaken (fun _ _ _ _ => trivial)) trivial) rfl rfl hl.1 rfl (lv_room (Nat.le_of_ble_eq_true rfl)) dX0_moveSession_5 ⟨show 0 + (3 + 101) ≤ 3 + 101 from by first | decide | omega, show 0 + (70 + 5800) ≤ 70 + 5800 from by first | decide | omega⟩)
      (fun u_ H locs ce q9 hq hph (hP : va_P G.1 CL ([(o, .inl (G.2 5, 1, .inr (.inl of)))] ++ (W ++ [])) H) (hD : va_D A ([(o, .inl (G.2 5, 1, .inr (.inl of)))] ++ (W ++ []))) hS hfz hfk hce hcv hcl => ?_) (fun u_ H locs hq hph (hP : va_P G.1 CL ([(o, .inl (G.2 5, 1, .inr (.inl of)))] ++ (u_.2.2 ++ [])) H) (hD : va_D A ([(o, .inl (G.2 5, 1, .inr (.inl of)))] ++ (u_.2.2 ++ []))) hS hfz hfk => ?_)
  · obtain ⟨kx_3699, rfl⟩ : ∃ z, z = u_ := ⟨_, rfl⟩
    obtain ⟨hq_3700, hq_3701⟩ : (o_move (dC S) v w).1 = kx_3699 ∧ 1 ≤ kx_3699 ∧ kx_3699 ≤ 2 := hq
    have hpm_3702 : ([(o, .inl (G.2 5, 1, .inr (.inl of)))] ++ (W ++ []) : va_W).Perm ([(o, .inl (G.2 5, 1, .inr (.inl of)))] ++ (W ++ [])) := segs_perm2 [[(o, .inl (G.2 5, 1, .inr (.inl of)))]] [W] [0, 1] rfl
    have hP : va_P G.1 CL ([(o, .inl (G.2 5, 1, .inr (.inl of)))] ++ (W ++ [])) H := P_perm hpm_3702 hP
    have hD : va_D A ([(o, .inl (G.2 5, 1, .inr (.inl of)))] ++ (W ++ [])) := D_perm hpm_3702 hD
    rcases (show kx_3699 = 1 ∨ kx_3699 = 2 by omega) with rfl | rfl
    · have hcl9 : s.vm.findClass eN = some ce.cls := hcl
      refine vx_catch (name := eN) (E := eN) hown [] (⟨0, 10, 13, 24⟩ : ExceptionTableEntry) [(⟨0, 10, 17, 13⟩ : ExceptionTableEntry)] (by rw [htab]; rfl) (fun z hz => absurd hz List.not_mem_nil) (by decide) (by decide) (hts _ q1013) (va_Nw.use rfl (hKB.nest q334 rfl)) hce hcv hcl9 ?_
      refine W.eq (g2 := F0 m 13 ls [.ref q9]) rfl ?_
      refine lv_astore (lv' := [(4, .ref q9), (0, .ref d), (1, .int v), (2, .int w), (3, .ref o)]) hx hb dX0_moveSession_13 hl (by decide) rfl (fun ls hl => ?_)
      refine lv_iconst (v := nI 1) hx hb dX0_moveSession_15 (by decide) ?_
      refine vx_ret ?_
      have hpm_3703 : (([(o, .inl (G.2 5, 1, .inr (.inl of)))] ++ (W ++ [])) : va_W).Perm (([(o, .inl (G.2 5, 1, .inr (.inl of)))] ++ (W ++ [])) ++ []) := segs_perm [[(o, .inl (G.2 5, 1, .inr (.inl of)))], W] [0, 1] [] rfl
      have hP9 : va_P G.1 CL ([(o, .inl (G.2 5, 1, .inr (.inl of)))] ++ (W ++ [])) H := P_left (P_perm hpm_3703 hP)
      have hD9 : va_D A ([(o, .inl (G.2 5, 1, .inr (.inl of)))] ++ (W ++ [])) := D_left (D_perm hpm_3703 hD)
      exact end_i hx hb hr hlk (rfl) (qc_of (of, S, W) (v := some (.int (nI 1))) (by rw [hq_3700]) (⟨fun z9 => absurd (hq_3700.symm.trans z9) (by decide), NxS.no (fun z9 => absurd (hq_3700.symm.trans z9) (by decide)), by rw [hq_3700]; decide, h⟩) hP9 hD9 (trivial) hS) hS dX0_moveSession_16 (show 0 + (3 + 101) ≤ 3 + 101 from by first | exact Nat.le_refl _ | decide | omega) (show 0 + (70 + 5800) ≤ 70 + 5800 from by first | exact Nat.le_refl _ | decide | omega)
    · have hcl9 : s.vm.findClass eA = some ce.cls := hcl
      refine vx_catch (name := eA) (E := eA) hown [(⟨0, 10, 13, 24⟩ : ExceptionTableEntry)] (⟨0, 10, 17, 13⟩ : ExceptionTableEntry) [] (by rw [htab]; rfl) (fun z hz => by rcases List.mem_singleton.mp hz with rfl; exact Or.inr ⟨by decide, _, hts _ q1013, hNc _ (List.mem_of_getElem? (i := 1) rfl)⟩) (by decide) (by decide) (hts _ q680) (va_Nw.use rfl (hKB.nest q698 rfl)) hce hcv hcl9 ?_
      refine W.eq (g2 := F0 m 17 ls [.ref q9]) rfl ?_
      refine lv_astore (lv' := [(4, .ref q9), (0, .ref d), (1, .int v), (2, .int w), (3, .ref o)]) hx hb dX0_moveSession_17 hl (by decide) rfl (fun ls hl => ?_)
      refine lv_iconst (v := nI 2) hx hb dX0_moveSession_19 (by decide) ?_
      refine vx_ret ?_
      have hpm_3704 : (([(o, .inl (G.2 5, 1, .inr (.inl of)))] ++ (W ++ [])) : va_W).Perm (([(o, .inl (G.2 5, 1, .inr (.inl of)))] ++ (W ++ [])) ++ []) := segs_perm [[(o, .inl (G.2 5, 1, .inr (.inl of)))], W] [0, 1] [] rfl
      have hP9 : va_P G.1 CL ([(o, .inl (G.2 5, 1, .inr (.inl of)))] ++ (W ++ [])) H := P_left (P_perm hpm_3704 hP)
      have hD9 : va_D A ([(o, .inl (G.2 5, 1, .inr (.inl of)))] ++ (W ++ [])) := D_left (D_perm hpm_3704 hD)
      exact end_i hx hb hr hlk (rfl) (qc_of (of, S, W) (v := some (.int (nI 2))) (by rw [hq_3700]) (⟨fun z9 => absurd (hq_3700.symm.trans z9) (by decide), NxS.no (fun z9 => absurd (hq_3700.symm.trans z9) (by decide)), by rw [hq_3700]; decide, h⟩) hP9 hD9 (trivial) hS) hS dX0_moveSession_20 (show 0 + (3 + 101) ≤ 3 + 101 from by first | exact Nat.le_refl _ | decide | omega) (show 0 + (70 + 5800) ≤ 70 + 5800 from by first | exact Nat.le_refl _ | decide | omega)
  · obtain ⟨rr_3696, B2_3697, W2_3698⟩ := u_
    obtain ⟨hq_3705, hq_3706, hq_3707, hq_3708⟩ : (o_move (dC S) v w).1 = 0 ∧ rr_3696 = (o_move (dC S) v w).2.1 ∧ Sim (o_move (dC S) v w).2.2 B2_3697 ∧ DyW G d ((B2_3697, dS S, min 6 (dK S + 1), hsR (dH S) (dK S) (dC S), dL S, dN S) : DS) W2_3698 := hq
    have hpm_3709 : ([(o, .inl (G.2 5, 1, .inr (.inl of)))] ++ (W2_3698 ++ []) : va_W).Perm ([(o, .inl (G.2 5, 1, .inr (.inl of)))] ++ (W2_3698 ++ [])) := segs_perm2 [[(o, .inl (G.2 5, 1, .inr (.inl of)))]] [W2_3698] [0, 1] rfl
    have hP : va_P G.1 CL ([(o, .inl (G.2 5, 1, .inr (.inl of)))] ++ (W2_3698 ++ [])) H := P_perm hpm_3709 hP
    have hD : va_D A ([(o, .inl (G.2 5, 1, .inr (.inl of)))] ++ (W2_3698 ++ [])) := D_perm hpm_3709 hD
    refine W.eq (g2 := F0 m 8 ls [.int rr_3696, .int (nI 0), .ref o]) rfl ?_
    refine lv_i2l (v := (rr_3696).toInt64) hx hb dX0_moveSession_8 rfl ?_
    refine r_last hx hb hK hP hD hS 0 5 rfl rfl (i := 0) (by omega) (by omega) dX0_moveSession_9 (fun H locs (hP : va_P G.1 CL ([(o, .inl (G.2 5, 1, .inr (.inl (vp_updL of 0 ((rr_3696).toInt64)))))] ++ (W2_3698 ++ [])) H) (hD : va_D A ([(o, .inl (G.2 5, 1, .inr (.inl (vp_updL of 0 ((rr_3696).toInt64)))))] ++ (W2_3698 ++ []))) hS => ?_)
    refine lv_goto (tgt := 21) hx hb dX0_moveSession_10 (by decide) ?_
    refine lv_iconst (v := nI 0) hx hb dX0_moveSession_21 (by decide) ?_
    refine vx_ret ?_
    have hpm_3710 : (([(o, .inl (G.2 5, 1, .inr (.inl (vp_updL of 0 ((rr_3696).toInt64)))))] ++ (W2_3698 ++ [])) : va_W).Perm (([(o, .inl (G.2 5, 1, .inr (.inl (vp_updL of 0 ((rr_3696).toInt64)))))] ++ (W2_3698 ++ [])) ++ []) := segs_perm [[(o, .inl (G.2 5, 1, .inr (.inl (vp_updL of 0 ((rr_3696).toInt64)))))], W2_3698] [0, 1] [] rfl
    have hP9 : va_P G.1 CL ([(o, .inl (G.2 5, 1, .inr (.inl (vp_updL of 0 ((rr_3696).toInt64)))))] ++ (W2_3698 ++ [])) H := P_left (P_perm hpm_3710 hP)
    have hD9 : va_D A ([(o, .inl (G.2 5, 1, .inr (.inl (vp_updL of 0 ((rr_3696).toInt64)))))] ++ (W2_3698 ++ [])) := D_left (D_perm hpm_3710 hD)
    exact end_i hx hb hr hlk (rfl) (qc_of (vp_updL of 0 ((rr_3696).toInt64), ((B2_3697, dS S, min 6 (dK S + 1), hsR (dH S) (dK S) (dC S), dL S, dN S) : DS), W2_3698) (v := some (.int (nI 0))) (by rw [hq_3705]) (⟨fun _ => by rw [← hq_3706]; exact pk_uLs, NxS.yes hq_3705 hq_3707, by rw [hq_3705]; decide, hq_3708⟩) hP9 hD9 (trivial) hS) hS dX0_moveSession_22 (show 0 + (3 + 101) ≤ 3 + 101 from by first | exact Nat.le_refl _ | decide | omega) (show 0 + (70 + 5800) ≤ 70 + 5800 from by first | exact Nat.le_refl _ | decide | omega)

set_option maxHeartbeats 4000000 in
theorem wX0_removeSession (l : Launch) (G : Gt) (d : Nat) (S : DS) (W : va_W) (o : Nat) (of : Nat → Int64) (v : Int32) (h : DyW G d S W) (hfl : l.stackTraces = false) : CTW l G yX0_removeSession cX0_removeSession 4 (some .int) [(0, 9, 12, 24)] ({ frames := 10, cells := 1 + 101, slots := 6 + 5800, locals := 232 } : Room) [.ref d, .int v, .ref o] ([(o, .inl (G.2 5, 1, .inr (.inl of)))] ++ (W ++ [])) RH0 (S := (Nat → Int64) × DS × va_W) (fun (u_ : (Nat → Int64) × DS × va_W) => some (.int (nI ((o_remSes (dC S) v).1)))) (fun (u_ : (Nat → Int64) × DS × va_W) => ((o_remSes (dC S) v).1 = 0 → u_.1 0 = ((o_remSes (dC S) v).2.1).toInt64) ∧ NxS S (o_remSes (dC S) v) u_.2.1 ∧ (o_remSes (dC S) v).1 < 10 ∧ DyW G d u_.2.1 u_.2.2) (fun (u_ : (Nat → Int64) × DS × va_W) => ([(o, .inl (G.2 5, 1, .inr (.inl u_.1)))] ++ (u_.2.2 ++ []))) (fun (u_ : (Nat → Int64) × DS × va_W) (H : Heap) => True) := by
  refine CTW.of (by decide) (Nat.le_of_ble_eq_true rfl) ?_
  intro p e s m below meth c ls A H locs h9 hH0 hP hS hNc htab
  obtain ⟨cf, hr, hlk, hnm, hKB, hE, -, hD, -, hA, hAw, hRH, hl⟩ := h9
  have hx := cf.1
  have hb := cf.2.1
  have hml := cf.2.2.1
  have hown : s.vm.findClass RX0 = some m.cls := cf.2.2.2.1
  have hts := cf.2.2.2.2
  have hK := hKB.1
  have hl : lv_has ls 4 [(0, .ref d), (1, .int v), (2, .ref o)] := hl
  refine lv_aload_n hx hb dX0_removeSession_0 rfl (lv_at hl 2 rfl) ?_
  refine lv_iconst (v := nI 0) hx hb dX0_removeSession_1 (by decide) ?_
  refine lv_aload_n hx hb dX0_removeSession_2 rfl (lv_at hl 0 rfl) ?_
  refine lv_iload_n hx hb dX0_removeSession_3 rfl (lv_at hl 1 rfl) ?_
  have hpm_3711 : (([(o, .inl (G.2 5, 1, .inr (.inl of)))] ++ (W ++ [])) : va_W).Perm ((W ++ []) ++ [(o, .inl (G.2 5, 1, .inr (.inl of)))]) := segs_perm [[(o, .inl (G.2 5, 1, .inr (.inl of)))], W] [1] [0] rfl
  have hF := hF_ofP (wc := (W ++ [])) hD hS hA hpm_3711
  refine go_cxP hS hP hD hpm_3711 hF
      (vx_runV (As := [.int v]) (rest := [.int (nI 0), .ref o]) cf (dX1_removeSession l G d S W v (show DyW G d S W from by first | assumption | omega) hfl H.size) (cwV 1 hts (lw_V q1186 q1187 q1188 q47 q1189) rfl rfl rfl (by decide +kernel) ⟨Nat.le_of_ble_eq_true rfl, Nat.le_of_ble_eq_true rfl⟩) (preV_of hKB hE hS hF (DyW.recv hK h (seg_at [[(o, .inl (G.2 5, 1, .inr (.inl of)))], W] 1 rfl hP)) (P_left (P_perm hpm_3711 hP)) ((D_left (D_perm hpm_3711 hD)).weaken (fun _ _ _ _ => trivial)) trivial) rfl rfl hl.1 rfl (lv_room (Nat.le_of_ble_eq_true rfl)) dX0_removeSession_4 ⟨show 0 + (1 + 101) ≤ 1 + 101 from by first | decide | omega, show 0 + (6 + 5800) ≤ 6 + 5800 from by first | decide | omega⟩)
      (fun u_ H locs ce q9 hq hph (hP : va_P G.1 CL ([(o, .inl (G.2 5, 1, .inr (.inl of)))] ++ (W ++ [])) H) (hD : va_D A ([(o, .inl (G.2 5, 1, .inr (.inl of)))] ++ (W ++ []))) hS hfz hfk hce hcv hcl => ?_) (fun u_ H locs hq hph (hP : va_P G.1 CL ([(o, .inl (G.2 5, 1, .inr (.inl of)))] ++ (u_.2.2 ++ [])) H) (hD : va_D A ([(o, .inl (G.2 5, 1, .inr (.inl of)))] ++ (u_.2.2 ++ []))) hS hfz hfk => ?_)
  · obtain ⟨kx_3715, rfl⟩ : ∃ z, z = u_ := ⟨_, rfl⟩
    obtain ⟨hq_3716, hq_3717⟩ : (o_remSes (dC S) v).1 = kx_3715 ∧ 1 ≤ kx_3715 ∧ kx_3715 ≤ 1 := hq
    have hpm_3718 : ([(o, .inl (G.2 5, 1, .inr (.inl of)))] ++ (W ++ []) : va_W).Perm ([(o, .inl (G.2 5, 1, .inr (.inl of)))] ++ (W ++ [])) := segs_perm2 [[(o, .inl (G.2 5, 1, .inr (.inl of)))]] [W] [0, 1] rfl
    have hP : va_P G.1 CL ([(o, .inl (G.2 5, 1, .inr (.inl of)))] ++ (W ++ [])) H := P_perm hpm_3718 hP
    have hD : va_D A ([(o, .inl (G.2 5, 1, .inr (.inl of)))] ++ (W ++ [])) := D_perm hpm_3718 hD
    obtain rfl : kx_3715 = 1 := by omega
    have hcl9 : s.vm.findClass eN = some ce.cls := hcl
    refine vx_catch (name := eN) (E := eN) hown [] (⟨0, 9, 12, 24⟩ : ExceptionTableEntry) [] (by rw [htab]; rfl) (fun z hz => absurd hz List.not_mem_nil) (by decide) (by decide) (hts _ q1013) (va_Nw.use rfl (hKB.nest q334 rfl)) hce hcv hcl9 ?_
    refine W.eq (g2 := F0 m 12 ls [.ref q9]) rfl ?_
    refine lv_astore_n (lv' := [(3, .ref q9), (0, .ref d), (1, .int v), (2, .ref o)]) hx hb dX0_removeSession_12 rfl hl (by decide) rfl (fun ls hl => ?_)
    refine lv_iconst (v := nI 1) hx hb dX0_removeSession_13 (by decide) ?_
    refine vx_ret ?_
    have hpm_3719 : (([(o, .inl (G.2 5, 1, .inr (.inl of)))] ++ (W ++ [])) : va_W).Perm (([(o, .inl (G.2 5, 1, .inr (.inl of)))] ++ (W ++ [])) ++ []) := segs_perm [[(o, .inl (G.2 5, 1, .inr (.inl of)))], W] [0, 1] [] rfl
    have hP9 : va_P G.1 CL ([(o, .inl (G.2 5, 1, .inr (.inl of)))] ++ (W ++ [])) H := P_left (P_perm hpm_3719 hP)
    have hD9 : va_D A ([(o, .inl (G.2 5, 1, .inr (.inl of)))] ++ (W ++ [])) := D_left (D_perm hpm_3719 hD)
    exact end_i hx hb hr hlk (rfl) (qc_of (of, S, W) (v := some (.int (nI 1))) (by rw [hq_3716]) (⟨fun z9 => absurd (hq_3716.symm.trans z9) (by decide), NxS.no (fun z9 => absurd (hq_3716.symm.trans z9) (by decide)), by rw [hq_3716]; decide, h⟩) hP9 hD9 (trivial) hS) hS dX0_removeSession_14 (show 0 + (1 + 101) ≤ 1 + 101 from by first | exact Nat.le_refl _ | decide | omega) (show 0 + (6 + 5800) ≤ 6 + 5800 from by first | exact Nat.le_refl _ | decide | omega)
  · obtain ⟨rr_3712, B2_3713, W2_3714⟩ := u_
    obtain ⟨hq_3720, hq_3721, hq_3722, hq_3723⟩ : (o_remSes (dC S) v).1 = 0 ∧ rr_3712 = (o_remSes (dC S) v).2.1 ∧ Sim (o_remSes (dC S) v).2.2 B2_3713 ∧ DyW G d ((B2_3713, dS S, min 6 (dK S + 1), hsR (dH S) (dK S) (dC S), dL S, dN S) : DS) W2_3714 := hq
    have hpm_3724 : ([(o, .inl (G.2 5, 1, .inr (.inl of)))] ++ (W2_3714 ++ []) : va_W).Perm ([(o, .inl (G.2 5, 1, .inr (.inl of)))] ++ (W2_3714 ++ [])) := segs_perm2 [[(o, .inl (G.2 5, 1, .inr (.inl of)))]] [W2_3714] [0, 1] rfl
    have hP : va_P G.1 CL ([(o, .inl (G.2 5, 1, .inr (.inl of)))] ++ (W2_3714 ++ [])) H := P_perm hpm_3724 hP
    have hD : va_D A ([(o, .inl (G.2 5, 1, .inr (.inl of)))] ++ (W2_3714 ++ [])) := D_perm hpm_3724 hD
    refine W.eq (g2 := F0 m 7 ls [.int rr_3712, .int (nI 0), .ref o]) rfl ?_
    refine lv_i2l (v := (rr_3712).toInt64) hx hb dX0_removeSession_7 rfl ?_
    refine r_last hx hb hK hP hD hS 0 5 rfl rfl (i := 0) (by omega) (by omega) dX0_removeSession_8 (fun H locs (hP : va_P G.1 CL ([(o, .inl (G.2 5, 1, .inr (.inl (vp_updL of 0 ((rr_3712).toInt64)))))] ++ (W2_3714 ++ [])) H) (hD : va_D A ([(o, .inl (G.2 5, 1, .inr (.inl (vp_updL of 0 ((rr_3712).toInt64)))))] ++ (W2_3714 ++ []))) hS => ?_)
    refine lv_goto (tgt := 15) hx hb dX0_removeSession_9 (by decide) ?_
    refine lv_iconst (v := nI 0) hx hb dX0_removeSession_15 (by decide) ?_
    refine vx_ret ?_
    have hpm_3725 : (([(o, .inl (G.2 5, 1, .inr (.inl (vp_updL of 0 ((rr_3712).toInt64)))))] ++ (W2_3714 ++ [])) : va_W).Perm (([(o, .inl (G.2 5, 1, .inr (.inl (vp_updL of 0 ((rr_3712).toInt64)))))] ++ (W2_3714 ++ [])) ++ []) := segs_perm [[(o, .inl (G.2 5, 1, .inr (.inl (vp_updL of 0 ((rr_3712).toInt64)))))], W2_3714] [0, 1] [] rfl
    have hP9 : va_P G.1 CL ([(o, .inl (G.2 5, 1, .inr (.inl (vp_updL of 0 ((rr_3712).toInt64)))))] ++ (W2_3714 ++ [])) H := P_left (P_perm hpm_3725 hP)
    have hD9 : va_D A ([(o, .inl (G.2 5, 1, .inr (.inl (vp_updL of 0 ((rr_3712).toInt64)))))] ++ (W2_3714 ++ [])) := D_left (D_perm hpm_3725 hD)
    exact end_i hx hb hr hlk (rfl) (qc_of (vp_updL of 0 ((rr_3712).toInt64), ((B2_3713, dS S, min 6 (dK S + 1), hsR (dH S) (dK S) (dC S), dL S, dN S) : DS), W2_3714) (v := some (.int (nI 0))) (by rw [hq_3720]) (⟨fun _ => by rw [← hq_3721]; exact pk_uLs, NxS.yes hq_3720 hq_3722, by rw [hq_3720]; decide, hq_3723⟩) hP9 hD9 (trivial) hS) hS dX0_removeSession_16 (show 0 + (1 + 101) ≤ 1 + 101 from by first | exact Nat.le_refl _ | decide | omega) (show 0 + (6 + 5800) ≤ 6 + 5800 from by first | exact Nat.le_refl _ | decide | omega)

set_option maxHeartbeats 4000000 in
theorem wX0_addTarget (l : Launch) (G : Gt) (d : Nat) (S : DS) (W : va_W) (o : Nat) (of : Nat → Int64) (v : Int32) (h : DyW G d S W) (hfl : l.stackTraces = false) : CTW l G yX0_addTarget cX0_addTarget 4 (some .int) [(0, 9, 12, 13), (0, 9, 15, 15)] ({ frames := 10, cells := 1 + 101, slots := 6 + 5800, locals := 232 } : Room) [.ref d, .int v, .ref o] ([(o, .inl (G.2 5, 1, .inr (.inl of)))] ++ (W ++ [])) RH0 (S := (Nat → Int64) × DS × va_W) (fun (u_ : (Nat → Int64) × DS × va_W) => some (.int (nI ((o_addTarget (dC S) v).1)))) (fun (u_ : (Nat → Int64) × DS × va_W) => ((o_addTarget (dC S) v).1 = 0 → u_.1 0 = ((o_addTarget (dC S) v).2.1).toInt64) ∧ NxS S (o_addTarget (dC S) v) u_.2.1 ∧ (o_addTarget (dC S) v).1 < 10 ∧ DyW G d u_.2.1 u_.2.2) (fun (u_ : (Nat → Int64) × DS × va_W) => ([(o, .inl (G.2 5, 1, .inr (.inl u_.1)))] ++ (u_.2.2 ++ []))) (fun (u_ : (Nat → Int64) × DS × va_W) (H : Heap) => True) := by
  refine CTW.of (by decide) (Nat.le_of_ble_eq_true rfl) ?_
  intro p e s m below meth c ls A H locs h9 hH0 hP hS hNc htab
  obtain ⟨cf, hr, hlk, hnm, hKB, hE, -, hD, -, hA, hAw, hRH, hl⟩ := h9
  have hx := cf.1
  have hb := cf.2.1
  have hml := cf.2.2.1
  have hown : s.vm.findClass RX0 = some m.cls := cf.2.2.2.1
  have hts := cf.2.2.2.2
  have hK := hKB.1
  have hl : lv_has ls 4 [(0, .ref d), (1, .int v), (2, .ref o)] := hl
  refine lv_aload_n hx hb dX0_addTarget_0 rfl (lv_at hl 2 rfl) ?_
  refine lv_iconst (v := nI 0) hx hb dX0_addTarget_1 (by decide) ?_
  refine lv_aload_n hx hb dX0_addTarget_2 rfl (lv_at hl 0 rfl) ?_
  refine lv_iload_n hx hb dX0_addTarget_3 rfl (lv_at hl 1 rfl) ?_
  have hpm_3726 : (([(o, .inl (G.2 5, 1, .inr (.inl of)))] ++ (W ++ [])) : va_W).Perm ((W ++ []) ++ [(o, .inl (G.2 5, 1, .inr (.inl of)))]) := segs_perm [[(o, .inl (G.2 5, 1, .inr (.inl of)))], W] [1] [0] rfl
  have hF := hF_ofP (wc := (W ++ [])) hD hS hA hpm_3726
  refine go_cxP hS hP hD hpm_3726 hF
      (vx_runV (As := [.int v]) (rest := [.int (nI 0), .ref o]) cf (dX1_addTarget l G d S W v (show DyW G d S W from by first | assumption | omega) hfl H.size) (cwV 1 hts (lw_V q1416 q1417 q1418 q47 q1419) rfl rfl rfl (by decide +kernel) ⟨Nat.le_of_ble_eq_true rfl, Nat.le_of_ble_eq_true rfl⟩) (preV_of hKB hE hS hF (DyW.recv hK h (seg_at [[(o, .inl (G.2 5, 1, .inr (.inl of)))], W] 1 rfl hP)) (P_left (P_perm hpm_3726 hP)) ((D_left (D_perm hpm_3726 hD)).weaken (fun _ _ _ _ => trivial)) trivial) rfl rfl hl.1 rfl (lv_room (Nat.le_of_ble_eq_true rfl)) dX0_addTarget_4 ⟨show 0 + (1 + 101) ≤ 1 + 101 from by first | decide | omega, show 0 + (6 + 5800) ≤ 6 + 5800 from by first | decide | omega⟩)
      (fun u_ H locs ce q9 hq hph (hP : va_P G.1 CL ([(o, .inl (G.2 5, 1, .inr (.inl of)))] ++ (W ++ [])) H) (hD : va_D A ([(o, .inl (G.2 5, 1, .inr (.inl of)))] ++ (W ++ []))) hS hfz hfk hce hcv hcl => ?_) (fun u_ H locs hq hph (hP : va_P G.1 CL ([(o, .inl (G.2 5, 1, .inr (.inl of)))] ++ (u_.2.2 ++ [])) H) (hD : va_D A ([(o, .inl (G.2 5, 1, .inr (.inl of)))] ++ (u_.2.2 ++ []))) hS hfz hfk => ?_)
  · obtain ⟨kx_3730, rfl⟩ : ∃ z, z = u_ := ⟨_, rfl⟩
    obtain ⟨hq_3731, hq_3732⟩ : (o_addTarget (dC S) v).1 = kx_3730 ∧ 1 ≤ kx_3730 ∧ kx_3730 ≤ 2 := hq
    have hpm_3733 : ([(o, .inl (G.2 5, 1, .inr (.inl of)))] ++ (W ++ []) : va_W).Perm ([(o, .inl (G.2 5, 1, .inr (.inl of)))] ++ (W ++ [])) := segs_perm2 [[(o, .inl (G.2 5, 1, .inr (.inl of)))]] [W] [0, 1] rfl
    have hP : va_P G.1 CL ([(o, .inl (G.2 5, 1, .inr (.inl of)))] ++ (W ++ [])) H := P_perm hpm_3733 hP
    have hD : va_D A ([(o, .inl (G.2 5, 1, .inr (.inl of)))] ++ (W ++ [])) := D_perm hpm_3733 hD
    rcases (show kx_3730 = 1 ∨ kx_3730 = 2 by omega) with rfl | rfl
    · have hcl9 : s.vm.findClass eA = some ce.cls := hcl
      refine vx_catch (name := eA) (E := eA) hown [] (⟨0, 9, 12, 13⟩ : ExceptionTableEntry) [(⟨0, 9, 15, 15⟩ : ExceptionTableEntry)] (by rw [htab]; rfl) (fun z hz => absurd hz List.not_mem_nil) (by decide) (by decide) (hts _ q680) (va_Nw.use rfl (hKB.nest q698 rfl)) hce hcv hcl9 ?_
      refine W.eq (g2 := F0 m 12 ls [.ref q9]) rfl ?_
      refine lv_astore_n (lv' := [(3, .ref q9), (0, .ref d), (1, .int v), (2, .ref o)]) hx hb dX0_addTarget_12 rfl hl (by decide) rfl (fun ls hl => ?_)
      refine lv_iconst (v := nI 1) hx hb dX0_addTarget_13 (by decide) ?_
      refine vx_ret ?_
      have hpm_3734 : (([(o, .inl (G.2 5, 1, .inr (.inl of)))] ++ (W ++ [])) : va_W).Perm (([(o, .inl (G.2 5, 1, .inr (.inl of)))] ++ (W ++ [])) ++ []) := segs_perm [[(o, .inl (G.2 5, 1, .inr (.inl of)))], W] [0, 1] [] rfl
      have hP9 : va_P G.1 CL ([(o, .inl (G.2 5, 1, .inr (.inl of)))] ++ (W ++ [])) H := P_left (P_perm hpm_3734 hP)
      have hD9 : va_D A ([(o, .inl (G.2 5, 1, .inr (.inl of)))] ++ (W ++ [])) := D_left (D_perm hpm_3734 hD)
      exact end_i hx hb hr hlk (rfl) (qc_of (of, S, W) (v := some (.int (nI 1))) (by rw [hq_3731]) (⟨fun z9 => absurd (hq_3731.symm.trans z9) (by decide), NxS.no (fun z9 => absurd (hq_3731.symm.trans z9) (by decide)), by rw [hq_3731]; decide, h⟩) hP9 hD9 (trivial) hS) hS dX0_addTarget_14 (show 0 + (1 + 101) ≤ 1 + 101 from by first | exact Nat.le_refl _ | decide | omega) (show 0 + (6 + 5800) ≤ 6 + 5800 from by first | exact Nat.le_refl _ | decide | omega)
    · have hcl9 : s.vm.findClass eS9 = some ce.cls := hcl
      refine vx_catch (name := eS9) (E := eS9) hown [(⟨0, 9, 12, 13⟩ : ExceptionTableEntry)] (⟨0, 9, 15, 15⟩ : ExceptionTableEntry) [] (by rw [htab]; rfl) (fun z hz => by rcases List.mem_singleton.mp hz with rfl; exact Or.inr ⟨by decide, _, hts _ q680, hNc _ (List.mem_of_getElem? (i := 0) rfl)⟩) (by decide) (by decide) (hts _ q681) (va_Nw.use rfl (hKB.nest q577 rfl)) hce hcv hcl9 ?_
      refine W.eq (g2 := F0 m 15 ls [.ref q9]) rfl ?_
      refine lv_astore_n (lv' := [(3, .ref q9), (0, .ref d), (1, .int v), (2, .ref o)]) hx hb dX0_addTarget_15 rfl hl (by decide) rfl (fun ls hl => ?_)
      refine lv_iconst (v := nI 2) hx hb dX0_addTarget_16 (by decide) ?_
      refine vx_ret ?_
      have hpm_3735 : (([(o, .inl (G.2 5, 1, .inr (.inl of)))] ++ (W ++ [])) : va_W).Perm (([(o, .inl (G.2 5, 1, .inr (.inl of)))] ++ (W ++ [])) ++ []) := segs_perm [[(o, .inl (G.2 5, 1, .inr (.inl of)))], W] [0, 1] [] rfl
      have hP9 : va_P G.1 CL ([(o, .inl (G.2 5, 1, .inr (.inl of)))] ++ (W ++ [])) H := P_left (P_perm hpm_3735 hP)
      have hD9 : va_D A ([(o, .inl (G.2 5, 1, .inr (.inl of)))] ++ (W ++ [])) := D_left (D_perm hpm_3735 hD)
      exact end_i hx hb hr hlk (rfl) (qc_of (of, S, W) (v := some (.int (nI 2))) (by rw [hq_3731]) (⟨fun z9 => absurd (hq_3731.symm.trans z9) (by decide), NxS.no (fun z9 => absurd (hq_3731.symm.trans z9) (by decide)), by rw [hq_3731]; decide, h⟩) hP9 hD9 (trivial) hS) hS dX0_addTarget_17 (show 0 + (1 + 101) ≤ 1 + 101 from by first | exact Nat.le_refl _ | decide | omega) (show 0 + (6 + 5800) ≤ 6 + 5800 from by first | exact Nat.le_refl _ | decide | omega)
  · obtain ⟨rr_3727, B2_3728, W2_3729⟩ := u_
    obtain ⟨hq_3736, hq_3737, hq_3738, hq_3739⟩ : (o_addTarget (dC S) v).1 = 0 ∧ rr_3727 = (o_addTarget (dC S) v).2.1 ∧ Sim (o_addTarget (dC S) v).2.2 B2_3728 ∧ DyW G d ((B2_3728, dS S, min 6 (dK S + 1), hsR (dH S) (dK S) (dC S), dL S, dN S) : DS) W2_3729 := hq
    have hpm_3740 : ([(o, .inl (G.2 5, 1, .inr (.inl of)))] ++ (W2_3729 ++ []) : va_W).Perm ([(o, .inl (G.2 5, 1, .inr (.inl of)))] ++ (W2_3729 ++ [])) := segs_perm2 [[(o, .inl (G.2 5, 1, .inr (.inl of)))]] [W2_3729] [0, 1] rfl
    have hP : va_P G.1 CL ([(o, .inl (G.2 5, 1, .inr (.inl of)))] ++ (W2_3729 ++ [])) H := P_perm hpm_3740 hP
    have hD : va_D A ([(o, .inl (G.2 5, 1, .inr (.inl of)))] ++ (W2_3729 ++ [])) := D_perm hpm_3740 hD
    refine W.eq (g2 := F0 m 7 ls [.int rr_3727, .int (nI 0), .ref o]) rfl ?_
    refine lv_i2l (v := (rr_3727).toInt64) hx hb dX0_addTarget_7 rfl ?_
    refine r_last hx hb hK hP hD hS 0 5 rfl rfl (i := 0) (by omega) (by omega) dX0_addTarget_8 (fun H locs (hP : va_P G.1 CL ([(o, .inl (G.2 5, 1, .inr (.inl (vp_updL of 0 ((rr_3727).toInt64)))))] ++ (W2_3729 ++ [])) H) (hD : va_D A ([(o, .inl (G.2 5, 1, .inr (.inl (vp_updL of 0 ((rr_3727).toInt64)))))] ++ (W2_3729 ++ []))) hS => ?_)
    refine lv_goto (tgt := 18) hx hb dX0_addTarget_9 (by decide) ?_
    refine lv_iconst (v := nI 0) hx hb dX0_addTarget_18 (by decide) ?_
    refine vx_ret ?_
    have hpm_3741 : (([(o, .inl (G.2 5, 1, .inr (.inl (vp_updL of 0 ((rr_3727).toInt64)))))] ++ (W2_3729 ++ [])) : va_W).Perm (([(o, .inl (G.2 5, 1, .inr (.inl (vp_updL of 0 ((rr_3727).toInt64)))))] ++ (W2_3729 ++ [])) ++ []) := segs_perm [[(o, .inl (G.2 5, 1, .inr (.inl (vp_updL of 0 ((rr_3727).toInt64)))))], W2_3729] [0, 1] [] rfl
    have hP9 : va_P G.1 CL ([(o, .inl (G.2 5, 1, .inr (.inl (vp_updL of 0 ((rr_3727).toInt64)))))] ++ (W2_3729 ++ [])) H := P_left (P_perm hpm_3741 hP)
    have hD9 : va_D A ([(o, .inl (G.2 5, 1, .inr (.inl (vp_updL of 0 ((rr_3727).toInt64)))))] ++ (W2_3729 ++ [])) := D_left (D_perm hpm_3741 hD)
    exact end_i hx hb hr hlk (rfl) (qc_of (vp_updL of 0 ((rr_3727).toInt64), ((B2_3728, dS S, min 6 (dK S + 1), hsR (dH S) (dK S) (dC S), dL S, dN S) : DS), W2_3729) (v := some (.int (nI 0))) (by rw [hq_3736]) (⟨fun _ => by rw [← hq_3737]; exact pk_uLs, NxS.yes hq_3736 hq_3738, by rw [hq_3736]; decide, hq_3739⟩) hP9 hD9 (trivial) hS) hS dX0_addTarget_19 (show 0 + (1 + 101) ≤ 1 + 101 from by first | exact Nat.le_refl _ | decide | omega) (show 0 + (6 + 5800) ≤ 6 + 5800 from by first | exact Nat.le_refl _ | decide | omega)

set_option maxHeartbeats 4000000 in
theorem wX0_writeWeek (l : Launch) (G : Gt) (d : Nat) (S : DS) (W : va_W) (o : Nat) (of : Nat → Int64) (v : Int32) (h : DyW G d S W) (hfl : l.stackTraces = false) : CTW l G yX0_writeWeek cX0_writeWeek 4 (some .int) [(0, 9, 12, 13)] ({ frames := 11, cells := 1500, slots := 3000, locals := 236 } : Room) [.ref d, .int v, .ref o] ([(o, .inl (G.2 5, 1, .inr (.inl of)))] ++ (W ++ [])) RH0 (S := (Nat → Int64) × Nat × va_W) (fun (u_ : (Nat → Int64) × Nat × va_W) => some (.int (nI u_.2.1))) (fun (u_ : (Nat → Int64) × Nat × va_W) => (∀ z, inR v 0 (bD (dC S)) = some z → u_.2.1 = 0 ∧ u_.1 0 = (nI 13).toInt64 ∧ DyW G d ((dC S, dS S, dK S, dH S, wkF (dC S) z, 13) : DS) u_.2.2) ∧ (inR v 0 (bD (dC S)) = none → u_.2.1 = 1 ∧ DyW G d S u_.2.2)) (fun (u_ : (Nat → Int64) × Nat × va_W) => ([(o, .inl (G.2 5, 1, .inr (.inl u_.1)))] ++ (u_.2.2 ++ []))) (fun (u_ : (Nat → Int64) × Nat × va_W) (H : Heap) => True) := by
  refine CTW.of (by decide) (Nat.le_of_ble_eq_true rfl) ?_
  intro p e s m below meth c ls A H locs h9 hH0 hP hS hNc htab
  obtain ⟨cf, hr, hlk, hnm, hKB, hE, -, hD, -, hA, hAw, hRH, hl⟩ := h9
  have hx := cf.1
  have hb := cf.2.1
  have hml := cf.2.2.1
  have hown : s.vm.findClass RX0 = some m.cls := cf.2.2.2.1
  have hts := cf.2.2.2.2
  have hK := hKB.1
  have hl : lv_has ls 4 [(0, .ref d), (1, .int v), (2, .ref o)] := hl
  refine lv_aload_n hx hb dX0_writeWeek_0 rfl (lv_at hl 2 rfl) ?_
  refine lv_iconst (v := nI 0) hx hb dX0_writeWeek_1 (by decide) ?_
  refine lv_aload_n hx hb dX0_writeWeek_2 rfl (lv_at hl 0 rfl) ?_
  refine lv_iload_n hx hb dX0_writeWeek_3 rfl (lv_at hl 1 rfl) ?_
  have hpm_3742 : (([(o, .inl (G.2 5, 1, .inr (.inl of)))] ++ (W ++ [])) : va_W).Perm ((W ++ []) ++ [(o, .inl (G.2 5, 1, .inr (.inl of)))]) := segs_perm [[(o, .inl (G.2 5, 1, .inr (.inl of)))], W] [1] [0] rfl
  have hF := hF_ofP (wc := (W ++ [])) hD hS hA hpm_3742
  refine go_cxP hS hP hD hpm_3742 hF
      (vx_runV (As := [.int v]) (rest := [.int (nI 0), .ref o]) cf (dX1_writeWeek l G d S W v (show DyW G d S W from by first | assumption | omega) hfl H.size) (cwV 1 hts (lw_V q1448 q1449 q1450 q47 q1451) rfl rfl rfl (by decide +kernel) ⟨Nat.le_of_ble_eq_true rfl, Nat.le_of_ble_eq_true rfl⟩) (preV_of hKB hE hS hF (DyW.recv hK h (seg_at [[(o, .inl (G.2 5, 1, .inr (.inl of)))], W] 1 rfl hP)) (P_left (P_perm hpm_3742 hP)) ((D_left (D_perm hpm_3742 hD)).weaken (fun _ _ _ _ => trivial)) trivial) rfl rfl hl.1 rfl (lv_room (Nat.le_of_ble_eq_true rfl)) dX0_writeWeek_4 ⟨show 0 + 1500 ≤ 1500 from by first | decide | omega, show 0 + 3000 ≤ 3000 from by first | decide | omega⟩)
      (fun u_ H locs ce q9 hq hph (hP : va_P G.1 CL ([(o, .inl (G.2 5, 1, .inr (.inl of)))] ++ (W ++ [])) H) (hD : va_D A ([(o, .inl (G.2 5, 1, .inr (.inl of)))] ++ (W ++ []))) hS hfz hfk hce hcv hcl => ?_) (fun u_ H locs hq hph (hP : va_P G.1 CL ([(o, .inl (G.2 5, 1, .inr (.inl of)))] ++ (u_.2 ++ [])) H) (hD : va_D A ([(o, .inl (G.2 5, 1, .inr (.inl of)))] ++ (u_.2 ++ []))) hS hfz hfk => ?_)
  · have hq_3745 : inR v 0 (bD (dC S)) = none := hq
    have hpm_3746 : ([(o, .inl (G.2 5, 1, .inr (.inl of)))] ++ (W ++ []) : va_W).Perm ([(o, .inl (G.2 5, 1, .inr (.inl of)))] ++ (W ++ [])) := segs_perm2 [[(o, .inl (G.2 5, 1, .inr (.inl of)))]] [W] [0, 1] rfl
    have hP : va_P G.1 CL ([(o, .inl (G.2 5, 1, .inr (.inl of)))] ++ (W ++ [])) H := P_perm hpm_3746 hP
    have hD : va_D A ([(o, .inl (G.2 5, 1, .inr (.inl of)))] ++ (W ++ [])) := D_perm hpm_3746 hD
    have hcl9 : s.vm.findClass eA = some ce.cls := hcl
    refine vx_catch (name := eA) (E := eA) hown [] (⟨0, 9, 12, 13⟩ : ExceptionTableEntry) [] (by rw [htab]; rfl) (fun z hz => absurd hz List.not_mem_nil) (by decide) (by decide) (hts _ q680) (va_Nw.use rfl (hKB.nest q698 rfl)) hce hcv hcl9 ?_
    refine W.eq (g2 := F0 m 12 ls [.ref q9]) rfl ?_
    refine lv_astore_n (lv' := [(3, .ref q9), (0, .ref d), (1, .int v), (2, .ref o)]) hx hb dX0_writeWeek_12 rfl hl (by decide) rfl (fun ls hl => ?_)
    refine lv_iconst (v := nI 1) hx hb dX0_writeWeek_13 (by decide) ?_
    refine vx_ret ?_
    have hpm_3747 : (([(o, .inl (G.2 5, 1, .inr (.inl of)))] ++ (W ++ [])) : va_W).Perm (([(o, .inl (G.2 5, 1, .inr (.inl of)))] ++ (W ++ [])) ++ []) := segs_perm [[(o, .inl (G.2 5, 1, .inr (.inl of)))], W] [0, 1] [] rfl
    have hP9 : va_P G.1 CL ([(o, .inl (G.2 5, 1, .inr (.inl of)))] ++ (W ++ [])) H := P_left (P_perm hpm_3747 hP)
    have hD9 : va_D A ([(o, .inl (G.2 5, 1, .inr (.inl of)))] ++ (W ++ [])) := D_left (D_perm hpm_3747 hD)
    exact end_i hx hb hr hlk (rfl) (qc_of (of, 1, W) (v := some (.int (nI 1))) (by rfl) (⟨fun z9 e9 => by rw [hq_3745] at e9; exact nomatch e9, fun _ => ⟨rfl, h⟩⟩) hP9 hD9 (trivial) hS) hS dX0_writeWeek_14 (show 0 + 1500 ≤ 1500 from by first | exact Nat.le_refl _ | decide | omega) (show 0 + 3000 ≤ 3000 from by first | exact Nat.le_refl _ | decide | omega)
  · obtain ⟨z_3743, W2_3744⟩ := u_
    obtain ⟨hq_3748, hq_3749⟩ : inR v 0 (bD (dC S)) = some z_3743 ∧ DyW G d ((dC S, dS S, dK S, dH S, wkF (dC S) z_3743, 13) : DS) W2_3744 := hq
    have hpm_3750 : ([(o, .inl (G.2 5, 1, .inr (.inl of)))] ++ (W2_3744 ++ []) : va_W).Perm ([(o, .inl (G.2 5, 1, .inr (.inl of)))] ++ (W2_3744 ++ [])) := segs_perm2 [[(o, .inl (G.2 5, 1, .inr (.inl of)))]] [W2_3744] [0, 1] rfl
    have hP : va_P G.1 CL ([(o, .inl (G.2 5, 1, .inr (.inl of)))] ++ (W2_3744 ++ [])) H := P_perm hpm_3750 hP
    have hD : va_D A ([(o, .inl (G.2 5, 1, .inr (.inl of)))] ++ (W2_3744 ++ [])) := D_perm hpm_3750 hD
    refine W.eq (g2 := F0 m 7 ls [.int (nI 13), .int (nI 0), .ref o]) rfl ?_
    refine lv_i2l (v := (nI 13).toInt64) hx hb dX0_writeWeek_7 rfl ?_
    refine r_last hx hb hK hP hD hS 0 5 rfl rfl (i := 0) (by omega) (by omega) dX0_writeWeek_8 (fun H locs (hP : va_P G.1 CL ([(o, .inl (G.2 5, 1, .inr (.inl (vp_updL of 0 ((nI 13).toInt64)))))] ++ (W2_3744 ++ [])) H) (hD : va_D A ([(o, .inl (G.2 5, 1, .inr (.inl (vp_updL of 0 ((nI 13).toInt64)))))] ++ (W2_3744 ++ []))) hS => ?_)
    refine lv_goto (tgt := 15) hx hb dX0_writeWeek_9 (by decide) ?_
    refine lv_iconst (v := nI 0) hx hb dX0_writeWeek_15 (by decide) ?_
    refine vx_ret ?_
    have hpm_3751 : (([(o, .inl (G.2 5, 1, .inr (.inl (vp_updL of 0 ((nI 13).toInt64)))))] ++ (W2_3744 ++ [])) : va_W).Perm (([(o, .inl (G.2 5, 1, .inr (.inl (vp_updL of 0 ((nI 13).toInt64)))))] ++ (W2_3744 ++ [])) ++ []) := segs_perm [[(o, .inl (G.2 5, 1, .inr (.inl (vp_updL of 0 ((nI 13).toInt64)))))], W2_3744] [0, 1] [] rfl
    have hP9 : va_P G.1 CL ([(o, .inl (G.2 5, 1, .inr (.inl (vp_updL of 0 ((nI 13).toInt64)))))] ++ (W2_3744 ++ [])) H := P_left (P_perm hpm_3751 hP)
    have hD9 : va_D A ([(o, .inl (G.2 5, 1, .inr (.inl (vp_updL of 0 ((nI 13).toInt64)))))] ++ (W2_3744 ++ [])) := D_left (D_perm hpm_3751 hD)
    exact end_i hx hb hr hlk (rfl) (qc_of (vp_updL of 0 ((nI 13).toInt64), 0, W2_3744) (v := some (.int (nI 0))) (by rfl) (⟨fun z9 e9 => by cases hq_3748.symm.trans e9; exact ⟨rfl, pk_uLs, hq_3749⟩, fun e9 => by rw [e9] at hq_3748; exact nomatch hq_3748⟩) hP9 hD9 (trivial) hS) hS dX0_writeWeek_16 (show 0 + 1500 ≤ 1500 from by first | exact Nat.le_refl _ | decide | omega) (show 0 + 3000 ≤ 3000 from by first | exact Nat.le_refl _ | decide | omega)

set_option maxHeartbeats 4000000 in
theorem wX0_lineAt (l : Launch) (G : Gt) (d : Nat) (S : DS) (W : va_W) (o : Nat) (of : Nat → Int64) (v : Int32) (h : DyW G d S W) (hfl : l.stackTraces = false) : CTW l G yX0_lineAt cX0_lineAt 4 (some .int) [(0, 9, 12, 63)] ({ frames := 8, cells := 2, slots := 8, locals := 123 } : Room) [.ref d, .int v, .ref o] ([(o, .inl (G.2 5, 1, .inr (.inl of)))] ++ (W ++ [])) RH0 (S := (Nat → Int64) × va_W) (fun (u_ : (Nat → Int64) × va_W) => some (.int (nI (((q_line (dL S) (dN S) v)).1)))) (fun (u_ : (Nat → Int64) × va_W) => ((q_line (dL S) (dN S) v).1 = 0 → u_.1 0 = ((q_line (dL S) (dN S) v).2).toInt64) ∧ (q_line (dL S) (dN S) v).1 < 10 ∧ DyW G d S u_.2) (fun (u_ : (Nat → Int64) × va_W) => ([(o, .inl (G.2 5, 1, .inr (.inl u_.1)))] ++ (u_.2 ++ []))) (fun (u_ : (Nat → Int64) × va_W) (H : Heap) => True) := by
  refine CTW.of (by decide) (Nat.le_of_ble_eq_true rfl) ?_
  intro p e s m below meth c ls A H locs h9 hH0 hP hS hNc htab
  obtain ⟨cf, hr, hlk, hnm, hKB, hE, -, hD, -, hA, hAw, hRH, hl⟩ := h9
  have hx := cf.1
  have hb := cf.2.1
  have hml := cf.2.2.1
  have hown : s.vm.findClass RX0 = some m.cls := cf.2.2.2.1
  have hts := cf.2.2.2.2
  have hK := hKB.1
  have hl : lv_has ls 4 [(0, .ref d), (1, .int v), (2, .ref o)] := hl
  refine lv_aload_n hx hb dX0_lineAt_0 rfl (lv_at hl 2 rfl) ?_
  refine lv_iconst (v := nI 0) hx hb dX0_lineAt_1 (by decide) ?_
  refine lv_aload_n hx hb dX0_lineAt_2 rfl (lv_at hl 0 rfl) ?_
  refine lv_iload_n hx hb dX0_lineAt_3 rfl (lv_at hl 1 rfl) ?_
  have hpm_3752 : (([(o, .inl (G.2 5, 1, .inr (.inl of)))] ++ (W ++ [])) : va_W).Perm ([] ++ ([(o, .inl (G.2 5, 1, .inr (.inl of)))] ++ (W ++ []))) := segs_perm [[(o, .inl (G.2 5, 1, .inr (.inl of)))], W] [] [0, 1] rfl
  have hF := hF_ofP (wc := []) hD hS hA hpm_3752
  refine go_cxP hS hP hD hpm_3752 hF
      (vx_runV (As := [.int v]) (rest := [.int (nI 0), .ref o]) cf (dX1_lineAt l G d S W v (show DyW G d S W from by first | assumption | omega) hfl H.size) (cwV 1 hts (lw_V q1537 q1538 q1539 q47 q1540) rfl rfl rfl (by decide +kernel) ⟨Nat.le_of_ble_eq_true rfl, Nat.le_of_ble_eq_true rfl⟩) (preV_of hKB hE hS hF (DyW.recv hK h (seg_at [[(o, .inl (G.2 5, 1, .inr (.inl of)))], W] 1 rfl hP)) (P_left (P_perm hpm_3752 hP)) ((D_left (D_perm hpm_3752 hD)).weaken (fun _ _ _ _ => trivial)) (roW.nil (seg_at [[(o, .inl (G.2 5, 1, .inr (.inl of)))], W] 1 rfl hP))) rfl rfl hl.1 rfl (lv_room (Nat.le_of_ble_eq_true rfl)) dX0_lineAt_4 ⟨show 0 + 2 ≤ 2 from by first | decide | omega, show 0 + 8 ≤ 8 from by first | decide | omega⟩)
      (fun u_ H locs ce q9 hq hph (hP : va_P G.1 CL (([(o, .inl (G.2 5, 1, .inr (.inl of)))] ++ (W ++ [])) ++ []) H) (hD : va_D A (([(o, .inl (G.2 5, 1, .inr (.inl of)))] ++ (W ++ [])) ++ [])) hS hfz hfk hce hcv hcl => ?_) (fun u_ H locs hq hph (hP : va_P G.1 CL (([(o, .inl (G.2 5, 1, .inr (.inl of)))] ++ (W ++ [])) ++ []) H) (hD : va_D A (([(o, .inl (G.2 5, 1, .inr (.inl of)))] ++ (W ++ [])) ++ [])) hS hfz hfk => ?_)
  · have hq_3754 : (q_line (dL S) (dN S) v).1 = 1 := hq
    have hpm_3755 : (([(o, .inl (G.2 5, 1, .inr (.inl of)))] ++ (W ++ [])) ++ [] : va_W).Perm ([(o, .inl (G.2 5, 1, .inr (.inl of)))] ++ (W ++ [])) := segs_perm2 [[(o, .inl (G.2 5, 1, .inr (.inl of)))], W] [] [0, 1] rfl
    have hP : va_P G.1 CL ([(o, .inl (G.2 5, 1, .inr (.inl of)))] ++ (W ++ [])) H := P_perm hpm_3755 hP
    have hD : va_D A ([(o, .inl (G.2 5, 1, .inr (.inl of)))] ++ (W ++ [])) := D_perm hpm_3755 hD
    have hcl9 : s.vm.findClass eI = some ce.cls := hcl
    refine vx_catch (name := eI) (E := eI) hown [] (⟨0, 9, 12, 63⟩ : ExceptionTableEntry) [] (by rw [htab]; rfl) (fun z hz => absurd hz List.not_mem_nil) (by decide) (by decide) (hts _ q1197) (va_Nw.use rfl (hKB.nest q785 rfl)) hce hcv hcl9 ?_
    refine W.eq (g2 := F0 m 12 ls [.ref q9]) rfl ?_
    refine lv_astore_n (lv' := [(3, .ref q9), (0, .ref d), (1, .int v), (2, .ref o)]) hx hb dX0_lineAt_12 rfl hl (by decide) rfl (fun ls hl => ?_)
    refine lv_iconst (v := nI 1) hx hb dX0_lineAt_13 (by decide) ?_
    refine vx_ret ?_
    have hpm_3756 : (([(o, .inl (G.2 5, 1, .inr (.inl of)))] ++ (W ++ [])) : va_W).Perm (([(o, .inl (G.2 5, 1, .inr (.inl of)))] ++ (W ++ [])) ++ []) := segs_perm [[(o, .inl (G.2 5, 1, .inr (.inl of)))], W] [0, 1] [] rfl
    have hP9 : va_P G.1 CL ([(o, .inl (G.2 5, 1, .inr (.inl of)))] ++ (W ++ [])) H := P_left (P_perm hpm_3756 hP)
    have hD9 : va_D A ([(o, .inl (G.2 5, 1, .inr (.inl of)))] ++ (W ++ [])) := D_left (D_perm hpm_3756 hD)
    exact end_i hx hb hr hlk (rfl) (qc_of (of, W) (v := some (.int (nI 1))) (by rw [hq_3754]) (⟨fun z9 => absurd (hq_3754.symm.trans z9) (by decide), by rw [hq_3754]; decide, h⟩) hP9 hD9 (trivial) hS) hS dX0_lineAt_14 (show 0 + 2 ≤ 2 from by first | exact Nat.le_refl _ | decide | omega) (show 0 + 8 ≤ 8 from by first | exact Nat.le_refl _ | decide | omega)
  · obtain ⟨rr_3753, rfl⟩ : ∃ z, z = u_ := ⟨_, rfl⟩
    have hq_3757 : q_line (dL S) (dN S) v = (0, rr_3753) := hq
    have hpm_3758 : (([(o, .inl (G.2 5, 1, .inr (.inl of)))] ++ (W ++ [])) ++ [] : va_W).Perm ([(o, .inl (G.2 5, 1, .inr (.inl of)))] ++ (W ++ [])) := segs_perm2 [[(o, .inl (G.2 5, 1, .inr (.inl of)))], W] [] [0, 1] rfl
    have hP : va_P G.1 CL ([(o, .inl (G.2 5, 1, .inr (.inl of)))] ++ (W ++ [])) H := P_perm hpm_3758 hP
    have hD : va_D A ([(o, .inl (G.2 5, 1, .inr (.inl of)))] ++ (W ++ [])) := D_perm hpm_3758 hD
    refine W.eq (g2 := F0 m 7 ls [.int rr_3753, .int (nI 0), .ref o]) rfl ?_
    refine lv_i2l (v := (rr_3753).toInt64) hx hb dX0_lineAt_7 rfl ?_
    refine r_last hx hb hK hP hD hS 0 5 rfl rfl (i := 0) (by omega) (by omega) dX0_lineAt_8 (fun H locs (hP : va_P G.1 CL ([(o, .inl (G.2 5, 1, .inr (.inl (vp_updL of 0 ((rr_3753).toInt64)))))] ++ (W ++ [])) H) (hD : va_D A ([(o, .inl (G.2 5, 1, .inr (.inl (vp_updL of 0 ((rr_3753).toInt64)))))] ++ (W ++ []))) hS => ?_)
    refine lv_goto (tgt := 15) hx hb dX0_lineAt_9 (by decide) ?_
    refine lv_iconst (v := nI 0) hx hb dX0_lineAt_15 (by decide) ?_
    refine vx_ret ?_
    have hpm_3759 : (([(o, .inl (G.2 5, 1, .inr (.inl (vp_updL of 0 ((rr_3753).toInt64)))))] ++ (W ++ [])) : va_W).Perm (([(o, .inl (G.2 5, 1, .inr (.inl (vp_updL of 0 ((rr_3753).toInt64)))))] ++ (W ++ [])) ++ []) := segs_perm [[(o, .inl (G.2 5, 1, .inr (.inl (vp_updL of 0 ((rr_3753).toInt64)))))], W] [0, 1] [] rfl
    have hP9 : va_P G.1 CL ([(o, .inl (G.2 5, 1, .inr (.inl (vp_updL of 0 ((rr_3753).toInt64)))))] ++ (W ++ [])) H := P_left (P_perm hpm_3759 hP)
    have hD9 : va_D A ([(o, .inl (G.2 5, 1, .inr (.inl (vp_updL of 0 ((rr_3753).toInt64)))))] ++ (W ++ [])) := D_left (D_perm hpm_3759 hD)
    exact end_i hx hb hr hlk (rfl) (qc_of (vp_updL of 0 ((rr_3753).toInt64), W) (v := some (.int (nI 0))) (by rw [hq_3757]) (⟨fun _ => by rw [hq_3757]; exact pk_uLs, by rw [hq_3757]; exact (by decide : (0 : Nat) < 10), h⟩) hP9 hD9 (trivial) hS) hS dX0_lineAt_16 (show 0 + 2 ≤ 2 from by first | exact Nat.le_refl _ | decide | omega) (show 0 + 8 ≤ 8 from by first | exact Nat.le_refl _ | decide | omega)

set_option maxHeartbeats 4000000 in
theorem wX0_undo (l : Launch) (G : Gt) (d : Nat) (S : DS) (W : va_W) (o : Nat) (of : Nat → Int64) (h : DyW G d S W) (hfl : l.stackTraces = false) : CTW l G yX0_undo cX0_undo 3 (some .int) [(0, 8, 11, 15)] ({ frames := 8, cells := 2, slots := 8, locals := 122 } : Room) [.ref d, .ref o] ([(o, .inl (G.2 5, 1, .inr (.inl of)))] ++ (W ++ [])) RH0 (S := (Nat → Int64) × Nat × va_W) (fun (u_ : (Nat → Int64) × Nat × va_W) => some (.int (nI u_.2.1))) (fun (u_ : (Nat → Int64) × Nat × va_W) => (0 < dK S → u_.2.1 = 0 ∧ u_.1 0 = (nI (dK S - 1)).toInt64 ∧ DyW G d ((dH S (dK S - 1), dS S, dK S - 1, dH S, dL S, dN S) : DS) u_.2.2) ∧ (dK S = 0 → u_.2.1 = 1 ∧ DyW G d S u_.2.2)) (fun (u_ : (Nat → Int64) × Nat × va_W) => ([(o, .inl (G.2 5, 1, .inr (.inl u_.1)))] ++ (u_.2.2 ++ []))) (fun (u_ : (Nat → Int64) × Nat × va_W) (H : Heap) => True) := by
  refine CTW.of (by decide) (Nat.le_of_ble_eq_true rfl) ?_
  intro p e s m below meth c ls A H locs h9 hH0 hP hS hNc htab
  obtain ⟨cf, hr, hlk, hnm, hKB, hE, -, hD, -, hA, hAw, hRH, hl⟩ := h9
  have hx := cf.1
  have hb := cf.2.1
  have hml := cf.2.2.1
  have hown : s.vm.findClass RX0 = some m.cls := cf.2.2.2.1
  have hts := cf.2.2.2.2
  have hK := hKB.1
  have hl : lv_has ls 3 [(0, .ref d), (1, .ref o)] := hl
  refine lv_aload_n hx hb dX0_undo_0 rfl (lv_at hl 1 rfl) ?_
  refine lv_iconst (v := nI 0) hx hb dX0_undo_1 (by decide) ?_
  refine lv_aload_n hx hb dX0_undo_2 rfl (lv_at hl 0 rfl) ?_
  have hpm_3760 : (([(o, .inl (G.2 5, 1, .inr (.inl of)))] ++ (W ++ [])) : va_W).Perm ((W ++ []) ++ [(o, .inl (G.2 5, 1, .inr (.inl of)))]) := segs_perm [[(o, .inl (G.2 5, 1, .inr (.inl of)))], W] [1] [0] rfl
  have hF := hF_ofP (wc := (W ++ [])) hD hS hA hpm_3760
  refine go_cxP hS hP hD hpm_3760 hF
      (vx_runV (As := []) (rest := [.int (nI 0), .ref o]) cf (dX1_undo l G d S W (show DyW G d S W from by first | assumption | omega) hfl H.size) (cwV 0 hts (lw_V q1554 q1555 q1556 q47 q1557) rfl rfl rfl (by decide +kernel) ⟨Nat.le_of_ble_eq_true rfl, Nat.le_of_ble_eq_true rfl⟩) (preV_of hKB hE hS hF (DyW.recv hK h (seg_at [[(o, .inl (G.2 5, 1, .inr (.inl of)))], W] 1 rfl hP)) (P_left (P_perm hpm_3760 hP)) ((D_left (D_perm hpm_3760 hD)).weaken (fun _ _ _ _ => trivial)) trivial) rfl rfl hl.1 rfl (lv_room (Nat.le_of_ble_eq_true rfl)) dX0_undo_3 ⟨show 0 + 2 ≤ 2 from by first | decide | omega, show 0 + 8 ≤ 8 from by first | decide | omega⟩)
      (fun u_ H locs ce q9 hq hph (hP : va_P G.1 CL ([(o, .inl (G.2 5, 1, .inr (.inl of)))] ++ (W ++ [])) H) (hD : va_D A ([(o, .inl (G.2 5, 1, .inr (.inl of)))] ++ (W ++ []))) hS hfz hfk hce hcv hcl => ?_) (fun u_ H locs hq hph (hP : va_P G.1 CL ([(o, .inl (G.2 5, 1, .inr (.inl of)))] ++ (u_ ++ [])) H) (hD : va_D A ([(o, .inl (G.2 5, 1, .inr (.inl of)))] ++ (u_ ++ []))) hS hfz hfk => ?_)
  · have hq_3762 : dK S = 0 := hq
    have hpm_3763 : ([(o, .inl (G.2 5, 1, .inr (.inl of)))] ++ (W ++ []) : va_W).Perm ([(o, .inl (G.2 5, 1, .inr (.inl of)))] ++ (W ++ [])) := segs_perm2 [[(o, .inl (G.2 5, 1, .inr (.inl of)))]] [W] [0, 1] rfl
    have hP : va_P G.1 CL ([(o, .inl (G.2 5, 1, .inr (.inl of)))] ++ (W ++ [])) H := P_perm hpm_3763 hP
    have hD : va_D A ([(o, .inl (G.2 5, 1, .inr (.inl of)))] ++ (W ++ [])) := D_perm hpm_3763 hD
    have hcl9 : s.vm.findClass eS9 = some ce.cls := hcl
    refine vx_catch (name := eS9) (E := eS9) hown [] (⟨0, 8, 11, 15⟩ : ExceptionTableEntry) [] (by rw [htab]; rfl) (fun z hz => absurd hz List.not_mem_nil) (by decide) (by decide) (hts _ q681) (va_Nw.use rfl (hKB.nest q577 rfl)) hce hcv hcl9 ?_
    refine W.eq (g2 := F0 m 11 ls [.ref q9]) rfl ?_
    refine lv_astore_n (lv' := [(2, .ref q9), (0, .ref d), (1, .ref o)]) hx hb dX0_undo_11 rfl hl (by decide) rfl (fun ls hl => ?_)
    refine lv_iconst (v := nI 1) hx hb dX0_undo_12 (by decide) ?_
    refine vx_ret ?_
    have hpm_3764 : (([(o, .inl (G.2 5, 1, .inr (.inl of)))] ++ (W ++ [])) : va_W).Perm (([(o, .inl (G.2 5, 1, .inr (.inl of)))] ++ (W ++ [])) ++ []) := segs_perm [[(o, .inl (G.2 5, 1, .inr (.inl of)))], W] [0, 1] [] rfl
    have hP9 : va_P G.1 CL ([(o, .inl (G.2 5, 1, .inr (.inl of)))] ++ (W ++ [])) H := P_left (P_perm hpm_3764 hP)
    have hD9 : va_D A ([(o, .inl (G.2 5, 1, .inr (.inl of)))] ++ (W ++ [])) := D_left (D_perm hpm_3764 hD)
    exact end_i hx hb hr hlk (rfl) (qc_of (of, 1, W) (v := some (.int (nI 1))) (by rfl) (⟨fun e9 => absurd e9 (by omega), fun _ => ⟨rfl, h⟩⟩) hP9 hD9 (trivial) hS) hS dX0_undo_13 (show 0 + 2 ≤ 2 from by first | exact Nat.le_refl _ | decide | omega) (show 0 + 8 ≤ 8 from by first | exact Nat.le_refl _ | decide | omega)
  · obtain ⟨W2_3761, rfl⟩ : ∃ z, z = u_ := ⟨_, rfl⟩
    obtain ⟨hq_3765, hq_3766⟩ : 1 ≤ dK S ∧ DyW G d ((dH S (dK S - 1), dS S, dK S - 1, dH S, dL S, dN S) : DS) W2_3761 := hq
    have hpm_3767 : ([(o, .inl (G.2 5, 1, .inr (.inl of)))] ++ (W2_3761 ++ []) : va_W).Perm ([(o, .inl (G.2 5, 1, .inr (.inl of)))] ++ (W2_3761 ++ [])) := segs_perm2 [[(o, .inl (G.2 5, 1, .inr (.inl of)))]] [W2_3761] [0, 1] rfl
    have hP : va_P G.1 CL ([(o, .inl (G.2 5, 1, .inr (.inl of)))] ++ (W2_3761 ++ [])) H := P_perm hpm_3767 hP
    have hD : va_D A ([(o, .inl (G.2 5, 1, .inr (.inl of)))] ++ (W2_3761 ++ [])) := D_perm hpm_3767 hD
    refine W.eq (g2 := F0 m 6 ls [.int (nI (dK S - 1)), .int (nI 0), .ref o]) rfl ?_
    refine lv_i2l (v := (nI (dK S - 1)).toInt64) hx hb dX0_undo_6 rfl ?_
    refine r_last hx hb hK hP hD hS 0 5 rfl rfl (i := 0) (by omega) (by omega) dX0_undo_7 (fun H locs (hP : va_P G.1 CL ([(o, .inl (G.2 5, 1, .inr (.inl (vp_updL of 0 ((nI (dK S - 1)).toInt64)))))] ++ (W2_3761 ++ [])) H) (hD : va_D A ([(o, .inl (G.2 5, 1, .inr (.inl (vp_updL of 0 ((nI (dK S - 1)).toInt64)))))] ++ (W2_3761 ++ []))) hS => ?_)
    refine lv_goto (tgt := 14) hx hb dX0_undo_8 (by decide) ?_
    refine lv_iconst (v := nI 0) hx hb dX0_undo_14 (by decide) ?_
    refine vx_ret ?_
    have hpm_3768 : (([(o, .inl (G.2 5, 1, .inr (.inl (vp_updL of 0 ((nI (dK S - 1)).toInt64)))))] ++ (W2_3761 ++ [])) : va_W).Perm (([(o, .inl (G.2 5, 1, .inr (.inl (vp_updL of 0 ((nI (dK S - 1)).toInt64)))))] ++ (W2_3761 ++ [])) ++ []) := segs_perm [[(o, .inl (G.2 5, 1, .inr (.inl (vp_updL of 0 ((nI (dK S - 1)).toInt64)))))], W2_3761] [0, 1] [] rfl
    have hP9 : va_P G.1 CL ([(o, .inl (G.2 5, 1, .inr (.inl (vp_updL of 0 ((nI (dK S - 1)).toInt64)))))] ++ (W2_3761 ++ [])) H := P_left (P_perm hpm_3768 hP)
    have hD9 : va_D A ([(o, .inl (G.2 5, 1, .inr (.inl (vp_updL of 0 ((nI (dK S - 1)).toInt64)))))] ++ (W2_3761 ++ [])) := D_left (D_perm hpm_3768 hD)
    exact end_i hx hb hr hlk (rfl) (qc_of (vp_updL of 0 ((nI (dK S - 1)).toInt64), 0, W2_3761) (v := some (.int (nI 0))) (by rfl) (⟨fun _ => ⟨rfl, pk_uLs, hq_3766⟩, fun e9 => absurd e9 (by omega)⟩) hP9 hD9 (trivial) hS) hS dX0_undo_15 (show 0 + 2 ≤ 2 from by first | exact Nat.le_refl _ | decide | omega) (show 0 + 8 ≤ 8 from by first | exact Nat.le_refl _ | decide | omega)

set_option maxHeartbeats 4000000 in
theorem wX0_restore (l : Launch) (G : Gt) (d : Nat) (S : DS) (W : va_W) (o : Nat) (of : Nat → Int64) (h : DyW G d S W) (hfl : l.stackTraces = false) : CTW l G yX0_restore cX0_restore 3 (some .int) [(0, 8, 11, 15)] ({ frames := 10, cells := 103, slots := 5800, locals := 230 } : Room) [.ref d, .ref o] ([(o, .inl (G.2 5, 1, .inr (.inl of)))] ++ (W ++ [])) RH0 (S := (Nat → Int64) × Nat × va_W) (fun (u_ : (Nat → Int64) × Nat × va_W) => some (.int (nI u_.2.1))) (fun (u_ : (Nat → Int64) × Nat × va_W) => (∀ P, dS S = some P → u_.2.1 = 0 ∧ u_.1 0 = (nI (sN P)).toInt64 ∧ DyW G d ((P, dS S, 0, dH S, dL S, dN S) : DS) u_.2.2) ∧ (dS S = none → u_.2.1 = 1 ∧ DyW G d S u_.2.2)) (fun (u_ : (Nat → Int64) × Nat × va_W) => ([(o, .inl (G.2 5, 1, .inr (.inl u_.1)))] ++ (u_.2.2 ++ []))) (fun (u_ : (Nat → Int64) × Nat × va_W) (H : Heap) => True) := by
  refine CTW.of (by decide) (Nat.le_of_ble_eq_true rfl) ?_
  intro p e s m below meth c ls A H locs h9 hH0 hP hS hNc htab
  obtain ⟨cf, hr, hlk, hnm, hKB, hE, -, hD, -, hA, hAw, hRH, hl⟩ := h9
  have hx := cf.1
  have hb := cf.2.1
  have hml := cf.2.2.1
  have hown : s.vm.findClass RX0 = some m.cls := cf.2.2.2.1
  have hts := cf.2.2.2.2
  have hK := hKB.1
  have hl : lv_has ls 3 [(0, .ref d), (1, .ref o)] := hl
  refine lv_aload_n hx hb dX0_restore_0 rfl (lv_at hl 1 rfl) ?_
  refine lv_iconst (v := nI 0) hx hb dX0_restore_1 (by decide) ?_
  refine lv_aload_n hx hb dX0_restore_2 rfl (lv_at hl 0 rfl) ?_
  have hpm_3769 : (([(o, .inl (G.2 5, 1, .inr (.inl of)))] ++ (W ++ [])) : va_W).Perm ((W ++ []) ++ [(o, .inl (G.2 5, 1, .inr (.inl of)))]) := segs_perm [[(o, .inl (G.2 5, 1, .inr (.inl of)))], W] [1] [0] rfl
  have hF := hF_ofP (wc := (W ++ [])) hD hS hA hpm_3769
  refine go_cxP hS hP hD hpm_3769 hF
      (vx_runV (As := []) (rest := [.int (nI 0), .ref o]) cf (dX1_restore l G d S W (show DyW G d S W from by first | assumption | omega) hfl H.size) (cwV 0 hts (lw_V q1577 q1578 q1579 q47 q1580) rfl rfl rfl (by decide +kernel) ⟨Nat.le_of_ble_eq_true rfl, Nat.le_of_ble_eq_true rfl⟩) (preV_of hKB hE hS hF (DyW.recv hK h (seg_at [[(o, .inl (G.2 5, 1, .inr (.inl of)))], W] 1 rfl hP)) (P_left (P_perm hpm_3769 hP)) ((D_left (D_perm hpm_3769 hD)).weaken (fun _ _ _ _ => trivial)) trivial) rfl rfl hl.1 rfl (lv_room (Nat.le_of_ble_eq_true rfl)) dX0_restore_3 ⟨show 0 + 103 ≤ 103 from by first | decide | omega, show 0 + 5800 ≤ 5800 from by first | decide | omega⟩)
      (fun u_ H locs ce q9 hq hph (hP : va_P G.1 CL ([(o, .inl (G.2 5, 1, .inr (.inl of)))] ++ (W ++ [])) H) (hD : va_D A ([(o, .inl (G.2 5, 1, .inr (.inl of)))] ++ (W ++ []))) hS hfz hfk hce hcv hcl => ?_) (fun u_ H locs hq hph (hP : va_P G.1 CL ([(o, .inl (G.2 5, 1, .inr (.inl of)))] ++ (u_.2 ++ [])) H) (hD : va_D A ([(o, .inl (G.2 5, 1, .inr (.inl of)))] ++ (u_.2 ++ []))) hS hfz hfk => ?_)
  · have hq_3772 : dS S = none := hq
    have hpm_3773 : ([(o, .inl (G.2 5, 1, .inr (.inl of)))] ++ (W ++ []) : va_W).Perm ([(o, .inl (G.2 5, 1, .inr (.inl of)))] ++ (W ++ [])) := segs_perm2 [[(o, .inl (G.2 5, 1, .inr (.inl of)))]] [W] [0, 1] rfl
    have hP : va_P G.1 CL ([(o, .inl (G.2 5, 1, .inr (.inl of)))] ++ (W ++ [])) H := P_perm hpm_3773 hP
    have hD : va_D A ([(o, .inl (G.2 5, 1, .inr (.inl of)))] ++ (W ++ [])) := D_perm hpm_3773 hD
    have hcl9 : s.vm.findClass eS9 = some ce.cls := hcl
    refine vx_catch (name := eS9) (E := eS9) hown [] (⟨0, 8, 11, 15⟩ : ExceptionTableEntry) [] (by rw [htab]; rfl) (fun z hz => absurd hz List.not_mem_nil) (by decide) (by decide) (hts _ q681) (va_Nw.use rfl (hKB.nest q577 rfl)) hce hcv hcl9 ?_
    refine W.eq (g2 := F0 m 11 ls [.ref q9]) rfl ?_
    refine lv_astore_n (lv' := [(2, .ref q9), (0, .ref d), (1, .ref o)]) hx hb dX0_restore_11 rfl hl (by decide) rfl (fun ls hl => ?_)
    refine lv_iconst (v := nI 1) hx hb dX0_restore_12 (by decide) ?_
    refine vx_ret ?_
    have hpm_3774 : (([(o, .inl (G.2 5, 1, .inr (.inl of)))] ++ (W ++ [])) : va_W).Perm (([(o, .inl (G.2 5, 1, .inr (.inl of)))] ++ (W ++ [])) ++ []) := segs_perm [[(o, .inl (G.2 5, 1, .inr (.inl of)))], W] [0, 1] [] rfl
    have hP9 : va_P G.1 CL ([(o, .inl (G.2 5, 1, .inr (.inl of)))] ++ (W ++ [])) H := P_left (P_perm hpm_3774 hP)
    have hD9 : va_D A ([(o, .inl (G.2 5, 1, .inr (.inl of)))] ++ (W ++ [])) := D_left (D_perm hpm_3774 hD)
    exact end_i hx hb hr hlk (rfl) (qc_of (of, 1, W) (v := some (.int (nI 1))) (by rfl) (⟨fun P e9 => by rw [hq_3772] at e9; exact nomatch e9, fun _ => ⟨rfl, h⟩⟩) hP9 hD9 (trivial) hS) hS dX0_restore_13 (show 0 + 103 ≤ 103 from by first | exact Nat.le_refl _ | decide | omega) (show 0 + 5800 ≤ 5800 from by first | exact Nat.le_refl _ | decide | omega)
  · obtain ⟨rr_3770, W2_3771⟩ := u_
    have hq_3775 : ∃ P, dS S = some P ∧ rr_3770 = nI (sN P) ∧ DyW G d ((P, dS S, 0, dH S, dL S, dN S) : DS) W2_3771 := hq
    have hpm_3776 : ([(o, .inl (G.2 5, 1, .inr (.inl of)))] ++ (W2_3771 ++ []) : va_W).Perm ([(o, .inl (G.2 5, 1, .inr (.inl of)))] ++ (W2_3771 ++ [])) := segs_perm2 [[(o, .inl (G.2 5, 1, .inr (.inl of)))]] [W2_3771] [0, 1] rfl
    have hP : va_P G.1 CL ([(o, .inl (G.2 5, 1, .inr (.inl of)))] ++ (W2_3771 ++ [])) H := P_perm hpm_3776 hP
    have hD : va_D A ([(o, .inl (G.2 5, 1, .inr (.inl of)))] ++ (W2_3771 ++ [])) := D_perm hpm_3776 hD
    refine W.eq (g2 := F0 m 6 ls [.int rr_3770, .int (nI 0), .ref o]) rfl ?_
    refine lv_i2l (v := (rr_3770).toInt64) hx hb dX0_restore_6 rfl ?_
    refine r_last hx hb hK hP hD hS 0 5 rfl rfl (i := 0) (by omega) (by omega) dX0_restore_7 (fun H locs (hP : va_P G.1 CL ([(o, .inl (G.2 5, 1, .inr (.inl (vp_updL of 0 ((rr_3770).toInt64)))))] ++ (W2_3771 ++ [])) H) (hD : va_D A ([(o, .inl (G.2 5, 1, .inr (.inl (vp_updL of 0 ((rr_3770).toInt64)))))] ++ (W2_3771 ++ []))) hS => ?_)
    refine lv_goto (tgt := 14) hx hb dX0_restore_8 (by decide) ?_
    refine lv_iconst (v := nI 0) hx hb dX0_restore_14 (by decide) ?_
    refine vx_ret ?_
    have hpm_3777 : (([(o, .inl (G.2 5, 1, .inr (.inl (vp_updL of 0 ((rr_3770).toInt64)))))] ++ (W2_3771 ++ [])) : va_W).Perm (([(o, .inl (G.2 5, 1, .inr (.inl (vp_updL of 0 ((rr_3770).toInt64)))))] ++ (W2_3771 ++ [])) ++ []) := segs_perm [[(o, .inl (G.2 5, 1, .inr (.inl (vp_updL of 0 ((rr_3770).toInt64)))))], W2_3771] [0, 1] [] rfl
    have hP9 : va_P G.1 CL ([(o, .inl (G.2 5, 1, .inr (.inl (vp_updL of 0 ((rr_3770).toInt64)))))] ++ (W2_3771 ++ [])) H := P_left (P_perm hpm_3777 hP)
    have hD9 : va_D A ([(o, .inl (G.2 5, 1, .inr (.inl (vp_updL of 0 ((rr_3770).toInt64)))))] ++ (W2_3771 ++ [])) := D_left (D_perm hpm_3777 hD)
    exact end_i hx hb hr hlk (rfl) (qc_of (vp_updL of 0 ((rr_3770).toInt64), 0, W2_3771) (v := some (.int (nI 0))) (by rfl) (by obtain ⟨P9, e8, e7, w9⟩ := hq_3775; exact ⟨fun P e9 => by cases e8.symm.trans e9; exact ⟨rfl, by rw [← e7]; exact pk_uLs, w9⟩, fun e9 => by rw [e9] at e8; exact nomatch e8⟩) hP9 hD9 (trivial) hS) hS dX0_restore_15 (show 0 + 103 ≤ 103 from by first | exact Nat.le_refl _ | decide | omega) (show 0 + 5800 ≤ 5800 from by first | exact Nat.le_refl _ | decide | omega)
