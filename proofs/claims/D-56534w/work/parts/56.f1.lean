/-! the law: its wrappers -/
set_option maxRecDepth 100000
set_option maxHeartbeats 4000000 in
theorem wX0_thresholdOn (l : Launch) (G : Gt) (d : Nat) (S : DS) (WA : va_W) (o : Nat) (of : Nat → Int64) (v : Int32) (h : DyW G d S WA) (hfl : l.stackTraces = false) : CTW l G yX0_thresholdOn cX0_thresholdOn 4 (some .int) [(0, 9, 12, 13)] ({ frames := 9, cells := 2, slots := 8, locals := 184 } : Room) [.ref d, .int v, .ref o] ([(o, .inl (G.2 5, 1, .inr (.inl of)))] ++ (WA ++ [])) RH0 (S := (Nat → Int64) × va_W) (fun (u_ : (Nat → Int64) × va_W) => some (.int (nI ((q_thr (dC S) v).1)))) (fun (u_ : (Nat → Int64) × va_W) => ((q_thr (dC S) v).1 = 0 → u_.1 0 = ((q_thr (dC S) v).2).toInt64) ∧ (q_thr (dC S) v).1 < 10 ∧ DyW G d S u_.2) (fun (u_ : (Nat → Int64) × va_W) => ([(o, .inl (G.2 5, 1, .inr (.inl u_.1)))] ++ (u_.2 ++ []))) (fun (u_ : (Nat → Int64) × va_W) (H : Heap) => True) := by
  refine CTW.of (by decide) (Nat.le_of_ble_eq_true rfl) ?_
  intro p e s m below meth c ls A H locs h9 hH0 hP hS hNc htab
  obtain ⟨cf, hr, hlk, hnm, hKB, hE, -, hD, -, hA, hAw, hRH, hl⟩ := h9
  have hx := cf.1
  have hb := cf.2.1
  have hml := cf.2.2.1
  have hown : s.vm.findClass RX0 = some m.cls := cf.2.2.2.1
  have hts := cf.2.2.2.2
  have hK := hKB.1
  have hl : lv_has ls 4 [(0, .ref d), (1, .int v), (2, .ref o)] := hl
  refine lv_aload_n hx hb dX0_thresholdOn_0 rfl (lv_at hl 2 rfl) ?_
  refine lv_iconst (v := nI 0) hx hb dX0_thresholdOn_1 (by decide) ?_
  refine lv_aload_n hx hb dX0_thresholdOn_2 rfl (lv_at hl 0 rfl) ?_
  refine lv_iload_n hx hb dX0_thresholdOn_3 rfl (lv_at hl 1 rfl) ?_
  have hpm_3195 : (([(o, .inl (G.2 5, 1, .inr (.inl of)))] ++ (WA ++ [])) : va_W).Perm ((WA ++ []) ++ [(o, .inl (G.2 5, 1, .inr (.inl of)))]) := segs_perm [[(o, .inl (G.2 5, 1, .inr (.inl of)))], WA] [1] [0] rfl
  have hF := hF_ofP (wc := (WA ++ [])) hD hS hA hpm_3195
  refine go_cxP hS hP hD hpm_3195 hF
      (vx_runV (As := [.int v]) (rest := [.int (nI 0), .ref o]) cf (dX1_thresholdOn l G d S WA v (show DyW G d S WA from by first | assumption | omega) hfl H.size) (cwV 1 hts (lw_V q1038 q1039 q1040 q47 q1041) rfl rfl rfl (by decide +kernel) ⟨Nat.le_of_ble_eq_true rfl, Nat.le_of_ble_eq_true rfl⟩) (preV_of hKB hE hS hF (DyW.recv hK h (seg_at [[(o, .inl (G.2 5, 1, .inr (.inl of)))], WA] 1 rfl hP)) (P_left (P_perm hpm_3195 hP)) ((D_left (D_perm hpm_3195 hD)).weaken (fun _ _ _ _ => trivial)) trivial) rfl rfl hl.1 rfl (lv_room (Nat.le_of_ble_eq_true rfl)) dX0_thresholdOn_4 ⟨show 0 + 2 ≤ 2 from by first | decide | omega, show 0 + 8 ≤ 8 from by first | decide | omega⟩)
      (fun u_ H locs ce q9 hq hph (hP : va_P G.1 CL ([(o, .inl (G.2 5, 1, .inr (.inl of)))] ++ (u_.2 ++ [])) H) (hD : va_D A ([(o, .inl (G.2 5, 1, .inr (.inl of)))] ++ (u_.2 ++ []))) hS hfz hfk hce hcv hcl => ?_) (fun u_ H locs hq hph (hP : va_P G.1 CL ([(o, .inl (G.2 5, 1, .inr (.inl of)))] ++ (u_.2 ++ [])) H) (hD : va_D A ([(o, .inl (G.2 5, 1, .inr (.inl of)))] ++ (u_.2 ++ []))) hS hfz hfk => ?_)
  · obtain ⟨kx_3198, W2_3199⟩ := u_
    obtain ⟨hq_3200, hq_3201, hq_3202⟩ : (q_thr (dC S) v).1 = kx_3198 ∧ DyW G d S W2_3199 ∧ 1 ≤ kx_3198 ∧ kx_3198 ≤ 1 := hq
    have hpm_3203 : ([(o, .inl (G.2 5, 1, .inr (.inl of)))] ++ (W2_3199 ++ []) : va_W).Perm ([(o, .inl (G.2 5, 1, .inr (.inl of)))] ++ (W2_3199 ++ [])) := segs_perm2 [[(o, .inl (G.2 5, 1, .inr (.inl of)))]] [W2_3199] [0, 1] rfl
    have hP : va_P G.1 CL ([(o, .inl (G.2 5, 1, .inr (.inl of)))] ++ (W2_3199 ++ [])) H := P_perm hpm_3203 hP
    have hD : va_D A ([(o, .inl (G.2 5, 1, .inr (.inl of)))] ++ (W2_3199 ++ [])) := D_perm hpm_3203 hD
    obtain rfl : kx_3198 = 1 := by omega
    have hcl9 : s.vm.findClass eA = some ce.cls := hcl
    refine vx_catch (name := eA) (E := eA) hown [] (⟨0, 9, 12, 13⟩ : ExceptionTableEntry) [] (by rw [htab]; rfl) (fun z hz => absurd hz List.not_mem_nil) (by decide) (by decide) (hts _ q680) (va_Nw.use rfl (hKB.nest q698 rfl)) hce hcv hcl9 ?_
    refine W.eq (g2 := F0 m 12 ls [.ref q9]) rfl ?_
    refine lv_astore_n (lv' := [(3, .ref q9), (0, .ref d), (1, .int v), (2, .ref o)]) hx hb dX0_thresholdOn_12 rfl hl (by decide) rfl (fun ls hl => ?_)
    refine lv_iconst (v := nI 1) hx hb dX0_thresholdOn_13 (by decide) ?_
    refine vx_ret ?_
    have hpm_3204 : (([(o, .inl (G.2 5, 1, .inr (.inl of)))] ++ (W2_3199 ++ [])) : va_W).Perm (([(o, .inl (G.2 5, 1, .inr (.inl of)))] ++ (W2_3199 ++ [])) ++ []) := segs_perm [[(o, .inl (G.2 5, 1, .inr (.inl of)))], W2_3199] [0, 1] [] rfl
    have hP9 : va_P G.1 CL ([(o, .inl (G.2 5, 1, .inr (.inl of)))] ++ (W2_3199 ++ [])) H := P_left (P_perm hpm_3204 hP)
    have hD9 : va_D A ([(o, .inl (G.2 5, 1, .inr (.inl of)))] ++ (W2_3199 ++ [])) := D_left (D_perm hpm_3204 hD)
    exact end_i hx hb hr hlk (rfl) (qc_of (of, W2_3199) (v := some (.int (nI 1))) (by rw [hq_3200]) (⟨fun z9 => absurd (hq_3200.symm.trans z9) (by decide), by rw [hq_3200]; decide, hq_3201⟩) hP9 hD9 (trivial) hS) hS dX0_thresholdOn_14 (show 0 + 2 ≤ 2 from by first | exact Nat.le_refl _ | decide | omega) (show 0 + 8 ≤ 8 from by first | exact Nat.le_refl _ | decide | omega)
  · obtain ⟨rr_3196, W2_3197⟩ := u_
    obtain ⟨hq_3205, hq_3206⟩ : q_thr (dC S) v = (0, rr_3196) ∧ DyW G d S W2_3197 := hq
    have hpm_3207 : ([(o, .inl (G.2 5, 1, .inr (.inl of)))] ++ (W2_3197 ++ []) : va_W).Perm ([(o, .inl (G.2 5, 1, .inr (.inl of)))] ++ (W2_3197 ++ [])) := segs_perm2 [[(o, .inl (G.2 5, 1, .inr (.inl of)))]] [W2_3197] [0, 1] rfl
    have hP : va_P G.1 CL ([(o, .inl (G.2 5, 1, .inr (.inl of)))] ++ (W2_3197 ++ [])) H := P_perm hpm_3207 hP
    have hD : va_D A ([(o, .inl (G.2 5, 1, .inr (.inl of)))] ++ (W2_3197 ++ [])) := D_perm hpm_3207 hD
    refine W.eq (g2 := F0 m 7 ls [.int rr_3196, .int (nI 0), .ref o]) rfl ?_
    refine lv_i2l (v := (rr_3196).toInt64) hx hb dX0_thresholdOn_7 rfl ?_
    refine r_last hx hb hK hP hD hS 0 5 rfl rfl (i := 0) (by omega) (by omega) dX0_thresholdOn_8 (fun H locs (hP : va_P G.1 CL ([(o, .inl (G.2 5, 1, .inr (.inl (vp_updL of 0 ((rr_3196).toInt64)))))] ++ (W2_3197 ++ [])) H) (hD : va_D A ([(o, .inl (G.2 5, 1, .inr (.inl (vp_updL of 0 ((rr_3196).toInt64)))))] ++ (W2_3197 ++ []))) hS => ?_)
    refine lv_goto (tgt := 15) hx hb dX0_thresholdOn_9 (by decide) ?_
    refine lv_iconst (v := nI 0) hx hb dX0_thresholdOn_15 (by decide) ?_
    refine vx_ret ?_
    have hpm_3208 : (([(o, .inl (G.2 5, 1, .inr (.inl (vp_updL of 0 ((rr_3196).toInt64)))))] ++ (W2_3197 ++ [])) : va_W).Perm (([(o, .inl (G.2 5, 1, .inr (.inl (vp_updL of 0 ((rr_3196).toInt64)))))] ++ (W2_3197 ++ [])) ++ []) := segs_perm [[(o, .inl (G.2 5, 1, .inr (.inl (vp_updL of 0 ((rr_3196).toInt64)))))], W2_3197] [0, 1] [] rfl
    have hP9 : va_P G.1 CL ([(o, .inl (G.2 5, 1, .inr (.inl (vp_updL of 0 ((rr_3196).toInt64)))))] ++ (W2_3197 ++ [])) H := P_left (P_perm hpm_3208 hP)
    have hD9 : va_D A ([(o, .inl (G.2 5, 1, .inr (.inl (vp_updL of 0 ((rr_3196).toInt64)))))] ++ (W2_3197 ++ [])) := D_left (D_perm hpm_3208 hD)
    exact end_i hx hb hr hlk (rfl) (qc_of (vp_updL of 0 ((rr_3196).toInt64), W2_3197) (v := some (.int (nI 0))) (by rw [hq_3205]) (⟨fun _ => by rw [hq_3205]; exact pk_uLs, by rw [hq_3205]; exact (by decide : (0 : Nat) < 10), hq_3206⟩) hP9 hD9 (trivial) hS) hS dX0_thresholdOn_16 (show 0 + 2 ≤ 2 from by first | exact Nat.le_refl _ | decide | omega) (show 0 + 8 ≤ 8 from by first | exact Nat.le_refl _ | decide | omega)

set_option maxHeartbeats 4000000 in
theorem wX0_boundOf (l : Launch) (G : Gt) (d : Nat) (S : DS) (WA : va_W) (o : Nat) (of : Nat → Int64) (v : Int32) (h : DyW G d S WA) (hfl : l.stackTraces = false) : CTW l G yX0_boundOf cX0_boundOf 4 (some .int) [(0, 9, 12, 13)] ({ frames := 8, cells := 2, slots := 8, locals := 123 } : Room) [.ref d, .int v, .ref o] ([(o, .inl (G.2 5, 1, .inr (.inl of)))] ++ (WA ++ [])) RH0 (S := (Nat → Int64) × va_W) (fun (u_ : (Nat → Int64) × va_W) => some (.int (nI ((q_bound (dC S) v).1)))) (fun (u_ : (Nat → Int64) × va_W) => ((q_bound (dC S) v).1 = 0 → u_.1 0 = ((q_bound (dC S) v).2).toInt64) ∧ (q_bound (dC S) v).1 < 10 ∧ DyW G d S u_.2) (fun (u_ : (Nat → Int64) × va_W) => ([(o, .inl (G.2 5, 1, .inr (.inl u_.1)))] ++ (u_.2 ++ []))) (fun (u_ : (Nat → Int64) × va_W) (H : Heap) => True) := by
  refine CTW.of (by decide) (Nat.le_of_ble_eq_true rfl) ?_
  intro p e s m below meth c ls A H locs h9 hH0 hP hS hNc htab
  obtain ⟨cf, hr, hlk, hnm, hKB, hE, -, hD, -, hA, hAw, hRH, hl⟩ := h9
  have hx := cf.1
  have hb := cf.2.1
  have hml := cf.2.2.1
  have hown : s.vm.findClass RX0 = some m.cls := cf.2.2.2.1
  have hts := cf.2.2.2.2
  have hK := hKB.1
  have hl : lv_has ls 4 [(0, .ref d), (1, .int v), (2, .ref o)] := hl
  refine lv_aload_n hx hb dX0_boundOf_0 rfl (lv_at hl 2 rfl) ?_
  refine lv_iconst (v := nI 0) hx hb dX0_boundOf_1 (by decide) ?_
  refine lv_aload_n hx hb dX0_boundOf_2 rfl (lv_at hl 0 rfl) ?_
  refine lv_iload_n hx hb dX0_boundOf_3 rfl (lv_at hl 1 rfl) ?_
  have hpm_3209 : (([(o, .inl (G.2 5, 1, .inr (.inl of)))] ++ (WA ++ [])) : va_W).Perm ((WA ++ []) ++ [(o, .inl (G.2 5, 1, .inr (.inl of)))]) := segs_perm [[(o, .inl (G.2 5, 1, .inr (.inl of)))], WA] [1] [0] rfl
  have hF := hF_ofP (wc := (WA ++ [])) hD hS hA hpm_3209
  refine go_cxP hS hP hD hpm_3209 hF
      (vx_runV (As := [.int v]) (rest := [.int (nI 0), .ref o]) cf (dX1_boundOf l G d S WA v (show DyW G d S WA from by first | assumption | omega) hfl H.size) (cwV 1 hts (lw_V q1059 q1060 q1061 q47 q1062) rfl rfl rfl (by decide +kernel) ⟨Nat.le_of_ble_eq_true rfl, Nat.le_of_ble_eq_true rfl⟩) (preV_of hKB hE hS hF (DyW.recv hK h (seg_at [[(o, .inl (G.2 5, 1, .inr (.inl of)))], WA] 1 rfl hP)) (P_left (P_perm hpm_3209 hP)) ((D_left (D_perm hpm_3209 hD)).weaken (fun _ _ _ _ => trivial)) trivial) rfl rfl hl.1 rfl (lv_room (Nat.le_of_ble_eq_true rfl)) dX0_boundOf_4 ⟨show 0 + 2 ≤ 2 from by first | decide | omega, show 0 + 8 ≤ 8 from by first | decide | omega⟩)
      (fun u_ H locs ce q9 hq hph (hP : va_P G.1 CL ([(o, .inl (G.2 5, 1, .inr (.inl of)))] ++ (u_.2 ++ [])) H) (hD : va_D A ([(o, .inl (G.2 5, 1, .inr (.inl of)))] ++ (u_.2 ++ []))) hS hfz hfk hce hcv hcl => ?_) (fun u_ H locs hq hph (hP : va_P G.1 CL ([(o, .inl (G.2 5, 1, .inr (.inl of)))] ++ (u_.2 ++ [])) H) (hD : va_D A ([(o, .inl (G.2 5, 1, .inr (.inl of)))] ++ (u_.2 ++ []))) hS hfz hfk => ?_)
  · obtain ⟨kx_3212, W2_3213⟩ := u_
    obtain ⟨hq_3214, hq_3215, hq_3216⟩ : (q_bound (dC S) v).1 = kx_3212 ∧ DyW G d S W2_3213 ∧ 1 ≤ kx_3212 ∧ kx_3212 ≤ 1 := hq
    have hpm_3217 : ([(o, .inl (G.2 5, 1, .inr (.inl of)))] ++ (W2_3213 ++ []) : va_W).Perm ([(o, .inl (G.2 5, 1, .inr (.inl of)))] ++ (W2_3213 ++ [])) := segs_perm2 [[(o, .inl (G.2 5, 1, .inr (.inl of)))]] [W2_3213] [0, 1] rfl
    have hP : va_P G.1 CL ([(o, .inl (G.2 5, 1, .inr (.inl of)))] ++ (W2_3213 ++ [])) H := P_perm hpm_3217 hP
    have hD : va_D A ([(o, .inl (G.2 5, 1, .inr (.inl of)))] ++ (W2_3213 ++ [])) := D_perm hpm_3217 hD
    obtain rfl : kx_3212 = 1 := by omega
    have hcl9 : s.vm.findClass eA = some ce.cls := hcl
    refine vx_catch (name := eA) (E := eA) hown [] (⟨0, 9, 12, 13⟩ : ExceptionTableEntry) [] (by rw [htab]; rfl) (fun z hz => absurd hz List.not_mem_nil) (by decide) (by decide) (hts _ q680) (va_Nw.use rfl (hKB.nest q698 rfl)) hce hcv hcl9 ?_
    refine W.eq (g2 := F0 m 12 ls [.ref q9]) rfl ?_
    refine lv_astore_n (lv' := [(3, .ref q9), (0, .ref d), (1, .int v), (2, .ref o)]) hx hb dX0_boundOf_12 rfl hl (by decide) rfl (fun ls hl => ?_)
    refine lv_iconst (v := nI 1) hx hb dX0_boundOf_13 (by decide) ?_
    refine vx_ret ?_
    have hpm_3218 : (([(o, .inl (G.2 5, 1, .inr (.inl of)))] ++ (W2_3213 ++ [])) : va_W).Perm (([(o, .inl (G.2 5, 1, .inr (.inl of)))] ++ (W2_3213 ++ [])) ++ []) := segs_perm [[(o, .inl (G.2 5, 1, .inr (.inl of)))], W2_3213] [0, 1] [] rfl
    have hP9 : va_P G.1 CL ([(o, .inl (G.2 5, 1, .inr (.inl of)))] ++ (W2_3213 ++ [])) H := P_left (P_perm hpm_3218 hP)
    have hD9 : va_D A ([(o, .inl (G.2 5, 1, .inr (.inl of)))] ++ (W2_3213 ++ [])) := D_left (D_perm hpm_3218 hD)
    exact end_i hx hb hr hlk (rfl) (qc_of (of, W2_3213) (v := some (.int (nI 1))) (by rw [hq_3214]) (⟨fun z9 => absurd (hq_3214.symm.trans z9) (by decide), by rw [hq_3214]; decide, hq_3215⟩) hP9 hD9 (trivial) hS) hS dX0_boundOf_14 (show 0 + 2 ≤ 2 from by first | exact Nat.le_refl _ | decide | omega) (show 0 + 8 ≤ 8 from by first | exact Nat.le_refl _ | decide | omega)
  · obtain ⟨rr_3210, W2_3211⟩ := u_
    obtain ⟨hq_3219, hq_3220⟩ : q_bound (dC S) v = (0, rr_3210) ∧ DyW G d S W2_3211 := hq
    have hpm_3221 : ([(o, .inl (G.2 5, 1, .inr (.inl of)))] ++ (W2_3211 ++ []) : va_W).Perm ([(o, .inl (G.2 5, 1, .inr (.inl of)))] ++ (W2_3211 ++ [])) := segs_perm2 [[(o, .inl (G.2 5, 1, .inr (.inl of)))]] [W2_3211] [0, 1] rfl
    have hP : va_P G.1 CL ([(o, .inl (G.2 5, 1, .inr (.inl of)))] ++ (W2_3211 ++ [])) H := P_perm hpm_3221 hP
    have hD : va_D A ([(o, .inl (G.2 5, 1, .inr (.inl of)))] ++ (W2_3211 ++ [])) := D_perm hpm_3221 hD
    refine W.eq (g2 := F0 m 7 ls [.int rr_3210, .int (nI 0), .ref o]) rfl ?_
    refine lv_i2l (v := (rr_3210).toInt64) hx hb dX0_boundOf_7 rfl ?_
    refine r_last hx hb hK hP hD hS 0 5 rfl rfl (i := 0) (by omega) (by omega) dX0_boundOf_8 (fun H locs (hP : va_P G.1 CL ([(o, .inl (G.2 5, 1, .inr (.inl (vp_updL of 0 ((rr_3210).toInt64)))))] ++ (W2_3211 ++ [])) H) (hD : va_D A ([(o, .inl (G.2 5, 1, .inr (.inl (vp_updL of 0 ((rr_3210).toInt64)))))] ++ (W2_3211 ++ []))) hS => ?_)
    refine lv_goto (tgt := 15) hx hb dX0_boundOf_9 (by decide) ?_
    refine lv_iconst (v := nI 0) hx hb dX0_boundOf_15 (by decide) ?_
    refine vx_ret ?_
    have hpm_3222 : (([(o, .inl (G.2 5, 1, .inr (.inl (vp_updL of 0 ((rr_3210).toInt64)))))] ++ (W2_3211 ++ [])) : va_W).Perm (([(o, .inl (G.2 5, 1, .inr (.inl (vp_updL of 0 ((rr_3210).toInt64)))))] ++ (W2_3211 ++ [])) ++ []) := segs_perm [[(o, .inl (G.2 5, 1, .inr (.inl (vp_updL of 0 ((rr_3210).toInt64)))))], W2_3211] [0, 1] [] rfl
    have hP9 : va_P G.1 CL ([(o, .inl (G.2 5, 1, .inr (.inl (vp_updL of 0 ((rr_3210).toInt64)))))] ++ (W2_3211 ++ [])) H := P_left (P_perm hpm_3222 hP)
    have hD9 : va_D A ([(o, .inl (G.2 5, 1, .inr (.inl (vp_updL of 0 ((rr_3210).toInt64)))))] ++ (W2_3211 ++ [])) := D_left (D_perm hpm_3222 hD)
    exact end_i hx hb hr hlk (rfl) (qc_of (vp_updL of 0 ((rr_3210).toInt64), W2_3211) (v := some (.int (nI 0))) (by rw [hq_3219]) (⟨fun _ => by rw [hq_3219]; exact pk_uLs, by rw [hq_3219]; exact (by decide : (0 : Nat) < 10), hq_3220⟩) hP9 hD9 (trivial) hS) hS dX0_boundOf_16 (show 0 + 2 ≤ 2 from by first | exact Nat.le_refl _ | decide | omega) (show 0 + 8 ≤ 8 from by first | exact Nat.le_refl _ | decide | omega)

set_option maxHeartbeats 4000000 in
theorem wX0_weightOf (l : Launch) (G : Gt) (d : Nat) (S : DS) (WA : va_W) (o : Nat) (of : Nat → Int64) (v : Int32) (h : DyW G d S WA) (hfl : l.stackTraces = false) : CTW l G yX0_weightOf cX0_weightOf 4 (some .int) [(0, 9, 12, 13)] ({ frames := 9, cells := 2, slots := 8, locals := 143 } : Room) [.ref d, .int v, .ref o] ([(o, .inl (G.2 5, 1, .inr (.inl of)))] ++ (WA ++ [])) RH0 (S := (Nat → Int64) × va_W) (fun (u_ : (Nat → Int64) × va_W) => some (.int (nI ((q_weight (dC S) v).1)))) (fun (u_ : (Nat → Int64) × va_W) => ((q_weight (dC S) v).1 = 0 → u_.1 0 = ((q_weight (dC S) v).2).toInt64) ∧ (q_weight (dC S) v).1 < 10 ∧ DyW G d S u_.2) (fun (u_ : (Nat → Int64) × va_W) => ([(o, .inl (G.2 5, 1, .inr (.inl u_.1)))] ++ (u_.2 ++ []))) (fun (u_ : (Nat → Int64) × va_W) (H : Heap) => True) := by
  refine CTW.of (by decide) (Nat.le_of_ble_eq_true rfl) ?_
  intro p e s m below meth c ls A H locs h9 hH0 hP hS hNc htab
  obtain ⟨cf, hr, hlk, hnm, hKB, hE, -, hD, -, hA, hAw, hRH, hl⟩ := h9
  have hx := cf.1
  have hb := cf.2.1
  have hml := cf.2.2.1
  have hown : s.vm.findClass RX0 = some m.cls := cf.2.2.2.1
  have hts := cf.2.2.2.2
  have hK := hKB.1
  have hl : lv_has ls 4 [(0, .ref d), (1, .int v), (2, .ref o)] := hl
  refine lv_aload_n hx hb dX0_weightOf_0 rfl (lv_at hl 2 rfl) ?_
  refine lv_iconst (v := nI 0) hx hb dX0_weightOf_1 (by decide) ?_
  refine lv_aload_n hx hb dX0_weightOf_2 rfl (lv_at hl 0 rfl) ?_
  refine lv_iload_n hx hb dX0_weightOf_3 rfl (lv_at hl 1 rfl) ?_
  have hpm_3223 : (([(o, .inl (G.2 5, 1, .inr (.inl of)))] ++ (WA ++ [])) : va_W).Perm ((WA ++ []) ++ [(o, .inl (G.2 5, 1, .inr (.inl of)))]) := segs_perm [[(o, .inl (G.2 5, 1, .inr (.inl of)))], WA] [1] [0] rfl
  have hF := hF_ofP (wc := (WA ++ [])) hD hS hA hpm_3223
  refine go_cxP hS hP hD hpm_3223 hF
      (vx_runV (As := [.int v]) (rest := [.int (nI 0), .ref o]) cf (dX1_weightOf l G d S WA v (show DyW G d S WA from by first | assumption | omega) hfl H.size) (cwV 1 hts (lw_V q1077 q1078 q1079 q47 q1080) rfl rfl rfl (by decide +kernel) ⟨Nat.le_of_ble_eq_true rfl, Nat.le_of_ble_eq_true rfl⟩) (preV_of hKB hE hS hF (DyW.recv hK h (seg_at [[(o, .inl (G.2 5, 1, .inr (.inl of)))], WA] 1 rfl hP)) (P_left (P_perm hpm_3223 hP)) ((D_left (D_perm hpm_3223 hD)).weaken (fun _ _ _ _ => trivial)) trivial) rfl rfl hl.1 rfl (lv_room (Nat.le_of_ble_eq_true rfl)) dX0_weightOf_4 ⟨show 0 + 2 ≤ 2 from by first | decide | omega, show 0 + 8 ≤ 8 from by first | decide | omega⟩)
      (fun u_ H locs ce q9 hq hph (hP : va_P G.1 CL ([(o, .inl (G.2 5, 1, .inr (.inl of)))] ++ (u_.2 ++ [])) H) (hD : va_D A ([(o, .inl (G.2 5, 1, .inr (.inl of)))] ++ (u_.2 ++ []))) hS hfz hfk hce hcv hcl => ?_) (fun u_ H locs hq hph (hP : va_P G.1 CL ([(o, .inl (G.2 5, 1, .inr (.inl of)))] ++ (u_.2 ++ [])) H) (hD : va_D A ([(o, .inl (G.2 5, 1, .inr (.inl of)))] ++ (u_.2 ++ []))) hS hfz hfk => ?_)
  · obtain ⟨kx_3226, W2_3227⟩ := u_
    obtain ⟨hq_3228, hq_3229, hq_3230⟩ : (q_weight (dC S) v).1 = kx_3226 ∧ DyW G d S W2_3227 ∧ 1 ≤ kx_3226 ∧ kx_3226 ≤ 1 := hq
    have hpm_3231 : ([(o, .inl (G.2 5, 1, .inr (.inl of)))] ++ (W2_3227 ++ []) : va_W).Perm ([(o, .inl (G.2 5, 1, .inr (.inl of)))] ++ (W2_3227 ++ [])) := segs_perm2 [[(o, .inl (G.2 5, 1, .inr (.inl of)))]] [W2_3227] [0, 1] rfl
    have hP : va_P G.1 CL ([(o, .inl (G.2 5, 1, .inr (.inl of)))] ++ (W2_3227 ++ [])) H := P_perm hpm_3231 hP
    have hD : va_D A ([(o, .inl (G.2 5, 1, .inr (.inl of)))] ++ (W2_3227 ++ [])) := D_perm hpm_3231 hD
    obtain rfl : kx_3226 = 1 := by omega
    have hcl9 : s.vm.findClass eA = some ce.cls := hcl
    refine vx_catch (name := eA) (E := eA) hown [] (⟨0, 9, 12, 13⟩ : ExceptionTableEntry) [] (by rw [htab]; rfl) (fun z hz => absurd hz List.not_mem_nil) (by decide) (by decide) (hts _ q680) (va_Nw.use rfl (hKB.nest q698 rfl)) hce hcv hcl9 ?_
    refine W.eq (g2 := F0 m 12 ls [.ref q9]) rfl ?_
    refine lv_astore_n (lv' := [(3, .ref q9), (0, .ref d), (1, .int v), (2, .ref o)]) hx hb dX0_weightOf_12 rfl hl (by decide) rfl (fun ls hl => ?_)
    refine lv_iconst (v := nI 1) hx hb dX0_weightOf_13 (by decide) ?_
    refine vx_ret ?_
    have hpm_3232 : (([(o, .inl (G.2 5, 1, .inr (.inl of)))] ++ (W2_3227 ++ [])) : va_W).Perm (([(o, .inl (G.2 5, 1, .inr (.inl of)))] ++ (W2_3227 ++ [])) ++ []) := segs_perm [[(o, .inl (G.2 5, 1, .inr (.inl of)))], W2_3227] [0, 1] [] rfl
    have hP9 : va_P G.1 CL ([(o, .inl (G.2 5, 1, .inr (.inl of)))] ++ (W2_3227 ++ [])) H := P_left (P_perm hpm_3232 hP)
    have hD9 : va_D A ([(o, .inl (G.2 5, 1, .inr (.inl of)))] ++ (W2_3227 ++ [])) := D_left (D_perm hpm_3232 hD)
    exact end_i hx hb hr hlk (rfl) (qc_of (of, W2_3227) (v := some (.int (nI 1))) (by rw [hq_3228]) (⟨fun z9 => absurd (hq_3228.symm.trans z9) (by decide), by rw [hq_3228]; decide, hq_3229⟩) hP9 hD9 (trivial) hS) hS dX0_weightOf_14 (show 0 + 2 ≤ 2 from by first | exact Nat.le_refl _ | decide | omega) (show 0 + 8 ≤ 8 from by first | exact Nat.le_refl _ | decide | omega)
  · obtain ⟨rr_3224, W2_3225⟩ := u_
    obtain ⟨hq_3233, hq_3234⟩ : q_weight (dC S) v = (0, rr_3224) ∧ DyW G d S W2_3225 := hq
    have hpm_3235 : ([(o, .inl (G.2 5, 1, .inr (.inl of)))] ++ (W2_3225 ++ []) : va_W).Perm ([(o, .inl (G.2 5, 1, .inr (.inl of)))] ++ (W2_3225 ++ [])) := segs_perm2 [[(o, .inl (G.2 5, 1, .inr (.inl of)))]] [W2_3225] [0, 1] rfl
    have hP : va_P G.1 CL ([(o, .inl (G.2 5, 1, .inr (.inl of)))] ++ (W2_3225 ++ [])) H := P_perm hpm_3235 hP
    have hD : va_D A ([(o, .inl (G.2 5, 1, .inr (.inl of)))] ++ (W2_3225 ++ [])) := D_perm hpm_3235 hD
    refine W.eq (g2 := F0 m 7 ls [.int rr_3224, .int (nI 0), .ref o]) rfl ?_
    refine lv_i2l (v := (rr_3224).toInt64) hx hb dX0_weightOf_7 rfl ?_
    refine r_last hx hb hK hP hD hS 0 5 rfl rfl (i := 0) (by omega) (by omega) dX0_weightOf_8 (fun H locs (hP : va_P G.1 CL ([(o, .inl (G.2 5, 1, .inr (.inl (vp_updL of 0 ((rr_3224).toInt64)))))] ++ (W2_3225 ++ [])) H) (hD : va_D A ([(o, .inl (G.2 5, 1, .inr (.inl (vp_updL of 0 ((rr_3224).toInt64)))))] ++ (W2_3225 ++ []))) hS => ?_)
    refine lv_goto (tgt := 15) hx hb dX0_weightOf_9 (by decide) ?_
    refine lv_iconst (v := nI 0) hx hb dX0_weightOf_15 (by decide) ?_
    refine vx_ret ?_
    have hpm_3236 : (([(o, .inl (G.2 5, 1, .inr (.inl (vp_updL of 0 ((rr_3224).toInt64)))))] ++ (W2_3225 ++ [])) : va_W).Perm (([(o, .inl (G.2 5, 1, .inr (.inl (vp_updL of 0 ((rr_3224).toInt64)))))] ++ (W2_3225 ++ [])) ++ []) := segs_perm [[(o, .inl (G.2 5, 1, .inr (.inl (vp_updL of 0 ((rr_3224).toInt64)))))], W2_3225] [0, 1] [] rfl
    have hP9 : va_P G.1 CL ([(o, .inl (G.2 5, 1, .inr (.inl (vp_updL of 0 ((rr_3224).toInt64)))))] ++ (W2_3225 ++ [])) H := P_left (P_perm hpm_3236 hP)
    have hD9 : va_D A ([(o, .inl (G.2 5, 1, .inr (.inl (vp_updL of 0 ((rr_3224).toInt64)))))] ++ (W2_3225 ++ [])) := D_left (D_perm hpm_3236 hD)
    exact end_i hx hb hr hlk (rfl) (qc_of (vp_updL of 0 ((rr_3224).toInt64), W2_3225) (v := some (.int (nI 0))) (by rw [hq_3233]) (⟨fun _ => by rw [hq_3233]; exact pk_uLs, by rw [hq_3233]; exact (by decide : (0 : Nat) < 10), hq_3234⟩) hP9 hD9 (trivial) hS) hS dX0_weightOf_16 (show 0 + 2 ≤ 2 from by first | exact Nat.le_refl _ | decide | omega) (show 0 + 8 ≤ 8 from by first | exact Nat.le_refl _ | decide | omega)

set_option maxHeartbeats 4000000 in
theorem wX0_zoneOf (l : Launch) (G : Gt) (d : Nat) (S : DS) (WA : va_W) (o : Nat) (of : Nat → Int64) (v : Int32) (w : Int32) (h : DyW G d S WA) (hfl : l.stackTraces = false) : CTW l G yX0_zoneOf cX0_zoneOf 5 (some .int) [(0, 10, 13, 13)] ({ frames := 9, cells := 2, slots := 8, locals := 185 } : Room) [.ref d, .int v, .int w, .ref o] ([(o, .inl (G.2 5, 1, .inr (.inl of)))] ++ (WA ++ [])) RH0 (S := (Nat → Int64) × va_W) (fun (u_ : (Nat → Int64) × va_W) => some (.int (nI ((q_zone (dC S) v w).1)))) (fun (u_ : (Nat → Int64) × va_W) => ((q_zone (dC S) v w).1 = 0 → u_.1 0 = ((q_zone (dC S) v w).2).toInt64) ∧ (q_zone (dC S) v w).1 < 10 ∧ DyW G d S u_.2) (fun (u_ : (Nat → Int64) × va_W) => ([(o, .inl (G.2 5, 1, .inr (.inl u_.1)))] ++ (u_.2 ++ []))) (fun (u_ : (Nat → Int64) × va_W) (H : Heap) => True) := by
  refine CTW.of (by decide) (Nat.le_of_ble_eq_true rfl) ?_
  intro p e s m below meth c ls A H locs h9 hH0 hP hS hNc htab
  obtain ⟨cf, hr, hlk, hnm, hKB, hE, -, hD, -, hA, hAw, hRH, hl⟩ := h9
  have hx := cf.1
  have hb := cf.2.1
  have hml := cf.2.2.1
  have hown : s.vm.findClass RX0 = some m.cls := cf.2.2.2.1
  have hts := cf.2.2.2.2
  have hK := hKB.1
  have hl : lv_has ls 5 [(0, .ref d), (1, .int v), (2, .int w), (3, .ref o)] := hl
  refine lv_aload_n hx hb dX0_zoneOf_0 rfl (lv_at hl 3 rfl) ?_
  refine lv_iconst (v := nI 0) hx hb dX0_zoneOf_1 (by decide) ?_
  refine lv_aload_n hx hb dX0_zoneOf_2 rfl (lv_at hl 0 rfl) ?_
  refine lv_iload_n hx hb dX0_zoneOf_3 rfl (lv_at hl 1 rfl) ?_
  refine lv_iload_n hx hb dX0_zoneOf_4 rfl (lv_at hl 2 rfl) ?_
  have hpm_3237 : (([(o, .inl (G.2 5, 1, .inr (.inl of)))] ++ (WA ++ [])) : va_W).Perm ((WA ++ []) ++ [(o, .inl (G.2 5, 1, .inr (.inl of)))]) := segs_perm [[(o, .inl (G.2 5, 1, .inr (.inl of)))], WA] [1] [0] rfl
  have hF := hF_ofP (wc := (WA ++ [])) hD hS hA hpm_3237
  refine go_cxP hS hP hD hpm_3237 hF
      (vx_runV (As := [.int v, .int w]) (rest := [.int (nI 0), .ref o]) cf (dX1_zoneOf l G d S WA v w (show DyW G d S WA from by first | assumption | omega) hfl H.size) (cwV 2 hts (lw_V q1087 q1088 q1089 q47 q1090) rfl rfl rfl (by decide +kernel) ⟨Nat.le_of_ble_eq_true rfl, Nat.le_of_ble_eq_true rfl⟩) (preV_of hKB hE hS hF (DyW.recv hK h (seg_at [[(o, .inl (G.2 5, 1, .inr (.inl of)))], WA] 1 rfl hP)) (P_left (P_perm hpm_3237 hP)) ((D_left (D_perm hpm_3237 hD)).weaken (fun _ _ _ _ => trivial)) trivial) rfl rfl hl.1 rfl (lv_room (Nat.le_of_ble_eq_true rfl)) dX0_zoneOf_5 ⟨show 0 + 2 ≤ 2 from by first | decide | omega, show 0 + 8 ≤ 8 from by first | decide | omega⟩)
      (fun u_ H locs ce q9 hq hph (hP : va_P G.1 CL ([(o, .inl (G.2 5, 1, .inr (.inl of)))] ++ (u_.2 ++ [])) H) (hD : va_D A ([(o, .inl (G.2 5, 1, .inr (.inl of)))] ++ (u_.2 ++ []))) hS hfz hfk hce hcv hcl => ?_) (fun u_ H locs hq hph (hP : va_P G.1 CL ([(o, .inl (G.2 5, 1, .inr (.inl of)))] ++ (u_.2 ++ [])) H) (hD : va_D A ([(o, .inl (G.2 5, 1, .inr (.inl of)))] ++ (u_.2 ++ []))) hS hfz hfk => ?_)
  · obtain ⟨kx_3240, W2_3241⟩ := u_
    obtain ⟨hq_3242, hq_3243, hq_3244⟩ : (q_zone (dC S) v w).1 = kx_3240 ∧ DyW G d S W2_3241 ∧ 1 ≤ kx_3240 ∧ kx_3240 ≤ 1 := hq
    have hpm_3245 : ([(o, .inl (G.2 5, 1, .inr (.inl of)))] ++ (W2_3241 ++ []) : va_W).Perm ([(o, .inl (G.2 5, 1, .inr (.inl of)))] ++ (W2_3241 ++ [])) := segs_perm2 [[(o, .inl (G.2 5, 1, .inr (.inl of)))]] [W2_3241] [0, 1] rfl
    have hP : va_P G.1 CL ([(o, .inl (G.2 5, 1, .inr (.inl of)))] ++ (W2_3241 ++ [])) H := P_perm hpm_3245 hP
    have hD : va_D A ([(o, .inl (G.2 5, 1, .inr (.inl of)))] ++ (W2_3241 ++ [])) := D_perm hpm_3245 hD
    obtain rfl : kx_3240 = 1 := by omega
    have hcl9 : s.vm.findClass eA = some ce.cls := hcl
    refine vx_catch (name := eA) (E := eA) hown [] (⟨0, 10, 13, 13⟩ : ExceptionTableEntry) [] (by rw [htab]; rfl) (fun z hz => absurd hz List.not_mem_nil) (by decide) (by decide) (hts _ q680) (va_Nw.use rfl (hKB.nest q698 rfl)) hce hcv hcl9 ?_
    refine W.eq (g2 := F0 m 13 ls [.ref q9]) rfl ?_
    refine lv_astore (lv' := [(4, .ref q9), (0, .ref d), (1, .int v), (2, .int w), (3, .ref o)]) hx hb dX0_zoneOf_13 hl (by decide) rfl (fun ls hl => ?_)
    refine lv_iconst (v := nI 1) hx hb dX0_zoneOf_15 (by decide) ?_
    refine vx_ret ?_
    have hpm_3246 : (([(o, .inl (G.2 5, 1, .inr (.inl of)))] ++ (W2_3241 ++ [])) : va_W).Perm (([(o, .inl (G.2 5, 1, .inr (.inl of)))] ++ (W2_3241 ++ [])) ++ []) := segs_perm [[(o, .inl (G.2 5, 1, .inr (.inl of)))], W2_3241] [0, 1] [] rfl
    have hP9 : va_P G.1 CL ([(o, .inl (G.2 5, 1, .inr (.inl of)))] ++ (W2_3241 ++ [])) H := P_left (P_perm hpm_3246 hP)
    have hD9 : va_D A ([(o, .inl (G.2 5, 1, .inr (.inl of)))] ++ (W2_3241 ++ [])) := D_left (D_perm hpm_3246 hD)
    exact end_i hx hb hr hlk (rfl) (qc_of (of, W2_3241) (v := some (.int (nI 1))) (by rw [hq_3242]) (⟨fun z9 => absurd (hq_3242.symm.trans z9) (by decide), by rw [hq_3242]; decide, hq_3243⟩) hP9 hD9 (trivial) hS) hS dX0_zoneOf_16 (show 0 + 2 ≤ 2 from by first | exact Nat.le_refl _ | decide | omega) (show 0 + 8 ≤ 8 from by first | exact Nat.le_refl _ | decide | omega)
  · obtain ⟨rr_3238, W2_3239⟩ := u_
    obtain ⟨hq_3247, hq_3248⟩ : q_zone (dC S) v w = (0, rr_3238) ∧ DyW G d S W2_3239 := hq
    have hpm_3249 : ([(o, .inl (G.2 5, 1, .inr (.inl of)))] ++ (W2_3239 ++ []) : va_W).Perm ([(o, .inl (G.2 5, 1, .inr (.inl of)))] ++ (W2_3239 ++ [])) := segs_perm2 [[(o, .inl (G.2 5, 1, .inr (.inl of)))]] [W2_3239] [0, 1] rfl
    have hP : va_P G.1 CL ([(o, .inl (G.2 5, 1, .inr (.inl of)))] ++ (W2_3239 ++ [])) H := P_perm hpm_3249 hP
    have hD : va_D A ([(o, .inl (G.2 5, 1, .inr (.inl of)))] ++ (W2_3239 ++ [])) := D_perm hpm_3249 hD
    refine W.eq (g2 := F0 m 8 ls [.int rr_3238, .int (nI 0), .ref o]) rfl ?_
    refine lv_i2l (v := (rr_3238).toInt64) hx hb dX0_zoneOf_8 rfl ?_
    refine r_last hx hb hK hP hD hS 0 5 rfl rfl (i := 0) (by omega) (by omega) dX0_zoneOf_9 (fun H locs (hP : va_P G.1 CL ([(o, .inl (G.2 5, 1, .inr (.inl (vp_updL of 0 ((rr_3238).toInt64)))))] ++ (W2_3239 ++ [])) H) (hD : va_D A ([(o, .inl (G.2 5, 1, .inr (.inl (vp_updL of 0 ((rr_3238).toInt64)))))] ++ (W2_3239 ++ []))) hS => ?_)
    refine lv_goto (tgt := 17) hx hb dX0_zoneOf_10 (by decide) ?_
    refine lv_iconst (v := nI 0) hx hb dX0_zoneOf_17 (by decide) ?_
    refine vx_ret ?_
    have hpm_3250 : (([(o, .inl (G.2 5, 1, .inr (.inl (vp_updL of 0 ((rr_3238).toInt64)))))] ++ (W2_3239 ++ [])) : va_W).Perm (([(o, .inl (G.2 5, 1, .inr (.inl (vp_updL of 0 ((rr_3238).toInt64)))))] ++ (W2_3239 ++ [])) ++ []) := segs_perm [[(o, .inl (G.2 5, 1, .inr (.inl (vp_updL of 0 ((rr_3238).toInt64)))))], W2_3239] [0, 1] [] rfl
    have hP9 : va_P G.1 CL ([(o, .inl (G.2 5, 1, .inr (.inl (vp_updL of 0 ((rr_3238).toInt64)))))] ++ (W2_3239 ++ [])) H := P_left (P_perm hpm_3250 hP)
    have hD9 : va_D A ([(o, .inl (G.2 5, 1, .inr (.inl (vp_updL of 0 ((rr_3238).toInt64)))))] ++ (W2_3239 ++ [])) := D_left (D_perm hpm_3250 hD)
    exact end_i hx hb hr hlk (rfl) (qc_of (vp_updL of 0 ((rr_3238).toInt64), W2_3239) (v := some (.int (nI 0))) (by rw [hq_3247]) (⟨fun _ => by rw [hq_3247]; exact pk_uLs, by rw [hq_3247]; exact (by decide : (0 : Nat) < 10), hq_3248⟩) hP9 hD9 (trivial) hS) hS dX0_zoneOf_18 (show 0 + 2 ≤ 2 from by first | exact Nat.le_refl _ | decide | omega) (show 0 + 8 ≤ 8 from by first | exact Nat.le_refl _ | decide | omega)

set_option maxHeartbeats 4000000 in
theorem wX0_sessionAt (l : Launch) (G : Gt) (d : Nat) (S : DS) (WA : va_W) (o : Nat) (of : Nat → Int64) (v : Int32) (h : DyW G d S WA) (hfl : l.stackTraces = false) : CTW l G yX0_sessionAt cX0_sessionAt 4 (some .int) [(0, 9, 12, 63)] ({ frames := 8, cells := 2, slots := 8, locals := 123 } : Room) [.ref d, .int v, .ref o] ([(o, .inl (G.2 5, 1, .inr (.inl of)))] ++ (WA ++ [])) RH0 (S := (Nat → Int64) × va_W) (fun (u_ : (Nat → Int64) × va_W) => some (.int (nI ((q_sAt (dC S) v).1)))) (fun (u_ : (Nat → Int64) × va_W) => ((q_sAt (dC S) v).1 = 0 → u_.1 0 = ((q_sAt (dC S) v).2).toInt64) ∧ (q_sAt (dC S) v).1 < 10 ∧ DyW G d S u_.2) (fun (u_ : (Nat → Int64) × va_W) => ([(o, .inl (G.2 5, 1, .inr (.inl u_.1)))] ++ (u_.2 ++ []))) (fun (u_ : (Nat → Int64) × va_W) (H : Heap) => True) := by
  refine CTW.of (by decide) (Nat.le_of_ble_eq_true rfl) ?_
  intro p e s m below meth c ls A H locs h9 hH0 hP hS hNc htab
  obtain ⟨cf, hr, hlk, hnm, hKB, hE, -, hD, -, hA, hAw, hRH, hl⟩ := h9
  have hx := cf.1
  have hb := cf.2.1
  have hml := cf.2.2.1
  have hown : s.vm.findClass RX0 = some m.cls := cf.2.2.2.1
  have hts := cf.2.2.2.2
  have hK := hKB.1
  have hl : lv_has ls 4 [(0, .ref d), (1, .int v), (2, .ref o)] := hl
  refine lv_aload_n hx hb dX0_sessionAt_0 rfl (lv_at hl 2 rfl) ?_
  refine lv_iconst (v := nI 0) hx hb dX0_sessionAt_1 (by decide) ?_
  refine lv_aload_n hx hb dX0_sessionAt_2 rfl (lv_at hl 0 rfl) ?_
  refine lv_iload_n hx hb dX0_sessionAt_3 rfl (lv_at hl 1 rfl) ?_
  have hpm_3251 : (([(o, .inl (G.2 5, 1, .inr (.inl of)))] ++ (WA ++ [])) : va_W).Perm ((WA ++ []) ++ [(o, .inl (G.2 5, 1, .inr (.inl of)))]) := segs_perm [[(o, .inl (G.2 5, 1, .inr (.inl of)))], WA] [1] [0] rfl
  have hF := hF_ofP (wc := (WA ++ [])) hD hS hA hpm_3251
  refine go_cxP hS hP hD hpm_3251 hF
      (vx_runV (As := [.int v]) (rest := [.int (nI 0), .ref o]) cf (dX1_sessionAt l G d S WA v (show DyW G d S WA from by first | assumption | omega) hfl H.size) (cwV 1 hts (lw_V q1213 q1214 q1215 q47 q1216) rfl rfl rfl (by decide +kernel) ⟨Nat.le_of_ble_eq_true rfl, Nat.le_of_ble_eq_true rfl⟩) (preV_of hKB hE hS hF (DyW.recv hK h (seg_at [[(o, .inl (G.2 5, 1, .inr (.inl of)))], WA] 1 rfl hP)) (P_left (P_perm hpm_3251 hP)) ((D_left (D_perm hpm_3251 hD)).weaken (fun _ _ _ _ => trivial)) trivial) rfl rfl hl.1 rfl (lv_room (Nat.le_of_ble_eq_true rfl)) dX0_sessionAt_4 ⟨show 0 + 2 ≤ 2 from by first | decide | omega, show 0 + 8 ≤ 8 from by first | decide | omega⟩)
      (fun u_ H locs ce q9 hq hph (hP : va_P G.1 CL ([(o, .inl (G.2 5, 1, .inr (.inl of)))] ++ (u_.2 ++ [])) H) (hD : va_D A ([(o, .inl (G.2 5, 1, .inr (.inl of)))] ++ (u_.2 ++ []))) hS hfz hfk hce hcv hcl => ?_) (fun u_ H locs hq hph (hP : va_P G.1 CL ([(o, .inl (G.2 5, 1, .inr (.inl of)))] ++ (u_.2 ++ [])) H) (hD : va_D A ([(o, .inl (G.2 5, 1, .inr (.inl of)))] ++ (u_.2 ++ []))) hS hfz hfk => ?_)
  · obtain ⟨kx_3254, W2_3255⟩ := u_
    obtain ⟨hq_3256, hq_3257, hq_3258⟩ : (q_sAt (dC S) v).1 = kx_3254 ∧ DyW G d S W2_3255 ∧ 1 ≤ kx_3254 ∧ kx_3254 ≤ 1 := hq
    have hpm_3259 : ([(o, .inl (G.2 5, 1, .inr (.inl of)))] ++ (W2_3255 ++ []) : va_W).Perm ([(o, .inl (G.2 5, 1, .inr (.inl of)))] ++ (W2_3255 ++ [])) := segs_perm2 [[(o, .inl (G.2 5, 1, .inr (.inl of)))]] [W2_3255] [0, 1] rfl
    have hP : va_P G.1 CL ([(o, .inl (G.2 5, 1, .inr (.inl of)))] ++ (W2_3255 ++ [])) H := P_perm hpm_3259 hP
    have hD : va_D A ([(o, .inl (G.2 5, 1, .inr (.inl of)))] ++ (W2_3255 ++ [])) := D_perm hpm_3259 hD
    obtain rfl : kx_3254 = 1 := by omega
    have hcl9 : s.vm.findClass eI = some ce.cls := hcl
    refine vx_catch (name := eI) (E := eI) hown [] (⟨0, 9, 12, 63⟩ : ExceptionTableEntry) [] (by rw [htab]; rfl) (fun z hz => absurd hz List.not_mem_nil) (by decide) (by decide) (hts _ q1197) (va_Nw.use rfl (hKB.nest q785 rfl)) hce hcv hcl9 ?_
    refine W.eq (g2 := F0 m 12 ls [.ref q9]) rfl ?_
    refine lv_astore_n (lv' := [(3, .ref q9), (0, .ref d), (1, .int v), (2, .ref o)]) hx hb dX0_sessionAt_12 rfl hl (by decide) rfl (fun ls hl => ?_)
    refine lv_iconst (v := nI 1) hx hb dX0_sessionAt_13 (by decide) ?_
    refine vx_ret ?_
    have hpm_3260 : (([(o, .inl (G.2 5, 1, .inr (.inl of)))] ++ (W2_3255 ++ [])) : va_W).Perm (([(o, .inl (G.2 5, 1, .inr (.inl of)))] ++ (W2_3255 ++ [])) ++ []) := segs_perm [[(o, .inl (G.2 5, 1, .inr (.inl of)))], W2_3255] [0, 1] [] rfl
    have hP9 : va_P G.1 CL ([(o, .inl (G.2 5, 1, .inr (.inl of)))] ++ (W2_3255 ++ [])) H := P_left (P_perm hpm_3260 hP)
    have hD9 : va_D A ([(o, .inl (G.2 5, 1, .inr (.inl of)))] ++ (W2_3255 ++ [])) := D_left (D_perm hpm_3260 hD)
    exact end_i hx hb hr hlk (rfl) (qc_of (of, W2_3255) (v := some (.int (nI 1))) (by rw [hq_3256]) (⟨fun z9 => absurd (hq_3256.symm.trans z9) (by decide), by rw [hq_3256]; decide, hq_3257⟩) hP9 hD9 (trivial) hS) hS dX0_sessionAt_14 (show 0 + 2 ≤ 2 from by first | exact Nat.le_refl _ | decide | omega) (show 0 + 8 ≤ 8 from by first | exact Nat.le_refl _ | decide | omega)
  · obtain ⟨rr_3252, W2_3253⟩ := u_
    obtain ⟨hq_3261, hq_3262⟩ : q_sAt (dC S) v = (0, rr_3252) ∧ DyW G d S W2_3253 := hq
    have hpm_3263 : ([(o, .inl (G.2 5, 1, .inr (.inl of)))] ++ (W2_3253 ++ []) : va_W).Perm ([(o, .inl (G.2 5, 1, .inr (.inl of)))] ++ (W2_3253 ++ [])) := segs_perm2 [[(o, .inl (G.2 5, 1, .inr (.inl of)))]] [W2_3253] [0, 1] rfl
    have hP : va_P G.1 CL ([(o, .inl (G.2 5, 1, .inr (.inl of)))] ++ (W2_3253 ++ [])) H := P_perm hpm_3263 hP
    have hD : va_D A ([(o, .inl (G.2 5, 1, .inr (.inl of)))] ++ (W2_3253 ++ [])) := D_perm hpm_3263 hD
    refine W.eq (g2 := F0 m 7 ls [.int rr_3252, .int (nI 0), .ref o]) rfl ?_
    refine lv_i2l (v := (rr_3252).toInt64) hx hb dX0_sessionAt_7 rfl ?_
    refine r_last hx hb hK hP hD hS 0 5 rfl rfl (i := 0) (by omega) (by omega) dX0_sessionAt_8 (fun H locs (hP : va_P G.1 CL ([(o, .inl (G.2 5, 1, .inr (.inl (vp_updL of 0 ((rr_3252).toInt64)))))] ++ (W2_3253 ++ [])) H) (hD : va_D A ([(o, .inl (G.2 5, 1, .inr (.inl (vp_updL of 0 ((rr_3252).toInt64)))))] ++ (W2_3253 ++ []))) hS => ?_)
    refine lv_goto (tgt := 15) hx hb dX0_sessionAt_9 (by decide) ?_
    refine lv_iconst (v := nI 0) hx hb dX0_sessionAt_15 (by decide) ?_
    refine vx_ret ?_
    have hpm_3264 : (([(o, .inl (G.2 5, 1, .inr (.inl (vp_updL of 0 ((rr_3252).toInt64)))))] ++ (W2_3253 ++ [])) : va_W).Perm (([(o, .inl (G.2 5, 1, .inr (.inl (vp_updL of 0 ((rr_3252).toInt64)))))] ++ (W2_3253 ++ [])) ++ []) := segs_perm [[(o, .inl (G.2 5, 1, .inr (.inl (vp_updL of 0 ((rr_3252).toInt64)))))], W2_3253] [0, 1] [] rfl
    have hP9 : va_P G.1 CL ([(o, .inl (G.2 5, 1, .inr (.inl (vp_updL of 0 ((rr_3252).toInt64)))))] ++ (W2_3253 ++ [])) H := P_left (P_perm hpm_3264 hP)
    have hD9 : va_D A ([(o, .inl (G.2 5, 1, .inr (.inl (vp_updL of 0 ((rr_3252).toInt64)))))] ++ (W2_3253 ++ [])) := D_left (D_perm hpm_3264 hD)
    exact end_i hx hb hr hlk (rfl) (qc_of (vp_updL of 0 ((rr_3252).toInt64), W2_3253) (v := some (.int (nI 0))) (by rw [hq_3261]) (⟨fun _ => by rw [hq_3261]; exact pk_uLs, by rw [hq_3261]; exact (by decide : (0 : Nat) < 10), hq_3262⟩) hP9 hD9 (trivial) hS) hS dX0_sessionAt_16 (show 0 + 2 ≤ 2 from by first | exact Nat.le_refl _ | decide | omega) (show 0 + 8 ≤ 8 from by first | exact Nat.le_refl _ | decide | omega)

set_option maxHeartbeats 4000000 in
theorem wX0_dayOf (l : Launch) (G : Gt) (d : Nat) (S : DS) (WA : va_W) (o : Nat) (of : Nat → Int64) (v : Int32) (h : DyW G d S WA) (hfl : l.stackTraces = false) : CTW l G yX0_dayOf cX0_dayOf 4 (some .int) [(0, 9, 12, 24)] ({ frames := 10, cells := 2, slots := 8, locals := 167 } : Room) [.ref d, .int v, .ref o] ([(o, .inl (G.2 5, 1, .inr (.inl of)))] ++ (WA ++ [])) RH0 (S := (Nat → Int64) × va_W) (fun (u_ : (Nat → Int64) × va_W) => some (.int (nI ((q_dayOf (dC S) v).1)))) (fun (u_ : (Nat → Int64) × va_W) => ((q_dayOf (dC S) v).1 = 0 → u_.1 0 = ((q_dayOf (dC S) v).2).toInt64) ∧ (q_dayOf (dC S) v).1 < 10 ∧ DyW G d S u_.2) (fun (u_ : (Nat → Int64) × va_W) => ([(o, .inl (G.2 5, 1, .inr (.inl u_.1)))] ++ (u_.2 ++ []))) (fun (u_ : (Nat → Int64) × va_W) (H : Heap) => True) := by
  refine CTW.of (by decide) (Nat.le_of_ble_eq_true rfl) ?_
  intro p e s m below meth c ls A H locs h9 hH0 hP hS hNc htab
  obtain ⟨cf, hr, hlk, hnm, hKB, hE, -, hD, -, hA, hAw, hRH, hl⟩ := h9
  have hx := cf.1
  have hb := cf.2.1
  have hml := cf.2.2.1
  have hown : s.vm.findClass RX0 = some m.cls := cf.2.2.2.1
  have hts := cf.2.2.2.2
  have hK := hKB.1
  have hl : lv_has ls 4 [(0, .ref d), (1, .int v), (2, .ref o)] := hl
  refine lv_aload_n hx hb dX0_dayOf_0 rfl (lv_at hl 2 rfl) ?_
  refine lv_iconst (v := nI 0) hx hb dX0_dayOf_1 (by decide) ?_
  refine lv_aload_n hx hb dX0_dayOf_2 rfl (lv_at hl 0 rfl) ?_
  refine lv_iload_n hx hb dX0_dayOf_3 rfl (lv_at hl 1 rfl) ?_
  have hpm_3265 : (([(o, .inl (G.2 5, 1, .inr (.inl of)))] ++ (WA ++ [])) : va_W).Perm ((WA ++ []) ++ [(o, .inl (G.2 5, 1, .inr (.inl of)))]) := segs_perm [[(o, .inl (G.2 5, 1, .inr (.inl of)))], WA] [1] [0] rfl
  have hF := hF_ofP (wc := (WA ++ [])) hD hS hA hpm_3265
  refine go_cxP hS hP hD hpm_3265 hF
      (vx_runV (As := [.int v]) (rest := [.int (nI 0), .ref o]) cf (dX1_dayOf l G d S WA v (show DyW G d S WA from by first | assumption | omega) hfl H.size) (cwV 1 hts (lw_V q1228 q1229 q1230 q47 q1231) rfl rfl rfl (by decide +kernel) ⟨Nat.le_of_ble_eq_true rfl, Nat.le_of_ble_eq_true rfl⟩) (preV_of hKB hE hS hF (DyW.recv hK h (seg_at [[(o, .inl (G.2 5, 1, .inr (.inl of)))], WA] 1 rfl hP)) (P_left (P_perm hpm_3265 hP)) ((D_left (D_perm hpm_3265 hD)).weaken (fun _ _ _ _ => trivial)) trivial) rfl rfl hl.1 rfl (lv_room (Nat.le_of_ble_eq_true rfl)) dX0_dayOf_4 ⟨show 0 + 2 ≤ 2 from by first | decide | omega, show 0 + 8 ≤ 8 from by first | decide | omega⟩)
      (fun u_ H locs ce q9 hq hph (hP : va_P G.1 CL ([(o, .inl (G.2 5, 1, .inr (.inl of)))] ++ (u_.2 ++ [])) H) (hD : va_D A ([(o, .inl (G.2 5, 1, .inr (.inl of)))] ++ (u_.2 ++ []))) hS hfz hfk hce hcv hcl => ?_) (fun u_ H locs hq hph (hP : va_P G.1 CL ([(o, .inl (G.2 5, 1, .inr (.inl of)))] ++ (u_.2 ++ [])) H) (hD : va_D A ([(o, .inl (G.2 5, 1, .inr (.inl of)))] ++ (u_.2 ++ []))) hS hfz hfk => ?_)
  · obtain ⟨kx_3268, W2_3269⟩ := u_
    obtain ⟨hq_3270, hq_3271, hq_3272⟩ : (q_dayOf (dC S) v).1 = kx_3268 ∧ DyW G d S W2_3269 ∧ 1 ≤ kx_3268 ∧ kx_3268 ≤ 1 := hq
    have hpm_3273 : ([(o, .inl (G.2 5, 1, .inr (.inl of)))] ++ (W2_3269 ++ []) : va_W).Perm ([(o, .inl (G.2 5, 1, .inr (.inl of)))] ++ (W2_3269 ++ [])) := segs_perm2 [[(o, .inl (G.2 5, 1, .inr (.inl of)))]] [W2_3269] [0, 1] rfl
    have hP : va_P G.1 CL ([(o, .inl (G.2 5, 1, .inr (.inl of)))] ++ (W2_3269 ++ [])) H := P_perm hpm_3273 hP
    have hD : va_D A ([(o, .inl (G.2 5, 1, .inr (.inl of)))] ++ (W2_3269 ++ [])) := D_perm hpm_3273 hD
    obtain rfl : kx_3268 = 1 := by omega
    have hcl9 : s.vm.findClass eN = some ce.cls := hcl
    refine vx_catch (name := eN) (E := eN) hown [] (⟨0, 9, 12, 24⟩ : ExceptionTableEntry) [] (by rw [htab]; rfl) (fun z hz => absurd hz List.not_mem_nil) (by decide) (by decide) (hts _ q1013) (va_Nw.use rfl (hKB.nest q334 rfl)) hce hcv hcl9 ?_
    refine W.eq (g2 := F0 m 12 ls [.ref q9]) rfl ?_
    refine lv_astore_n (lv' := [(3, .ref q9), (0, .ref d), (1, .int v), (2, .ref o)]) hx hb dX0_dayOf_12 rfl hl (by decide) rfl (fun ls hl => ?_)
    refine lv_iconst (v := nI 1) hx hb dX0_dayOf_13 (by decide) ?_
    refine vx_ret ?_
    have hpm_3274 : (([(o, .inl (G.2 5, 1, .inr (.inl of)))] ++ (W2_3269 ++ [])) : va_W).Perm (([(o, .inl (G.2 5, 1, .inr (.inl of)))] ++ (W2_3269 ++ [])) ++ []) := segs_perm [[(o, .inl (G.2 5, 1, .inr (.inl of)))], W2_3269] [0, 1] [] rfl
    have hP9 : va_P G.1 CL ([(o, .inl (G.2 5, 1, .inr (.inl of)))] ++ (W2_3269 ++ [])) H := P_left (P_perm hpm_3274 hP)
    have hD9 : va_D A ([(o, .inl (G.2 5, 1, .inr (.inl of)))] ++ (W2_3269 ++ [])) := D_left (D_perm hpm_3274 hD)
    exact end_i hx hb hr hlk (rfl) (qc_of (of, W2_3269) (v := some (.int (nI 1))) (by rw [hq_3270]) (⟨fun z9 => absurd (hq_3270.symm.trans z9) (by decide), by rw [hq_3270]; decide, hq_3271⟩) hP9 hD9 (trivial) hS) hS dX0_dayOf_14 (show 0 + 2 ≤ 2 from by first | exact Nat.le_refl _ | decide | omega) (show 0 + 8 ≤ 8 from by first | exact Nat.le_refl _ | decide | omega)
  · obtain ⟨rr_3266, W2_3267⟩ := u_
    obtain ⟨hq_3275, hq_3276⟩ : q_dayOf (dC S) v = (0, rr_3266) ∧ DyW G d S W2_3267 := hq
    have hpm_3277 : ([(o, .inl (G.2 5, 1, .inr (.inl of)))] ++ (W2_3267 ++ []) : va_W).Perm ([(o, .inl (G.2 5, 1, .inr (.inl of)))] ++ (W2_3267 ++ [])) := segs_perm2 [[(o, .inl (G.2 5, 1, .inr (.inl of)))]] [W2_3267] [0, 1] rfl
    have hP : va_P G.1 CL ([(o, .inl (G.2 5, 1, .inr (.inl of)))] ++ (W2_3267 ++ [])) H := P_perm hpm_3277 hP
    have hD : va_D A ([(o, .inl (G.2 5, 1, .inr (.inl of)))] ++ (W2_3267 ++ [])) := D_perm hpm_3277 hD
    refine W.eq (g2 := F0 m 7 ls [.int rr_3266, .int (nI 0), .ref o]) rfl ?_
    refine lv_i2l (v := (rr_3266).toInt64) hx hb dX0_dayOf_7 rfl ?_
    refine r_last hx hb hK hP hD hS 0 5 rfl rfl (i := 0) (by omega) (by omega) dX0_dayOf_8 (fun H locs (hP : va_P G.1 CL ([(o, .inl (G.2 5, 1, .inr (.inl (vp_updL of 0 ((rr_3266).toInt64)))))] ++ (W2_3267 ++ [])) H) (hD : va_D A ([(o, .inl (G.2 5, 1, .inr (.inl (vp_updL of 0 ((rr_3266).toInt64)))))] ++ (W2_3267 ++ []))) hS => ?_)
    refine lv_goto (tgt := 15) hx hb dX0_dayOf_9 (by decide) ?_
    refine lv_iconst (v := nI 0) hx hb dX0_dayOf_15 (by decide) ?_
    refine vx_ret ?_
    have hpm_3278 : (([(o, .inl (G.2 5, 1, .inr (.inl (vp_updL of 0 ((rr_3266).toInt64)))))] ++ (W2_3267 ++ [])) : va_W).Perm (([(o, .inl (G.2 5, 1, .inr (.inl (vp_updL of 0 ((rr_3266).toInt64)))))] ++ (W2_3267 ++ [])) ++ []) := segs_perm [[(o, .inl (G.2 5, 1, .inr (.inl (vp_updL of 0 ((rr_3266).toInt64)))))], W2_3267] [0, 1] [] rfl
    have hP9 : va_P G.1 CL ([(o, .inl (G.2 5, 1, .inr (.inl (vp_updL of 0 ((rr_3266).toInt64)))))] ++ (W2_3267 ++ [])) H := P_left (P_perm hpm_3278 hP)
    have hD9 : va_D A ([(o, .inl (G.2 5, 1, .inr (.inl (vp_updL of 0 ((rr_3266).toInt64)))))] ++ (W2_3267 ++ [])) := D_left (D_perm hpm_3278 hD)
    exact end_i hx hb hr hlk (rfl) (qc_of (vp_updL of 0 ((rr_3266).toInt64), W2_3267) (v := some (.int (nI 0))) (by rw [hq_3275]) (⟨fun _ => by rw [hq_3275]; exact pk_uLs, by rw [hq_3275]; exact (by decide : (0 : Nat) < 10), hq_3276⟩) hP9 hD9 (trivial) hS) hS dX0_dayOf_16 (show 0 + 2 ≤ 2 from by first | exact Nat.le_refl _ | decide | omega) (show 0 + 8 ≤ 8 from by first | exact Nat.le_refl _ | decide | omega)

set_option maxHeartbeats 4000000 in
theorem wX0_minutesOf (l : Launch) (G : Gt) (d : Nat) (S : DS) (WA : va_W) (o : Nat) (of : Nat → Int64) (v : Int32) (h : DyW G d S WA) (hfl : l.stackTraces = false) : CTW l G yX0_minutesOf cX0_minutesOf 4 (some .int) [(0, 9, 12, 24)] ({ frames := 10, cells := 2, slots := 8, locals := 167 } : Room) [.ref d, .int v, .ref o] ([(o, .inl (G.2 5, 1, .inr (.inl of)))] ++ (WA ++ [])) RH0 (S := (Nat → Int64) × va_W) (fun (u_ : (Nat → Int64) × va_W) => some (.int (nI ((q_minOf (dC S) v).1)))) (fun (u_ : (Nat → Int64) × va_W) => ((q_minOf (dC S) v).1 = 0 → u_.1 0 = ((q_minOf (dC S) v).2).toInt64) ∧ (q_minOf (dC S) v).1 < 10 ∧ DyW G d S u_.2) (fun (u_ : (Nat → Int64) × va_W) => ([(o, .inl (G.2 5, 1, .inr (.inl u_.1)))] ++ (u_.2 ++ []))) (fun (u_ : (Nat → Int64) × va_W) (H : Heap) => True) := by
  refine CTW.of (by decide) (Nat.le_of_ble_eq_true rfl) ?_
  intro p e s m below meth c ls A H locs h9 hH0 hP hS hNc htab
  obtain ⟨cf, hr, hlk, hnm, hKB, hE, -, hD, -, hA, hAw, hRH, hl⟩ := h9
  have hx := cf.1
  have hb := cf.2.1
  have hml := cf.2.2.1
  have hown : s.vm.findClass RX0 = some m.cls := cf.2.2.2.1
  have hts := cf.2.2.2.2
  have hK := hKB.1
  have hl : lv_has ls 4 [(0, .ref d), (1, .int v), (2, .ref o)] := hl
  refine lv_aload_n hx hb dX0_minutesOf_0 rfl (lv_at hl 2 rfl) ?_
  refine lv_iconst (v := nI 0) hx hb dX0_minutesOf_1 (by decide) ?_
  refine lv_aload_n hx hb dX0_minutesOf_2 rfl (lv_at hl 0 rfl) ?_
  refine lv_iload_n hx hb dX0_minutesOf_3 rfl (lv_at hl 1 rfl) ?_
  have hpm_3279 : (([(o, .inl (G.2 5, 1, .inr (.inl of)))] ++ (WA ++ [])) : va_W).Perm ((WA ++ []) ++ [(o, .inl (G.2 5, 1, .inr (.inl of)))]) := segs_perm [[(o, .inl (G.2 5, 1, .inr (.inl of)))], WA] [1] [0] rfl
  have hF := hF_ofP (wc := (WA ++ [])) hD hS hA hpm_3279
  refine go_cxP hS hP hD hpm_3279 hF
      (vx_runV (As := [.int v]) (rest := [.int (nI 0), .ref o]) cf (dX1_minutesOf l G d S WA v (show DyW G d S WA from by first | assumption | omega) hfl H.size) (cwV 1 hts (lw_V q1240 q1241 q1242 q47 q1243) rfl rfl rfl (by decide +kernel) ⟨Nat.le_of_ble_eq_true rfl, Nat.le_of_ble_eq_true rfl⟩) (preV_of hKB hE hS hF (DyW.recv hK h (seg_at [[(o, .inl (G.2 5, 1, .inr (.inl of)))], WA] 1 rfl hP)) (P_left (P_perm hpm_3279 hP)) ((D_left (D_perm hpm_3279 hD)).weaken (fun _ _ _ _ => trivial)) trivial) rfl rfl hl.1 rfl (lv_room (Nat.le_of_ble_eq_true rfl)) dX0_minutesOf_4 ⟨show 0 + 2 ≤ 2 from by first | decide | omega, show 0 + 8 ≤ 8 from by first | decide | omega⟩)
      (fun u_ H locs ce q9 hq hph (hP : va_P G.1 CL ([(o, .inl (G.2 5, 1, .inr (.inl of)))] ++ (u_.2 ++ [])) H) (hD : va_D A ([(o, .inl (G.2 5, 1, .inr (.inl of)))] ++ (u_.2 ++ []))) hS hfz hfk hce hcv hcl => ?_) (fun u_ H locs hq hph (hP : va_P G.1 CL ([(o, .inl (G.2 5, 1, .inr (.inl of)))] ++ (u_.2 ++ [])) H) (hD : va_D A ([(o, .inl (G.2 5, 1, .inr (.inl of)))] ++ (u_.2 ++ []))) hS hfz hfk => ?_)
  · obtain ⟨kx_3282, W2_3283⟩ := u_
    obtain ⟨hq_3284, hq_3285, hq_3286⟩ : (q_minOf (dC S) v).1 = kx_3282 ∧ DyW G d S W2_3283 ∧ 1 ≤ kx_3282 ∧ kx_3282 ≤ 1 := hq
    have hpm_3287 : ([(o, .inl (G.2 5, 1, .inr (.inl of)))] ++ (W2_3283 ++ []) : va_W).Perm ([(o, .inl (G.2 5, 1, .inr (.inl of)))] ++ (W2_3283 ++ [])) := segs_perm2 [[(o, .inl (G.2 5, 1, .inr (.inl of)))]] [W2_3283] [0, 1] rfl
    have hP : va_P G.1 CL ([(o, .inl (G.2 5, 1, .inr (.inl of)))] ++ (W2_3283 ++ [])) H := P_perm hpm_3287 hP
    have hD : va_D A ([(o, .inl (G.2 5, 1, .inr (.inl of)))] ++ (W2_3283 ++ [])) := D_perm hpm_3287 hD
    obtain rfl : kx_3282 = 1 := by omega
    have hcl9 : s.vm.findClass eN = some ce.cls := hcl
    refine vx_catch (name := eN) (E := eN) hown [] (⟨0, 9, 12, 24⟩ : ExceptionTableEntry) [] (by rw [htab]; rfl) (fun z hz => absurd hz List.not_mem_nil) (by decide) (by decide) (hts _ q1013) (va_Nw.use rfl (hKB.nest q334 rfl)) hce hcv hcl9 ?_
    refine W.eq (g2 := F0 m 12 ls [.ref q9]) rfl ?_
    refine lv_astore_n (lv' := [(3, .ref q9), (0, .ref d), (1, .int v), (2, .ref o)]) hx hb dX0_minutesOf_12 rfl hl (by decide) rfl (fun ls hl => ?_)
    refine lv_iconst (v := nI 1) hx hb dX0_minutesOf_13 (by decide) ?_
    refine vx_ret ?_
    have hpm_3288 : (([(o, .inl (G.2 5, 1, .inr (.inl of)))] ++ (W2_3283 ++ [])) : va_W).Perm (([(o, .inl (G.2 5, 1, .inr (.inl of)))] ++ (W2_3283 ++ [])) ++ []) := segs_perm [[(o, .inl (G.2 5, 1, .inr (.inl of)))], W2_3283] [0, 1] [] rfl
    have hP9 : va_P G.1 CL ([(o, .inl (G.2 5, 1, .inr (.inl of)))] ++ (W2_3283 ++ [])) H := P_left (P_perm hpm_3288 hP)
    have hD9 : va_D A ([(o, .inl (G.2 5, 1, .inr (.inl of)))] ++ (W2_3283 ++ [])) := D_left (D_perm hpm_3288 hD)
    exact end_i hx hb hr hlk (rfl) (qc_of (of, W2_3283) (v := some (.int (nI 1))) (by rw [hq_3284]) (⟨fun z9 => absurd (hq_3284.symm.trans z9) (by decide), by rw [hq_3284]; decide, hq_3285⟩) hP9 hD9 (trivial) hS) hS dX0_minutesOf_14 (show 0 + 2 ≤ 2 from by first | exact Nat.le_refl _ | decide | omega) (show 0 + 8 ≤ 8 from by first | exact Nat.le_refl _ | decide | omega)
  · obtain ⟨rr_3280, W2_3281⟩ := u_
    obtain ⟨hq_3289, hq_3290⟩ : q_minOf (dC S) v = (0, rr_3280) ∧ DyW G d S W2_3281 := hq
    have hpm_3291 : ([(o, .inl (G.2 5, 1, .inr (.inl of)))] ++ (W2_3281 ++ []) : va_W).Perm ([(o, .inl (G.2 5, 1, .inr (.inl of)))] ++ (W2_3281 ++ [])) := segs_perm2 [[(o, .inl (G.2 5, 1, .inr (.inl of)))]] [W2_3281] [0, 1] rfl
    have hP : va_P G.1 CL ([(o, .inl (G.2 5, 1, .inr (.inl of)))] ++ (W2_3281 ++ [])) H := P_perm hpm_3291 hP
    have hD : va_D A ([(o, .inl (G.2 5, 1, .inr (.inl of)))] ++ (W2_3281 ++ [])) := D_perm hpm_3291 hD
    refine W.eq (g2 := F0 m 7 ls [.int rr_3280, .int (nI 0), .ref o]) rfl ?_
    refine lv_i2l (v := (rr_3280).toInt64) hx hb dX0_minutesOf_7 rfl ?_
    refine r_last hx hb hK hP hD hS 0 5 rfl rfl (i := 0) (by omega) (by omega) dX0_minutesOf_8 (fun H locs (hP : va_P G.1 CL ([(o, .inl (G.2 5, 1, .inr (.inl (vp_updL of 0 ((rr_3280).toInt64)))))] ++ (W2_3281 ++ [])) H) (hD : va_D A ([(o, .inl (G.2 5, 1, .inr (.inl (vp_updL of 0 ((rr_3280).toInt64)))))] ++ (W2_3281 ++ []))) hS => ?_)
    refine lv_goto (tgt := 15) hx hb dX0_minutesOf_9 (by decide) ?_
    refine lv_iconst (v := nI 0) hx hb dX0_minutesOf_15 (by decide) ?_
    refine vx_ret ?_
    have hpm_3292 : (([(o, .inl (G.2 5, 1, .inr (.inl (vp_updL of 0 ((rr_3280).toInt64)))))] ++ (W2_3281 ++ [])) : va_W).Perm (([(o, .inl (G.2 5, 1, .inr (.inl (vp_updL of 0 ((rr_3280).toInt64)))))] ++ (W2_3281 ++ [])) ++ []) := segs_perm [[(o, .inl (G.2 5, 1, .inr (.inl (vp_updL of 0 ((rr_3280).toInt64)))))], W2_3281] [0, 1] [] rfl
    have hP9 : va_P G.1 CL ([(o, .inl (G.2 5, 1, .inr (.inl (vp_updL of 0 ((rr_3280).toInt64)))))] ++ (W2_3281 ++ [])) H := P_left (P_perm hpm_3292 hP)
    have hD9 : va_D A ([(o, .inl (G.2 5, 1, .inr (.inl (vp_updL of 0 ((rr_3280).toInt64)))))] ++ (W2_3281 ++ [])) := D_left (D_perm hpm_3292 hD)
    exact end_i hx hb hr hlk (rfl) (qc_of (vp_updL of 0 ((rr_3280).toInt64), W2_3281) (v := some (.int (nI 0))) (by rw [hq_3289]) (⟨fun _ => by rw [hq_3289]; exact pk_uLs, by rw [hq_3289]; exact (by decide : (0 : Nat) < 10), hq_3290⟩) hP9 hD9 (trivial) hS) hS dX0_minutesOf_16 (show 0 + 2 ≤ 2 from by first | exact Nat.le_refl _ | decide | omega) (show 0 + 8 ≤ 8 from by first | exact Nat.le_refl _ | decide | omega)

set_option maxHeartbeats 4000000 in
theorem wX0_minutesInZone (l : Launch) (G : Gt) (d : Nat) (S : DS) (WA : va_W) (o : Nat) (of : Nat → Int64) (v : Int32) (w : Int32) (h : DyW G d S WA) (hfl : l.stackTraces = false) : CTW l G yX0_minutesInZone cX0_minutesInZone 5 (some .int) [(0, 10, 13, 24), (0, 10, 17, 13)] ({ frames := 10, cells := 4, slots := 20, locals := 211 } : Room) [.ref d, .int v, .int w, .ref o] ([(o, .inl (G.2 5, 1, .inr (.inl of)))] ++ (WA ++ [])) RH0 (S := (Nat → Int64) × va_W) (fun (u_ : (Nat → Int64) × va_W) => some (.int (nI ((q_minZ (dC S) v w).1)))) (fun (u_ : (Nat → Int64) × va_W) => ((q_minZ (dC S) v w).1 = 0 → u_.1 0 = ((q_minZ (dC S) v w).2).toInt64) ∧ (q_minZ (dC S) v w).1 < 10 ∧ DyW G d S u_.2) (fun (u_ : (Nat → Int64) × va_W) => ([(o, .inl (G.2 5, 1, .inr (.inl u_.1)))] ++ (u_.2 ++ []))) (fun (u_ : (Nat → Int64) × va_W) (H : Heap) => True) := by
  refine CTW.of (by decide) (Nat.le_of_ble_eq_true rfl) ?_
  intro p e s m below meth c ls A H locs h9 hH0 hP hS hNc htab
  obtain ⟨cf, hr, hlk, hnm, hKB, hE, -, hD, -, hA, hAw, hRH, hl⟩ := h9
  have hx := cf.1
  have hb := cf.2.1
  have hml := cf.2.2.1
  have hown : s.vm.findClass RX0 = some m.cls := cf.2.2.2.1
  have hts := cf.2.2.2.2
  have hK := hKB.1
  have hl : lv_has ls 5 [(0, .ref d), (1, .int v), (2, .int w), (3, .ref o)] := hl
  refine lv_aload_n hx hb dX0_minutesInZone_0 rfl (lv_at hl 3 rfl) ?_
  refine lv_iconst (v := nI 0) hx hb dX0_minutesInZone_1 (by decide) ?_
  refine lv_aload_n hx hb dX0_minutesInZone_2 rfl (lv_at hl 0 rfl) ?_
  refine lv_iload_n hx hb dX0_minutesInZone_3 rfl (lv_at hl 1 rfl) ?_
  refine lv_iload_n hx hb dX0_minutesInZone_4 rfl (lv_at hl 2 rfl) ?_
  have hpm_3293 : (([(o, .inl (G.2 5, 1, .inr (.inl of)))] ++ (WA ++ [])) : va_W).Perm ((WA ++ []) ++ [(o, .inl (G.2 5, 1, .inr (.inl of)))]) := segs_perm [[(o, .inl (G.2 5, 1, .inr (.inl of)))], WA] [1] [0] rfl
  have hF := hF_ofP (wc := (WA ++ [])) hD hS hA hpm_3293
  refine go_cxP hS hP hD hpm_3293 hF
      (vx_runV (As := [.int v, .int w]) (rest := [.int (nI 0), .ref o]) cf (dX1_minutesInZone l G d S WA v w (show DyW G d S WA from by first | assumption | omega) hfl H.size) (cwV 2 hts (lw_V q1248 q1249 q1250 q47 q1251) rfl rfl rfl (by decide +kernel) ⟨Nat.le_of_ble_eq_true rfl, Nat.le_of_ble_eq_true rfl⟩) (preV_of hKB hE hS hF (DyW.recv hK h (seg_at [[(o, .inl (G.2 5, 1, .inr (.inl of)))], WA] 1 rfl hP)) (P_left (P_perm hpm_3293 hP)) ((D_left (D_perm hpm_3293 hD)).weaken (fun _ _ _ _ => trivial)) trivial) rfl rfl hl.1 rfl (lv_room (Nat.le_of_ble_eq_true rfl)) dX0_minutesInZone_5 ⟨show 0 + 4 ≤ 4 from by first | decide | omega, show 0 + 20 ≤ 20 from by first | decide | omega⟩)
      (fun u_ H locs ce q9 hq hph (hP : va_P G.1 CL ([(o, .inl (G.2 5, 1, .inr (.inl of)))] ++ (u_.2 ++ [])) H) (hD : va_D A ([(o, .inl (G.2 5, 1, .inr (.inl of)))] ++ (u_.2 ++ []))) hS hfz hfk hce hcv hcl => ?_) (fun u_ H locs hq hph (hP : va_P G.1 CL ([(o, .inl (G.2 5, 1, .inr (.inl of)))] ++ (u_.2 ++ [])) H) (hD : va_D A ([(o, .inl (G.2 5, 1, .inr (.inl of)))] ++ (u_.2 ++ []))) hS hfz hfk => ?_)
  · obtain ⟨kx_3296, W2_3297⟩ := u_
    obtain ⟨hq_3298, hq_3299, hq_3300⟩ : (q_minZ (dC S) v w).1 = kx_3296 ∧ DyW G d S W2_3297 ∧ 1 ≤ kx_3296 ∧ kx_3296 ≤ 2 := hq
    have hpm_3301 : ([(o, .inl (G.2 5, 1, .inr (.inl of)))] ++ (W2_3297 ++ []) : va_W).Perm ([(o, .inl (G.2 5, 1, .inr (.inl of)))] ++ (W2_3297 ++ [])) := segs_perm2 [[(o, .inl (G.2 5, 1, .inr (.inl of)))]] [W2_3297] [0, 1] rfl
    have hP : va_P G.1 CL ([(o, .inl (G.2 5, 1, .inr (.inl of)))] ++ (W2_3297 ++ [])) H := P_perm hpm_3301 hP
    have hD : va_D A ([(o, .inl (G.2 5, 1, .inr (.inl of)))] ++ (W2_3297 ++ [])) := D_perm hpm_3301 hD
    rcases (show kx_3296 = 1 ∨ kx_3296 = 2 by omega) with rfl | rfl
    · have hcl9 : s.vm.findClass eN = some ce.cls := hcl
      refine vx_catch (name := eN) (E := eN) hown [] (⟨0, 10, 13, 24⟩ : ExceptionTableEntry) [(⟨0, 10, 17, 13⟩ : ExceptionTableEntry)] (by rw [htab]; rfl) (fun z hz => absurd hz List.not_mem_nil) (by decide) (by decide) (hts _ q1013) (va_Nw.use rfl (hKB.nest q334 rfl)) hce hcv hcl9 ?_
      refine W.eq (g2 := F0 m 13 ls [.ref q9]) rfl ?_
      refine lv_astore (lv' := [(4, .ref q9), (0, .ref d), (1, .int v), (2, .int w), (3, .ref o)]) hx hb dX0_minutesInZone_13 hl (by decide) rfl (fun ls hl => ?_)
      refine lv_iconst (v := nI 1) hx hb dX0_minutesInZone_15 (by decide) ?_
      refine vx_ret ?_
      have hpm_3302 : (([(o, .inl (G.2 5, 1, .inr (.inl of)))] ++ (W2_3297 ++ [])) : va_W).Perm (([(o, .inl (G.2 5, 1, .inr (.inl of)))] ++ (W2_3297 ++ [])) ++ []) := segs_perm [[(o, .inl (G.2 5, 1, .inr (.inl of)))], W2_3297] [0, 1] [] rfl
      have hP9 : va_P G.1 CL ([(o, .inl (G.2 5, 1, .inr (.inl of)))] ++ (W2_3297 ++ [])) H := P_left (P_perm hpm_3302 hP)
      have hD9 : va_D A ([(o, .inl (G.2 5, 1, .inr (.inl of)))] ++ (W2_3297 ++ [])) := D_left (D_perm hpm_3302 hD)
      exact end_i hx hb hr hlk (rfl) (qc_of (of, W2_3297) (v := some (.int (nI 1))) (by rw [hq_3298]) (⟨fun z9 => absurd (hq_3298.symm.trans z9) (by decide), by rw [hq_3298]; decide, hq_3299⟩) hP9 hD9 (trivial) hS) hS dX0_minutesInZone_16 (show 0 + 4 ≤ 4 from by first | exact Nat.le_refl _ | decide | omega) (show 0 + 20 ≤ 20 from by first | exact Nat.le_refl _ | decide | omega)
    · have hcl9 : s.vm.findClass eA = some ce.cls := hcl
      refine vx_catch (name := eA) (E := eA) hown [(⟨0, 10, 13, 24⟩ : ExceptionTableEntry)] (⟨0, 10, 17, 13⟩ : ExceptionTableEntry) [] (by rw [htab]; rfl) (fun z hz => by rcases List.mem_singleton.mp hz with rfl; exact Or.inr ⟨by decide, _, hts _ q1013, hNc _ (List.mem_of_getElem? (i := 1) rfl)⟩) (by decide) (by decide) (hts _ q680) (va_Nw.use rfl (hKB.nest q698 rfl)) hce hcv hcl9 ?_
      refine W.eq (g2 := F0 m 17 ls [.ref q9]) rfl ?_
      refine lv_astore (lv' := [(4, .ref q9), (0, .ref d), (1, .int v), (2, .int w), (3, .ref o)]) hx hb dX0_minutesInZone_17 hl (by decide) rfl (fun ls hl => ?_)
      refine lv_iconst (v := nI 2) hx hb dX0_minutesInZone_19 (by decide) ?_
      refine vx_ret ?_
      have hpm_3303 : (([(o, .inl (G.2 5, 1, .inr (.inl of)))] ++ (W2_3297 ++ [])) : va_W).Perm (([(o, .inl (G.2 5, 1, .inr (.inl of)))] ++ (W2_3297 ++ [])) ++ []) := segs_perm [[(o, .inl (G.2 5, 1, .inr (.inl of)))], W2_3297] [0, 1] [] rfl
      have hP9 : va_P G.1 CL ([(o, .inl (G.2 5, 1, .inr (.inl of)))] ++ (W2_3297 ++ [])) H := P_left (P_perm hpm_3303 hP)
      have hD9 : va_D A ([(o, .inl (G.2 5, 1, .inr (.inl of)))] ++ (W2_3297 ++ [])) := D_left (D_perm hpm_3303 hD)
      exact end_i hx hb hr hlk (rfl) (qc_of (of, W2_3297) (v := some (.int (nI 2))) (by rw [hq_3298]) (⟨fun z9 => absurd (hq_3298.symm.trans z9) (by decide), by rw [hq_3298]; decide, hq_3299⟩) hP9 hD9 (trivial) hS) hS dX0_minutesInZone_20 (show 0 + 4 ≤ 4 from by first | exact Nat.le_refl _ | decide | omega) (show 0 + 20 ≤ 20 from by first | exact Nat.le_refl _ | decide | omega)
  · obtain ⟨rr_3294, W2_3295⟩ := u_
    obtain ⟨hq_3304, hq_3305⟩ : q_minZ (dC S) v w = (0, rr_3294) ∧ DyW G d S W2_3295 := hq
    have hpm_3306 : ([(o, .inl (G.2 5, 1, .inr (.inl of)))] ++ (W2_3295 ++ []) : va_W).Perm ([(o, .inl (G.2 5, 1, .inr (.inl of)))] ++ (W2_3295 ++ [])) := segs_perm2 [[(o, .inl (G.2 5, 1, .inr (.inl of)))]] [W2_3295] [0, 1] rfl
    have hP : va_P G.1 CL ([(o, .inl (G.2 5, 1, .inr (.inl of)))] ++ (W2_3295 ++ [])) H := P_perm hpm_3306 hP
    have hD : va_D A ([(o, .inl (G.2 5, 1, .inr (.inl of)))] ++ (W2_3295 ++ [])) := D_perm hpm_3306 hD
    refine W.eq (g2 := F0 m 8 ls [.int rr_3294, .int (nI 0), .ref o]) rfl ?_
    refine lv_i2l (v := (rr_3294).toInt64) hx hb dX0_minutesInZone_8 rfl ?_
    refine r_last hx hb hK hP hD hS 0 5 rfl rfl (i := 0) (by omega) (by omega) dX0_minutesInZone_9 (fun H locs (hP : va_P G.1 CL ([(o, .inl (G.2 5, 1, .inr (.inl (vp_updL of 0 ((rr_3294).toInt64)))))] ++ (W2_3295 ++ [])) H) (hD : va_D A ([(o, .inl (G.2 5, 1, .inr (.inl (vp_updL of 0 ((rr_3294).toInt64)))))] ++ (W2_3295 ++ []))) hS => ?_)
    refine lv_goto (tgt := 21) hx hb dX0_minutesInZone_10 (by decide) ?_
    refine lv_iconst (v := nI 0) hx hb dX0_minutesInZone_21 (by decide) ?_
    refine vx_ret ?_
    have hpm_3307 : (([(o, .inl (G.2 5, 1, .inr (.inl (vp_updL of 0 ((rr_3294).toInt64)))))] ++ (W2_3295 ++ [])) : va_W).Perm (([(o, .inl (G.2 5, 1, .inr (.inl (vp_updL of 0 ((rr_3294).toInt64)))))] ++ (W2_3295 ++ [])) ++ []) := segs_perm [[(o, .inl (G.2 5, 1, .inr (.inl (vp_updL of 0 ((rr_3294).toInt64)))))], W2_3295] [0, 1] [] rfl
    have hP9 : va_P G.1 CL ([(o, .inl (G.2 5, 1, .inr (.inl (vp_updL of 0 ((rr_3294).toInt64)))))] ++ (W2_3295 ++ [])) H := P_left (P_perm hpm_3307 hP)
    have hD9 : va_D A ([(o, .inl (G.2 5, 1, .inr (.inl (vp_updL of 0 ((rr_3294).toInt64)))))] ++ (W2_3295 ++ [])) := D_left (D_perm hpm_3307 hD)
    exact end_i hx hb hr hlk (rfl) (qc_of (vp_updL of 0 ((rr_3294).toInt64), W2_3295) (v := some (.int (nI 0))) (by rw [hq_3304]) (⟨fun _ => by rw [hq_3304]; exact pk_uLs, by rw [hq_3304]; exact (by decide : (0 : Nat) < 10), hq_3305⟩) hP9 hD9 (trivial) hS) hS dX0_minutesInZone_22 (show 0 + 4 ≤ 4 from by first | exact Nat.le_refl _ | decide | omega) (show 0 + 20 ≤ 20 from by first | exact Nat.le_refl _ | decide | omega)

set_option maxHeartbeats 4000000 in
theorem wX0_loadOf (l : Launch) (G : Gt) (d : Nat) (S : DS) (WA : va_W) (o : Nat) (of : Nat → Int64) (v : Int32) (h : DyW G d S WA) (hfl : l.stackTraces = false) : CTW l G yX0_loadOf cX0_loadOf 4 (some .int) [(0, 9, 12, 24)] ({ frames := 10, cells := 3, slots := 12, locals := 208 } : Room) [.ref d, .int v, .ref o] ([(o, .inl (G.2 5, 1, .inr (.inl of)))] ++ (WA ++ [])) RH0 (S := (Nat → Int64) × va_W) (fun (u_ : (Nat → Int64) × va_W) => some (.int (nI ((q_loadOf (dC S) v).1)))) (fun (u_ : (Nat → Int64) × va_W) => ((q_loadOf (dC S) v).1 = 0 → u_.1 0 = ((q_loadOf (dC S) v).2).toInt64) ∧ (q_loadOf (dC S) v).1 < 10 ∧ DyW G d S u_.2) (fun (u_ : (Nat → Int64) × va_W) => ([(o, .inl (G.2 5, 1, .inr (.inl u_.1)))] ++ (u_.2 ++ []))) (fun (u_ : (Nat → Int64) × va_W) (H : Heap) => True) := by
  refine CTW.of (by decide) (Nat.le_of_ble_eq_true rfl) ?_
  intro p e s m below meth c ls A H locs h9 hH0 hP hS hNc htab
  obtain ⟨cf, hr, hlk, hnm, hKB, hE, -, hD, -, hA, hAw, hRH, hl⟩ := h9
  have hx := cf.1
  have hb := cf.2.1
  have hml := cf.2.2.1
  have hown : s.vm.findClass RX0 = some m.cls := cf.2.2.2.1
  have hts := cf.2.2.2.2
  have hK := hKB.1
  have hl : lv_has ls 4 [(0, .ref d), (1, .int v), (2, .ref o)] := hl
  refine lv_aload_n hx hb dX0_loadOf_0 rfl (lv_at hl 2 rfl) ?_
  refine lv_iconst (v := nI 0) hx hb dX0_loadOf_1 (by decide) ?_
  refine lv_aload_n hx hb dX0_loadOf_2 rfl (lv_at hl 0 rfl) ?_
  refine lv_iload_n hx hb dX0_loadOf_3 rfl (lv_at hl 1 rfl) ?_
  have hpm_3308 : (([(o, .inl (G.2 5, 1, .inr (.inl of)))] ++ (WA ++ [])) : va_W).Perm ((WA ++ []) ++ [(o, .inl (G.2 5, 1, .inr (.inl of)))]) := segs_perm [[(o, .inl (G.2 5, 1, .inr (.inl of)))], WA] [1] [0] rfl
  have hF := hF_ofP (wc := (WA ++ [])) hD hS hA hpm_3308
  refine go_cxP hS hP hD hpm_3308 hF
      (vx_runV (As := [.int v]) (rest := [.int (nI 0), .ref o]) cf (dX1_loadOf l G d S WA v (show DyW G d S WA from by first | assumption | omega) hfl H.size) (cwV 1 hts (lw_V q1259 q1260 q1261 q47 q1262) rfl rfl rfl (by decide +kernel) ⟨Nat.le_of_ble_eq_true rfl, Nat.le_of_ble_eq_true rfl⟩) (preV_of hKB hE hS hF (DyW.recv hK h (seg_at [[(o, .inl (G.2 5, 1, .inr (.inl of)))], WA] 1 rfl hP)) (P_left (P_perm hpm_3308 hP)) ((D_left (D_perm hpm_3308 hD)).weaken (fun _ _ _ _ => trivial)) trivial) rfl rfl hl.1 rfl (lv_room (Nat.le_of_ble_eq_true rfl)) dX0_loadOf_4 ⟨show 0 + 3 ≤ 3 from by first | decide | omega, show 0 + 12 ≤ 12 from by first | decide | omega⟩)
      (fun u_ H locs ce q9 hq hph (hP : va_P G.1 CL ([(o, .inl (G.2 5, 1, .inr (.inl of)))] ++ (u_.2 ++ [])) H) (hD : va_D A ([(o, .inl (G.2 5, 1, .inr (.inl of)))] ++ (u_.2 ++ []))) hS hfz hfk hce hcv hcl => ?_) (fun u_ H locs hq hph (hP : va_P G.1 CL ([(o, .inl (G.2 5, 1, .inr (.inl of)))] ++ (u_.2 ++ [])) H) (hD : va_D A ([(o, .inl (G.2 5, 1, .inr (.inl of)))] ++ (u_.2 ++ []))) hS hfz hfk => ?_)
  · obtain ⟨kx_3311, W2_3312⟩ := u_
    obtain ⟨hq_3313, hq_3314, hq_3315⟩ : (q_loadOf (dC S) v).1 = kx_3311 ∧ DyW G d S W2_3312 ∧ 1 ≤ kx_3311 ∧ kx_3311 ≤ 1 := hq
    have hpm_3316 : ([(o, .inl (G.2 5, 1, .inr (.inl of)))] ++ (W2_3312 ++ []) : va_W).Perm ([(o, .inl (G.2 5, 1, .inr (.inl of)))] ++ (W2_3312 ++ [])) := segs_perm2 [[(o, .inl (G.2 5, 1, .inr (.inl of)))]] [W2_3312] [0, 1] rfl
    have hP : va_P G.1 CL ([(o, .inl (G.2 5, 1, .inr (.inl of)))] ++ (W2_3312 ++ [])) H := P_perm hpm_3316 hP
    have hD : va_D A ([(o, .inl (G.2 5, 1, .inr (.inl of)))] ++ (W2_3312 ++ [])) := D_perm hpm_3316 hD
    obtain rfl : kx_3311 = 1 := by omega
    have hcl9 : s.vm.findClass eN = some ce.cls := hcl
    refine vx_catch (name := eN) (E := eN) hown [] (⟨0, 9, 12, 24⟩ : ExceptionTableEntry) [] (by rw [htab]; rfl) (fun z hz => absurd hz List.not_mem_nil) (by decide) (by decide) (hts _ q1013) (va_Nw.use rfl (hKB.nest q334 rfl)) hce hcv hcl9 ?_
    refine W.eq (g2 := F0 m 12 ls [.ref q9]) rfl ?_
    refine lv_astore_n (lv' := [(3, .ref q9), (0, .ref d), (1, .int v), (2, .ref o)]) hx hb dX0_loadOf_12 rfl hl (by decide) rfl (fun ls hl => ?_)
    refine lv_iconst (v := nI 1) hx hb dX0_loadOf_13 (by decide) ?_
    refine vx_ret ?_
    have hpm_3317 : (([(o, .inl (G.2 5, 1, .inr (.inl of)))] ++ (W2_3312 ++ [])) : va_W).Perm (([(o, .inl (G.2 5, 1, .inr (.inl of)))] ++ (W2_3312 ++ [])) ++ []) := segs_perm [[(o, .inl (G.2 5, 1, .inr (.inl of)))], W2_3312] [0, 1] [] rfl
    have hP9 : va_P G.1 CL ([(o, .inl (G.2 5, 1, .inr (.inl of)))] ++ (W2_3312 ++ [])) H := P_left (P_perm hpm_3317 hP)
    have hD9 : va_D A ([(o, .inl (G.2 5, 1, .inr (.inl of)))] ++ (W2_3312 ++ [])) := D_left (D_perm hpm_3317 hD)
    exact end_i hx hb hr hlk (rfl) (qc_of (of, W2_3312) (v := some (.int (nI 1))) (by rw [hq_3313]) (⟨fun z9 => absurd (hq_3313.symm.trans z9) (by decide), by rw [hq_3313]; decide, hq_3314⟩) hP9 hD9 (trivial) hS) hS dX0_loadOf_14 (show 0 + 3 ≤ 3 from by first | exact Nat.le_refl _ | decide | omega) (show 0 + 12 ≤ 12 from by first | exact Nat.le_refl _ | decide | omega)
  · obtain ⟨rr_3309, W2_3310⟩ := u_
    obtain ⟨hq_3318, hq_3319⟩ : q_loadOf (dC S) v = (0, rr_3309) ∧ DyW G d S W2_3310 := hq
    have hpm_3320 : ([(o, .inl (G.2 5, 1, .inr (.inl of)))] ++ (W2_3310 ++ []) : va_W).Perm ([(o, .inl (G.2 5, 1, .inr (.inl of)))] ++ (W2_3310 ++ [])) := segs_perm2 [[(o, .inl (G.2 5, 1, .inr (.inl of)))]] [W2_3310] [0, 1] rfl
    have hP : va_P G.1 CL ([(o, .inl (G.2 5, 1, .inr (.inl of)))] ++ (W2_3310 ++ [])) H := P_perm hpm_3320 hP
    have hD : va_D A ([(o, .inl (G.2 5, 1, .inr (.inl of)))] ++ (W2_3310 ++ [])) := D_perm hpm_3320 hD
    refine W.eq (g2 := F0 m 7 ls [.int rr_3309, .int (nI 0), .ref o]) rfl ?_
    refine lv_i2l (v := (rr_3309).toInt64) hx hb dX0_loadOf_7 rfl ?_
    refine r_last hx hb hK hP hD hS 0 5 rfl rfl (i := 0) (by omega) (by omega) dX0_loadOf_8 (fun H locs (hP : va_P G.1 CL ([(o, .inl (G.2 5, 1, .inr (.inl (vp_updL of 0 ((rr_3309).toInt64)))))] ++ (W2_3310 ++ [])) H) (hD : va_D A ([(o, .inl (G.2 5, 1, .inr (.inl (vp_updL of 0 ((rr_3309).toInt64)))))] ++ (W2_3310 ++ []))) hS => ?_)
    refine lv_goto (tgt := 15) hx hb dX0_loadOf_9 (by decide) ?_
    refine lv_iconst (v := nI 0) hx hb dX0_loadOf_15 (by decide) ?_
    refine vx_ret ?_
    have hpm_3321 : (([(o, .inl (G.2 5, 1, .inr (.inl (vp_updL of 0 ((rr_3309).toInt64)))))] ++ (W2_3310 ++ [])) : va_W).Perm (([(o, .inl (G.2 5, 1, .inr (.inl (vp_updL of 0 ((rr_3309).toInt64)))))] ++ (W2_3310 ++ [])) ++ []) := segs_perm [[(o, .inl (G.2 5, 1, .inr (.inl (vp_updL of 0 ((rr_3309).toInt64)))))], W2_3310] [0, 1] [] rfl
    have hP9 : va_P G.1 CL ([(o, .inl (G.2 5, 1, .inr (.inl (vp_updL of 0 ((rr_3309).toInt64)))))] ++ (W2_3310 ++ [])) H := P_left (P_perm hpm_3321 hP)
    have hD9 : va_D A ([(o, .inl (G.2 5, 1, .inr (.inl (vp_updL of 0 ((rr_3309).toInt64)))))] ++ (W2_3310 ++ [])) := D_left (D_perm hpm_3321 hD)
    exact end_i hx hb hr hlk (rfl) (qc_of (vp_updL of 0 ((rr_3309).toInt64), W2_3310) (v := some (.int (nI 0))) (by rw [hq_3318]) (⟨fun _ => by rw [hq_3318]; exact pk_uLs, by rw [hq_3318]; exact (by decide : (0 : Nat) < 10), hq_3319⟩) hP9 hD9 (trivial) hS) hS dX0_loadOf_16 (show 0 + 3 ≤ 3 from by first | exact Nat.le_refl _ | decide | omega) (show 0 + 12 ≤ 12 from by first | exact Nat.le_refl _ | decide | omega)

set_option maxHeartbeats 4000000 in
theorem wX0_loadOn (l : Launch) (G : Gt) (d : Nat) (S : DS) (WA : va_W) (o : Nat) (of : Nat → Int64) (v : Int32) (h : DyW G d S WA) (hfl : l.stackTraces = false) : CTW l G yX0_loadOn cX0_loadOn 4 (some .int) [(0, 9, 12, 13)] ({ frames := 13, cells := 8300, slots := 17000, locals := 276 } : Room) [.ref d, .int v, .ref o] ([(o, .inl (G.2 5, 1, .inr (.inl of)))] ++ (WA ++ [])) RH0 (S := (Nat → Int64) × va_W) (fun (u_ : (Nat → Int64) × va_W) => some (.int (nI ((q_loadOn (dC S) v).1)))) (fun (u_ : (Nat → Int64) × va_W) => ((q_loadOn (dC S) v).1 = 0 → u_.1 0 = ((q_loadOn (dC S) v).2).toInt64) ∧ (q_loadOn (dC S) v).1 < 10 ∧ DyW G d S u_.2) (fun (u_ : (Nat → Int64) × va_W) => ([(o, .inl (G.2 5, 1, .inr (.inl u_.1)))] ++ (u_.2 ++ []))) (fun (u_ : (Nat → Int64) × va_W) (H : Heap) => True) := by
  refine CTW.of (by decide) (Nat.le_of_ble_eq_true rfl) ?_
  intro p e s m below meth c ls A H locs h9 hH0 hP hS hNc htab
  obtain ⟨cf, hr, hlk, hnm, hKB, hE, -, hD, -, hA, hAw, hRH, hl⟩ := h9
  have hx := cf.1
  have hb := cf.2.1
  have hml := cf.2.2.1
  have hown : s.vm.findClass RX0 = some m.cls := cf.2.2.2.1
  have hts := cf.2.2.2.2
  have hK := hKB.1
  have hl : lv_has ls 4 [(0, .ref d), (1, .int v), (2, .ref o)] := hl
  refine lv_aload_n hx hb dX0_loadOn_0 rfl (lv_at hl 2 rfl) ?_
  refine lv_iconst (v := nI 0) hx hb dX0_loadOn_1 (by decide) ?_
  refine lv_aload_n hx hb dX0_loadOn_2 rfl (lv_at hl 0 rfl) ?_
  refine lv_iload_n hx hb dX0_loadOn_3 rfl (lv_at hl 1 rfl) ?_
  have hpm_3322 : (([(o, .inl (G.2 5, 1, .inr (.inl of)))] ++ (WA ++ [])) : va_W).Perm ((WA ++ []) ++ [(o, .inl (G.2 5, 1, .inr (.inl of)))]) := segs_perm [[(o, .inl (G.2 5, 1, .inr (.inl of)))], WA] [1] [0] rfl
  have hF := hF_ofP (wc := (WA ++ [])) hD hS hA hpm_3322
  refine go_cxP hS hP hD hpm_3322 hF
      (vx_runV (As := [.int v]) (rest := [.int (nI 0), .ref o]) cf (dX1_loadOn l G d S WA v (show DyW G d S WA from by first | assumption | omega) hfl H.size) (cwV 1 hts (lw_V q1267 q1268 q1269 q47 q1270) rfl rfl rfl (by decide +kernel) ⟨Nat.le_of_ble_eq_true rfl, Nat.le_of_ble_eq_true rfl⟩) (preV_of hKB hE hS hF (DyW.recv hK h (seg_at [[(o, .inl (G.2 5, 1, .inr (.inl of)))], WA] 1 rfl hP)) (P_left (P_perm hpm_3322 hP)) ((D_left (D_perm hpm_3322 hD)).weaken (fun _ _ _ _ => trivial)) trivial) rfl rfl hl.1 rfl (lv_room (Nat.le_of_ble_eq_true rfl)) dX0_loadOn_4 ⟨show 0 + 8300 ≤ 8300 from by first | decide | omega, show 0 + 17000 ≤ 17000 from by first | decide | omega⟩)
      (fun u_ H locs ce q9 hq hph (hP : va_P G.1 CL ([(o, .inl (G.2 5, 1, .inr (.inl of)))] ++ (u_.2 ++ [])) H) (hD : va_D A ([(o, .inl (G.2 5, 1, .inr (.inl of)))] ++ (u_.2 ++ []))) hS hfz hfk hce hcv hcl => ?_) (fun u_ H locs hq hph (hP : va_P G.1 CL ([(o, .inl (G.2 5, 1, .inr (.inl of)))] ++ (u_.2 ++ [])) H) (hD : va_D A ([(o, .inl (G.2 5, 1, .inr (.inl of)))] ++ (u_.2 ++ []))) hS hfz hfk => ?_)
  · obtain ⟨kx_3325, W2_3326⟩ := u_
    obtain ⟨hq_3327, hq_3328, hq_3329⟩ : (q_loadOn (dC S) v).1 = kx_3325 ∧ DyW G d S W2_3326 ∧ 1 ≤ kx_3325 ∧ kx_3325 ≤ 1 := hq
    have hpm_3330 : ([(o, .inl (G.2 5, 1, .inr (.inl of)))] ++ (W2_3326 ++ []) : va_W).Perm ([(o, .inl (G.2 5, 1, .inr (.inl of)))] ++ (W2_3326 ++ [])) := segs_perm2 [[(o, .inl (G.2 5, 1, .inr (.inl of)))]] [W2_3326] [0, 1] rfl
    have hP : va_P G.1 CL ([(o, .inl (G.2 5, 1, .inr (.inl of)))] ++ (W2_3326 ++ [])) H := P_perm hpm_3330 hP
    have hD : va_D A ([(o, .inl (G.2 5, 1, .inr (.inl of)))] ++ (W2_3326 ++ [])) := D_perm hpm_3330 hD
    obtain rfl : kx_3325 = 1 := by omega
    have hcl9 : s.vm.findClass eA = some ce.cls := hcl
    refine vx_catch (name := eA) (E := eA) hown [] (⟨0, 9, 12, 13⟩ : ExceptionTableEntry) [] (by rw [htab]; rfl) (fun z hz => absurd hz List.not_mem_nil) (by decide) (by decide) (hts _ q680) (va_Nw.use rfl (hKB.nest q698 rfl)) hce hcv hcl9 ?_
    refine W.eq (g2 := F0 m 12 ls [.ref q9]) rfl ?_
    refine lv_astore_n (lv' := [(3, .ref q9), (0, .ref d), (1, .int v), (2, .ref o)]) hx hb dX0_loadOn_12 rfl hl (by decide) rfl (fun ls hl => ?_)
    refine lv_iconst (v := nI 1) hx hb dX0_loadOn_13 (by decide) ?_
    refine vx_ret ?_
    have hpm_3331 : (([(o, .inl (G.2 5, 1, .inr (.inl of)))] ++ (W2_3326 ++ [])) : va_W).Perm (([(o, .inl (G.2 5, 1, .inr (.inl of)))] ++ (W2_3326 ++ [])) ++ []) := segs_perm [[(o, .inl (G.2 5, 1, .inr (.inl of)))], W2_3326] [0, 1] [] rfl
    have hP9 : va_P G.1 CL ([(o, .inl (G.2 5, 1, .inr (.inl of)))] ++ (W2_3326 ++ [])) H := P_left (P_perm hpm_3331 hP)
    have hD9 : va_D A ([(o, .inl (G.2 5, 1, .inr (.inl of)))] ++ (W2_3326 ++ [])) := D_left (D_perm hpm_3331 hD)
    exact end_i hx hb hr hlk (rfl) (qc_of (of, W2_3326) (v := some (.int (nI 1))) (by rw [hq_3327]) (⟨fun z9 => absurd (hq_3327.symm.trans z9) (by decide), by rw [hq_3327]; decide, hq_3328⟩) hP9 hD9 (trivial) hS) hS dX0_loadOn_14 (show 0 + 8300 ≤ 8300 from by first | exact Nat.le_refl _ | decide | omega) (show 0 + 17000 ≤ 17000 from by first | exact Nat.le_refl _ | decide | omega)
  · obtain ⟨rr_3323, W2_3324⟩ := u_
    obtain ⟨hq_3332, hq_3333⟩ : q_loadOn (dC S) v = (0, rr_3323) ∧ DyW G d S W2_3324 := hq
    have hpm_3334 : ([(o, .inl (G.2 5, 1, .inr (.inl of)))] ++ (W2_3324 ++ []) : va_W).Perm ([(o, .inl (G.2 5, 1, .inr (.inl of)))] ++ (W2_3324 ++ [])) := segs_perm2 [[(o, .inl (G.2 5, 1, .inr (.inl of)))]] [W2_3324] [0, 1] rfl
    have hP : va_P G.1 CL ([(o, .inl (G.2 5, 1, .inr (.inl of)))] ++ (W2_3324 ++ [])) H := P_perm hpm_3334 hP
    have hD : va_D A ([(o, .inl (G.2 5, 1, .inr (.inl of)))] ++ (W2_3324 ++ [])) := D_perm hpm_3334 hD
    refine W.eq (g2 := F0 m 7 ls [.int rr_3323, .int (nI 0), .ref o]) rfl ?_
    refine lv_i2l (v := (rr_3323).toInt64) hx hb dX0_loadOn_7 rfl ?_
    refine r_last hx hb hK hP hD hS 0 5 rfl rfl (i := 0) (by omega) (by omega) dX0_loadOn_8 (fun H locs (hP : va_P G.1 CL ([(o, .inl (G.2 5, 1, .inr (.inl (vp_updL of 0 ((rr_3323).toInt64)))))] ++ (W2_3324 ++ [])) H) (hD : va_D A ([(o, .inl (G.2 5, 1, .inr (.inl (vp_updL of 0 ((rr_3323).toInt64)))))] ++ (W2_3324 ++ []))) hS => ?_)
    refine lv_goto (tgt := 15) hx hb dX0_loadOn_9 (by decide) ?_
    refine lv_iconst (v := nI 0) hx hb dX0_loadOn_15 (by decide) ?_
    refine vx_ret ?_
    have hpm_3335 : (([(o, .inl (G.2 5, 1, .inr (.inl (vp_updL of 0 ((rr_3323).toInt64)))))] ++ (W2_3324 ++ [])) : va_W).Perm (([(o, .inl (G.2 5, 1, .inr (.inl (vp_updL of 0 ((rr_3323).toInt64)))))] ++ (W2_3324 ++ [])) ++ []) := segs_perm [[(o, .inl (G.2 5, 1, .inr (.inl (vp_updL of 0 ((rr_3323).toInt64)))))], W2_3324] [0, 1] [] rfl
    have hP9 : va_P G.1 CL ([(o, .inl (G.2 5, 1, .inr (.inl (vp_updL of 0 ((rr_3323).toInt64)))))] ++ (W2_3324 ++ [])) H := P_left (P_perm hpm_3335 hP)
    have hD9 : va_D A ([(o, .inl (G.2 5, 1, .inr (.inl (vp_updL of 0 ((rr_3323).toInt64)))))] ++ (W2_3324 ++ [])) := D_left (D_perm hpm_3335 hD)
    exact end_i hx hb hr hlk (rfl) (qc_of (vp_updL of 0 ((rr_3323).toInt64), W2_3324) (v := some (.int (nI 0))) (by rw [hq_3332]) (⟨fun _ => by rw [hq_3332]; exact pk_uLs, by rw [hq_3332]; exact (by decide : (0 : Nat) < 10), hq_3333⟩) hP9 hD9 (trivial) hS) hS dX0_loadOn_16 (show 0 + 8300 ≤ 8300 from by first | exact Nat.le_refl _ | decide | omega) (show 0 + 17000 ≤ 17000 from by first | exact Nat.le_refl _ | decide | omega)

set_option maxHeartbeats 4000000 in
theorem wX0_fitnessOn (l : Launch) (G : Gt) (d : Nat) (S : DS) (WA : va_W) (o : Nat) (of : Nat → Int64) (v : Int32) (h : DyW G d S WA) (hfl : l.stackTraces = false) : CTW l G yX0_fitnessOn cX0_fitnessOn 4 (some .int) [(0, 9, 12, 13)] ({ frames := 13, cells := 8300, slots := 17000, locals := 276 } : Room) [.ref d, .int v, .ref o] ([(o, .inl (G.2 5, 1, .inr (.inl of)))] ++ (WA ++ [])) RH0 (S := (Nat → Int64) × va_W) (fun (u_ : (Nat → Int64) × va_W) => some (.int (nI ((q_fit (dC S) v).1)))) (fun (u_ : (Nat → Int64) × va_W) => ((q_fit (dC S) v).1 = 0 → u_.1 0 = ((q_fit (dC S) v).2).toInt64) ∧ (q_fit (dC S) v).1 < 10 ∧ DyW G d S u_.2) (fun (u_ : (Nat → Int64) × va_W) => ([(o, .inl (G.2 5, 1, .inr (.inl u_.1)))] ++ (u_.2 ++ []))) (fun (u_ : (Nat → Int64) × va_W) (H : Heap) => True) := by
  refine CTW.of (by decide) (Nat.le_of_ble_eq_true rfl) ?_
  intro p e s m below meth c ls A H locs h9 hH0 hP hS hNc htab
  obtain ⟨cf, hr, hlk, hnm, hKB, hE, -, hD, -, hA, hAw, hRH, hl⟩ := h9
  have hx := cf.1
  have hb := cf.2.1
  have hml := cf.2.2.1
  have hown : s.vm.findClass RX0 = some m.cls := cf.2.2.2.1
  have hts := cf.2.2.2.2
  have hK := hKB.1
  have hl : lv_has ls 4 [(0, .ref d), (1, .int v), (2, .ref o)] := hl
  refine lv_aload_n hx hb dX0_fitnessOn_0 rfl (lv_at hl 2 rfl) ?_
  refine lv_iconst (v := nI 0) hx hb dX0_fitnessOn_1 (by decide) ?_
  refine lv_aload_n hx hb dX0_fitnessOn_2 rfl (lv_at hl 0 rfl) ?_
  refine lv_iload_n hx hb dX0_fitnessOn_3 rfl (lv_at hl 1 rfl) ?_
  have hpm_3336 : (([(o, .inl (G.2 5, 1, .inr (.inl of)))] ++ (WA ++ [])) : va_W).Perm ((WA ++ []) ++ [(o, .inl (G.2 5, 1, .inr (.inl of)))]) := segs_perm [[(o, .inl (G.2 5, 1, .inr (.inl of)))], WA] [1] [0] rfl
  have hF := hF_ofP (wc := (WA ++ [])) hD hS hA hpm_3336
  refine go_cxP hS hP hD hpm_3336 hF
      (vx_runV (As := [.int v]) (rest := [.int (nI 0), .ref o]) cf (dX1_fitnessOn l G d S WA v (show DyW G d S WA from by first | assumption | omega) hfl H.size) (cwV 1 hts (lw_V q1302 q1303 q1304 q47 q1305) rfl rfl rfl (by decide +kernel) ⟨Nat.le_of_ble_eq_true rfl, Nat.le_of_ble_eq_true rfl⟩) (preV_of hKB hE hS hF (DyW.recv hK h (seg_at [[(o, .inl (G.2 5, 1, .inr (.inl of)))], WA] 1 rfl hP)) (P_left (P_perm hpm_3336 hP)) ((D_left (D_perm hpm_3336 hD)).weaken (fun _ _ _ _ => trivial)) trivial) rfl rfl hl.1 rfl (lv_room (Nat.le_of_ble_eq_true rfl)) dX0_fitnessOn_4 ⟨show 0 + 8300 ≤ 8300 from by first | decide | omega, show 0 + 17000 ≤ 17000 from by first | decide | omega⟩)
      (fun u_ H locs ce q9 hq hph (hP : va_P G.1 CL ([(o, .inl (G.2 5, 1, .inr (.inl of)))] ++ (u_.2 ++ [])) H) (hD : va_D A ([(o, .inl (G.2 5, 1, .inr (.inl of)))] ++ (u_.2 ++ []))) hS hfz hfk hce hcv hcl => ?_) (fun u_ H locs hq hph (hP : va_P G.1 CL ([(o, .inl (G.2 5, 1, .inr (.inl of)))] ++ (u_.2 ++ [])) H) (hD : va_D A ([(o, .inl (G.2 5, 1, .inr (.inl of)))] ++ (u_.2 ++ []))) hS hfz hfk => ?_)
  · obtain ⟨kx_3339, W2_3340⟩ := u_
    obtain ⟨hq_3341, hq_3342, hq_3343⟩ : (q_fit (dC S) v).1 = kx_3339 ∧ DyW G d S W2_3340 ∧ 1 ≤ kx_3339 ∧ kx_3339 ≤ 1 := hq
    have hpm_3344 : ([(o, .inl (G.2 5, 1, .inr (.inl of)))] ++ (W2_3340 ++ []) : va_W).Perm ([(o, .inl (G.2 5, 1, .inr (.inl of)))] ++ (W2_3340 ++ [])) := segs_perm2 [[(o, .inl (G.2 5, 1, .inr (.inl of)))]] [W2_3340] [0, 1] rfl
    have hP : va_P G.1 CL ([(o, .inl (G.2 5, 1, .inr (.inl of)))] ++ (W2_3340 ++ [])) H := P_perm hpm_3344 hP
    have hD : va_D A ([(o, .inl (G.2 5, 1, .inr (.inl of)))] ++ (W2_3340 ++ [])) := D_perm hpm_3344 hD
    obtain rfl : kx_3339 = 1 := by omega
    have hcl9 : s.vm.findClass eA = some ce.cls := hcl
    refine vx_catch (name := eA) (E := eA) hown [] (⟨0, 9, 12, 13⟩ : ExceptionTableEntry) [] (by rw [htab]; rfl) (fun z hz => absurd hz List.not_mem_nil) (by decide) (by decide) (hts _ q680) (va_Nw.use rfl (hKB.nest q698 rfl)) hce hcv hcl9 ?_
    refine W.eq (g2 := F0 m 12 ls [.ref q9]) rfl ?_
    refine lv_astore_n (lv' := [(3, .ref q9), (0, .ref d), (1, .int v), (2, .ref o)]) hx hb dX0_fitnessOn_12 rfl hl (by decide) rfl (fun ls hl => ?_)
    refine lv_iconst (v := nI 1) hx hb dX0_fitnessOn_13 (by decide) ?_
    refine vx_ret ?_
    have hpm_3345 : (([(o, .inl (G.2 5, 1, .inr (.inl of)))] ++ (W2_3340 ++ [])) : va_W).Perm (([(o, .inl (G.2 5, 1, .inr (.inl of)))] ++ (W2_3340 ++ [])) ++ []) := segs_perm [[(o, .inl (G.2 5, 1, .inr (.inl of)))], W2_3340] [0, 1] [] rfl
    have hP9 : va_P G.1 CL ([(o, .inl (G.2 5, 1, .inr (.inl of)))] ++ (W2_3340 ++ [])) H := P_left (P_perm hpm_3345 hP)
    have hD9 : va_D A ([(o, .inl (G.2 5, 1, .inr (.inl of)))] ++ (W2_3340 ++ [])) := D_left (D_perm hpm_3345 hD)
    exact end_i hx hb hr hlk (rfl) (qc_of (of, W2_3340) (v := some (.int (nI 1))) (by rw [hq_3341]) (⟨fun z9 => absurd (hq_3341.symm.trans z9) (by decide), by rw [hq_3341]; decide, hq_3342⟩) hP9 hD9 (trivial) hS) hS dX0_fitnessOn_14 (show 0 + 8300 ≤ 8300 from by first | exact Nat.le_refl _ | decide | omega) (show 0 + 17000 ≤ 17000 from by first | exact Nat.le_refl _ | decide | omega)
  · obtain ⟨rr_3337, W2_3338⟩ := u_
    obtain ⟨hq_3346, hq_3347⟩ : q_fit (dC S) v = (0, rr_3337) ∧ DyW G d S W2_3338 := hq
    have hpm_3348 : ([(o, .inl (G.2 5, 1, .inr (.inl of)))] ++ (W2_3338 ++ []) : va_W).Perm ([(o, .inl (G.2 5, 1, .inr (.inl of)))] ++ (W2_3338 ++ [])) := segs_perm2 [[(o, .inl (G.2 5, 1, .inr (.inl of)))]] [W2_3338] [0, 1] rfl
    have hP : va_P G.1 CL ([(o, .inl (G.2 5, 1, .inr (.inl of)))] ++ (W2_3338 ++ [])) H := P_perm hpm_3348 hP
    have hD : va_D A ([(o, .inl (G.2 5, 1, .inr (.inl of)))] ++ (W2_3338 ++ [])) := D_perm hpm_3348 hD
    refine W.eq (g2 := F0 m 7 ls [.int rr_3337, .int (nI 0), .ref o]) rfl ?_
    refine lv_i2l (v := (rr_3337).toInt64) hx hb dX0_fitnessOn_7 rfl ?_
    refine r_last hx hb hK hP hD hS 0 5 rfl rfl (i := 0) (by omega) (by omega) dX0_fitnessOn_8 (fun H locs (hP : va_P G.1 CL ([(o, .inl (G.2 5, 1, .inr (.inl (vp_updL of 0 ((rr_3337).toInt64)))))] ++ (W2_3338 ++ [])) H) (hD : va_D A ([(o, .inl (G.2 5, 1, .inr (.inl (vp_updL of 0 ((rr_3337).toInt64)))))] ++ (W2_3338 ++ []))) hS => ?_)
    refine lv_goto (tgt := 15) hx hb dX0_fitnessOn_9 (by decide) ?_
    refine lv_iconst (v := nI 0) hx hb dX0_fitnessOn_15 (by decide) ?_
    refine vx_ret ?_
    have hpm_3349 : (([(o, .inl (G.2 5, 1, .inr (.inl (vp_updL of 0 ((rr_3337).toInt64)))))] ++ (W2_3338 ++ [])) : va_W).Perm (([(o, .inl (G.2 5, 1, .inr (.inl (vp_updL of 0 ((rr_3337).toInt64)))))] ++ (W2_3338 ++ [])) ++ []) := segs_perm [[(o, .inl (G.2 5, 1, .inr (.inl (vp_updL of 0 ((rr_3337).toInt64)))))], W2_3338] [0, 1] [] rfl
    have hP9 : va_P G.1 CL ([(o, .inl (G.2 5, 1, .inr (.inl (vp_updL of 0 ((rr_3337).toInt64)))))] ++ (W2_3338 ++ [])) H := P_left (P_perm hpm_3349 hP)
    have hD9 : va_D A ([(o, .inl (G.2 5, 1, .inr (.inl (vp_updL of 0 ((rr_3337).toInt64)))))] ++ (W2_3338 ++ [])) := D_left (D_perm hpm_3349 hD)
    exact end_i hx hb hr hlk (rfl) (qc_of (vp_updL of 0 ((rr_3337).toInt64), W2_3338) (v := some (.int (nI 0))) (by rw [hq_3346]) (⟨fun _ => by rw [hq_3346]; exact pk_uLs, by rw [hq_3346]; exact (by decide : (0 : Nat) < 10), hq_3347⟩) hP9 hD9 (trivial) hS) hS dX0_fitnessOn_16 (show 0 + 8300 ≤ 8300 from by first | exact Nat.le_refl _ | decide | omega) (show 0 + 17000 ≤ 17000 from by first | exact Nat.le_refl _ | decide | omega)

set_option maxHeartbeats 4000000 in
theorem wX0_fatigueOn (l : Launch) (G : Gt) (d : Nat) (S : DS) (WA : va_W) (o : Nat) (of : Nat → Int64) (v : Int32) (h : DyW G d S WA) (hfl : l.stackTraces = false) : CTW l G yX0_fatigueOn cX0_fatigueOn 4 (some .int) [(0, 9, 12, 13)] ({ frames := 13, cells := 8300, slots := 17000, locals := 276 } : Room) [.ref d, .int v, .ref o] ([(o, .inl (G.2 5, 1, .inr (.inl of)))] ++ (WA ++ [])) RH0 (S := (Nat → Int64) × va_W) (fun (u_ : (Nat → Int64) × va_W) => some (.int (nI ((q_fat (dC S) v).1)))) (fun (u_ : (Nat → Int64) × va_W) => ((q_fat (dC S) v).1 = 0 → u_.1 0 = ((q_fat (dC S) v).2).toInt64) ∧ (q_fat (dC S) v).1 < 10 ∧ DyW G d S u_.2) (fun (u_ : (Nat → Int64) × va_W) => ([(o, .inl (G.2 5, 1, .inr (.inl u_.1)))] ++ (u_.2 ++ []))) (fun (u_ : (Nat → Int64) × va_W) (H : Heap) => True) := by
  refine CTW.of (by decide) (Nat.le_of_ble_eq_true rfl) ?_
  intro p e s m below meth c ls A H locs h9 hH0 hP hS hNc htab
  obtain ⟨cf, hr, hlk, hnm, hKB, hE, -, hD, -, hA, hAw, hRH, hl⟩ := h9
  have hx := cf.1
  have hb := cf.2.1
  have hml := cf.2.2.1
  have hown : s.vm.findClass RX0 = some m.cls := cf.2.2.2.1
  have hts := cf.2.2.2.2
  have hK := hKB.1
  have hl : lv_has ls 4 [(0, .ref d), (1, .int v), (2, .ref o)] := hl
  refine lv_aload_n hx hb dX0_fatigueOn_0 rfl (lv_at hl 2 rfl) ?_
  refine lv_iconst (v := nI 0) hx hb dX0_fatigueOn_1 (by decide) ?_
  refine lv_aload_n hx hb dX0_fatigueOn_2 rfl (lv_at hl 0 rfl) ?_
  refine lv_iload_n hx hb dX0_fatigueOn_3 rfl (lv_at hl 1 rfl) ?_
  have hpm_3350 : (([(o, .inl (G.2 5, 1, .inr (.inl of)))] ++ (WA ++ [])) : va_W).Perm ((WA ++ []) ++ [(o, .inl (G.2 5, 1, .inr (.inl of)))]) := segs_perm [[(o, .inl (G.2 5, 1, .inr (.inl of)))], WA] [1] [0] rfl
  have hF := hF_ofP (wc := (WA ++ [])) hD hS hA hpm_3350
  refine go_cxP hS hP hD hpm_3350 hF
      (vx_runV (As := [.int v]) (rest := [.int (nI 0), .ref o]) cf (dX1_fatigueOn l G d S WA v (show DyW G d S WA from by first | assumption | omega) hfl H.size) (cwV 1 hts (lw_V q1321 q1322 q1323 q47 q1324) rfl rfl rfl (by decide +kernel) ⟨Nat.le_of_ble_eq_true rfl, Nat.le_of_ble_eq_true rfl⟩) (preV_of hKB hE hS hF (DyW.recv hK h (seg_at [[(o, .inl (G.2 5, 1, .inr (.inl of)))], WA] 1 rfl hP)) (P_left (P_perm hpm_3350 hP)) ((D_left (D_perm hpm_3350 hD)).weaken (fun _ _ _ _ => trivial)) trivial) rfl rfl hl.1 rfl (lv_room (Nat.le_of_ble_eq_true rfl)) dX0_fatigueOn_4 ⟨show 0 + 8300 ≤ 8300 from by first | decide | omega, show 0 + 17000 ≤ 17000 from by first | decide | omega⟩)
      (fun u_ H locs ce q9 hq hph (hP : va_P G.1 CL ([(o, .inl (G.2 5, 1, .inr (.inl of)))] ++ (u_.2 ++ [])) H) (hD : va_D A ([(o, .inl (G.2 5, 1, .inr (.inl of)))] ++ (u_.2 ++ []))) hS hfz hfk hce hcv hcl => ?_) (fun u_ H locs hq hph (hP : va_P G.1 CL ([(o, .inl (G.2 5, 1, .inr (.inl of)))] ++ (u_.2 ++ [])) H) (hD : va_D A ([(o, .inl (G.2 5, 1, .inr (.inl of)))] ++ (u_.2 ++ []))) hS hfz hfk => ?_)
  · obtain ⟨kx_3353, W2_3354⟩ := u_
    obtain ⟨hq_3355, hq_3356, hq_3357⟩ : (q_fat (dC S) v).1 = kx_3353 ∧ DyW G d S W2_3354 ∧ 1 ≤ kx_3353 ∧ kx_3353 ≤ 1 := hq
    have hpm_3358 : ([(o, .inl (G.2 5, 1, .inr (.inl of)))] ++ (W2_3354 ++ []) : va_W).Perm ([(o, .inl (G.2 5, 1, .inr (.inl of)))] ++ (W2_3354 ++ [])) := segs_perm2 [[(o, .inl (G.2 5, 1, .inr (.inl of)))]] [W2_3354] [0, 1] rfl
    have hP : va_P G.1 CL ([(o, .inl (G.2 5, 1, .inr (.inl of)))] ++ (W2_3354 ++ [])) H := P_perm hpm_3358 hP
    have hD : va_D A ([(o, .inl (G.2 5, 1, .inr (.inl of)))] ++ (W2_3354 ++ [])) := D_perm hpm_3358 hD
    obtain rfl : kx_3353 = 1 := by omega
    have hcl9 : s.vm.findClass eA = some ce.cls := hcl
    refine vx_catch (name := eA) (E := eA) hown [] (⟨0, 9, 12, 13⟩ : ExceptionTableEntry) [] (by rw [htab]; rfl) (fun z hz => absurd hz List.not_mem_nil) (by decide) (by decide) (hts _ q680) (va_Nw.use rfl (hKB.nest q698 rfl)) hce hcv hcl9 ?_
    refine W.eq (g2 := F0 m 12 ls [.ref q9]) rfl ?_
    refine lv_astore_n (lv' := [(3, .ref q9), (0, .ref d), (1, .int v), (2, .ref o)]) hx hb dX0_fatigueOn_12 rfl hl (by decide) rfl (fun ls hl => ?_)
    refine lv_iconst (v := nI 1) hx hb dX0_fatigueOn_13 (by decide) ?_
    refine vx_ret ?_
    have hpm_3359 : (([(o, .inl (G.2 5, 1, .inr (.inl of)))] ++ (W2_3354 ++ [])) : va_W).Perm (([(o, .inl (G.2 5, 1, .inr (.inl of)))] ++ (W2_3354 ++ [])) ++ []) := segs_perm [[(o, .inl (G.2 5, 1, .inr (.inl of)))], W2_3354] [0, 1] [] rfl
    have hP9 : va_P G.1 CL ([(o, .inl (G.2 5, 1, .inr (.inl of)))] ++ (W2_3354 ++ [])) H := P_left (P_perm hpm_3359 hP)
    have hD9 : va_D A ([(o, .inl (G.2 5, 1, .inr (.inl of)))] ++ (W2_3354 ++ [])) := D_left (D_perm hpm_3359 hD)
    exact end_i hx hb hr hlk (rfl) (qc_of (of, W2_3354) (v := some (.int (nI 1))) (by rw [hq_3355]) (⟨fun z9 => absurd (hq_3355.symm.trans z9) (by decide), by rw [hq_3355]; decide, hq_3356⟩) hP9 hD9 (trivial) hS) hS dX0_fatigueOn_14 (show 0 + 8300 ≤ 8300 from by first | exact Nat.le_refl _ | decide | omega) (show 0 + 17000 ≤ 17000 from by first | exact Nat.le_refl _ | decide | omega)
  · obtain ⟨rr_3351, W2_3352⟩ := u_
    obtain ⟨hq_3360, hq_3361⟩ : q_fat (dC S) v = (0, rr_3351) ∧ DyW G d S W2_3352 := hq
    have hpm_3362 : ([(o, .inl (G.2 5, 1, .inr (.inl of)))] ++ (W2_3352 ++ []) : va_W).Perm ([(o, .inl (G.2 5, 1, .inr (.inl of)))] ++ (W2_3352 ++ [])) := segs_perm2 [[(o, .inl (G.2 5, 1, .inr (.inl of)))]] [W2_3352] [0, 1] rfl
    have hP : va_P G.1 CL ([(o, .inl (G.2 5, 1, .inr (.inl of)))] ++ (W2_3352 ++ [])) H := P_perm hpm_3362 hP
    have hD : va_D A ([(o, .inl (G.2 5, 1, .inr (.inl of)))] ++ (W2_3352 ++ [])) := D_perm hpm_3362 hD
    refine W.eq (g2 := F0 m 7 ls [.int rr_3351, .int (nI 0), .ref o]) rfl ?_
    refine lv_i2l (v := (rr_3351).toInt64) hx hb dX0_fatigueOn_7 rfl ?_
    refine r_last hx hb hK hP hD hS 0 5 rfl rfl (i := 0) (by omega) (by omega) dX0_fatigueOn_8 (fun H locs (hP : va_P G.1 CL ([(o, .inl (G.2 5, 1, .inr (.inl (vp_updL of 0 ((rr_3351).toInt64)))))] ++ (W2_3352 ++ [])) H) (hD : va_D A ([(o, .inl (G.2 5, 1, .inr (.inl (vp_updL of 0 ((rr_3351).toInt64)))))] ++ (W2_3352 ++ []))) hS => ?_)
    refine lv_goto (tgt := 15) hx hb dX0_fatigueOn_9 (by decide) ?_
    refine lv_iconst (v := nI 0) hx hb dX0_fatigueOn_15 (by decide) ?_
    refine vx_ret ?_
    have hpm_3363 : (([(o, .inl (G.2 5, 1, .inr (.inl (vp_updL of 0 ((rr_3351).toInt64)))))] ++ (W2_3352 ++ [])) : va_W).Perm (([(o, .inl (G.2 5, 1, .inr (.inl (vp_updL of 0 ((rr_3351).toInt64)))))] ++ (W2_3352 ++ [])) ++ []) := segs_perm [[(o, .inl (G.2 5, 1, .inr (.inl (vp_updL of 0 ((rr_3351).toInt64)))))], W2_3352] [0, 1] [] rfl
    have hP9 : va_P G.1 CL ([(o, .inl (G.2 5, 1, .inr (.inl (vp_updL of 0 ((rr_3351).toInt64)))))] ++ (W2_3352 ++ [])) H := P_left (P_perm hpm_3363 hP)
    have hD9 : va_D A ([(o, .inl (G.2 5, 1, .inr (.inl (vp_updL of 0 ((rr_3351).toInt64)))))] ++ (W2_3352 ++ [])) := D_left (D_perm hpm_3363 hD)
    exact end_i hx hb hr hlk (rfl) (qc_of (vp_updL of 0 ((rr_3351).toInt64), W2_3352) (v := some (.int (nI 0))) (by rw [hq_3360]) (⟨fun _ => by rw [hq_3360]; exact pk_uLs, by rw [hq_3360]; exact (by decide : (0 : Nat) < 10), hq_3361⟩) hP9 hD9 (trivial) hS) hS dX0_fatigueOn_16 (show 0 + 8300 ≤ 8300 from by first | exact Nat.le_refl _ | decide | omega) (show 0 + 17000 ≤ 17000 from by first | exact Nat.le_refl _ | decide | omega)

set_option maxHeartbeats 4000000 in
theorem wX0_formOn (l : Launch) (G : Gt) (d : Nat) (S : DS) (WA : va_W) (o : Nat) (of : Nat → Int64) (v : Int32) (h : DyW G d S WA) (hfl : l.stackTraces = false) : CTW l G yX0_formOn cX0_formOn 4 (some .int) [(0, 9, 12, 13)] ({ frames := 14, cells := 8300, slots := 17000, locals := 297 } : Room) [.ref d, .int v, .ref o] ([(o, .inl (G.2 5, 1, .inr (.inl of)))] ++ (WA ++ [])) RH0 (S := (Nat → Int64) × va_W) (fun (u_ : (Nat → Int64) × va_W) => some (.int (nI ((q_form (dC S) v).1)))) (fun (u_ : (Nat → Int64) × va_W) => ((q_form (dC S) v).1 = 0 → u_.1 0 = ((q_form (dC S) v).2).toInt64) ∧ (q_form (dC S) v).1 < 10 ∧ DyW G d S u_.2) (fun (u_ : (Nat → Int64) × va_W) => ([(o, .inl (G.2 5, 1, .inr (.inl u_.1)))] ++ (u_.2 ++ []))) (fun (u_ : (Nat → Int64) × va_W) (H : Heap) => True) := by
  refine CTW.of (by decide) (Nat.le_of_ble_eq_true rfl) ?_
  intro p e s m below meth c ls A H locs h9 hH0 hP hS hNc htab
  obtain ⟨cf, hr, hlk, hnm, hKB, hE, -, hD, -, hA, hAw, hRH, hl⟩ := h9
  have hx := cf.1
  have hb := cf.2.1
  have hml := cf.2.2.1
  have hown : s.vm.findClass RX0 = some m.cls := cf.2.2.2.1
  have hts := cf.2.2.2.2
  have hK := hKB.1
  have hl : lv_has ls 4 [(0, .ref d), (1, .int v), (2, .ref o)] := hl
  refine lv_aload_n hx hb dX0_formOn_0 rfl (lv_at hl 2 rfl) ?_
  refine lv_iconst (v := nI 0) hx hb dX0_formOn_1 (by decide) ?_
  refine lv_aload_n hx hb dX0_formOn_2 rfl (lv_at hl 0 rfl) ?_
  refine lv_iload_n hx hb dX0_formOn_3 rfl (lv_at hl 1 rfl) ?_
  have hpm_3364 : (([(o, .inl (G.2 5, 1, .inr (.inl of)))] ++ (WA ++ [])) : va_W).Perm ((WA ++ []) ++ [(o, .inl (G.2 5, 1, .inr (.inl of)))]) := segs_perm [[(o, .inl (G.2 5, 1, .inr (.inl of)))], WA] [1] [0] rfl
  have hF := hF_ofP (wc := (WA ++ [])) hD hS hA hpm_3364
  refine go_cxP hS hP hD hpm_3364 hF
      (vx_runV (As := [.int v]) (rest := [.int (nI 0), .ref o]) cf (dX1_formOn l G d S WA v (show DyW G d S WA from by first | assumption | omega) hfl H.size) (cwV 1 hts (lw_V q1336 q1337 q1338 q47 q1339) rfl rfl rfl (by decide +kernel) ⟨Nat.le_of_ble_eq_true rfl, Nat.le_of_ble_eq_true rfl⟩) (preV_of hKB hE hS hF (DyW.recv hK h (seg_at [[(o, .inl (G.2 5, 1, .inr (.inl of)))], WA] 1 rfl hP)) (P_left (P_perm hpm_3364 hP)) ((D_left (D_perm hpm_3364 hD)).weaken (fun _ _ _ _ => trivial)) trivial) rfl rfl hl.1 rfl (lv_room (Nat.le_of_ble_eq_true rfl)) dX0_formOn_4 ⟨show 0 + 8300 ≤ 8300 from by first | decide | omega, show 0 + 17000 ≤ 17000 from by first | decide | omega⟩)
      (fun u_ H locs ce q9 hq hph (hP : va_P G.1 CL ([(o, .inl (G.2 5, 1, .inr (.inl of)))] ++ (u_.2 ++ [])) H) (hD : va_D A ([(o, .inl (G.2 5, 1, .inr (.inl of)))] ++ (u_.2 ++ []))) hS hfz hfk hce hcv hcl => ?_) (fun u_ H locs hq hph (hP : va_P G.1 CL ([(o, .inl (G.2 5, 1, .inr (.inl of)))] ++ (u_.2 ++ [])) H) (hD : va_D A ([(o, .inl (G.2 5, 1, .inr (.inl of)))] ++ (u_.2 ++ []))) hS hfz hfk => ?_)
  · obtain ⟨kx_3367, W2_3368⟩ := u_
    obtain ⟨hq_3369, hq_3370, hq_3371⟩ : (q_form (dC S) v).1 = kx_3367 ∧ DyW G d S W2_3368 ∧ 1 ≤ kx_3367 ∧ kx_3367 ≤ 1 := hq
    have hpm_3372 : ([(o, .inl (G.2 5, 1, .inr (.inl of)))] ++ (W2_3368 ++ []) : va_W).Perm ([(o, .inl (G.2 5, 1, .inr (.inl of)))] ++ (W2_3368 ++ [])) := segs_perm2 [[(o, .inl (G.2 5, 1, .inr (.inl of)))]] [W2_3368] [0, 1] rfl
    have hP : va_P G.1 CL ([(o, .inl (G.2 5, 1, .inr (.inl of)))] ++ (W2_3368 ++ [])) H := P_perm hpm_3372 hP
    have hD : va_D A ([(o, .inl (G.2 5, 1, .inr (.inl of)))] ++ (W2_3368 ++ [])) := D_perm hpm_3372 hD
    obtain rfl : kx_3367 = 1 := by omega
    have hcl9 : s.vm.findClass eA = some ce.cls := hcl
    refine vx_catch (name := eA) (E := eA) hown [] (⟨0, 9, 12, 13⟩ : ExceptionTableEntry) [] (by rw [htab]; rfl) (fun z hz => absurd hz List.not_mem_nil) (by decide) (by decide) (hts _ q680) (va_Nw.use rfl (hKB.nest q698 rfl)) hce hcv hcl9 ?_
    refine W.eq (g2 := F0 m 12 ls [.ref q9]) rfl ?_
    refine lv_astore_n (lv' := [(3, .ref q9), (0, .ref d), (1, .int v), (2, .ref o)]) hx hb dX0_formOn_12 rfl hl (by decide) rfl (fun ls hl => ?_)
    refine lv_iconst (v := nI 1) hx hb dX0_formOn_13 (by decide) ?_
    refine vx_ret ?_
    have hpm_3373 : (([(o, .inl (G.2 5, 1, .inr (.inl of)))] ++ (W2_3368 ++ [])) : va_W).Perm (([(o, .inl (G.2 5, 1, .inr (.inl of)))] ++ (W2_3368 ++ [])) ++ []) := segs_perm [[(o, .inl (G.2 5, 1, .inr (.inl of)))], W2_3368] [0, 1] [] rfl
    have hP9 : va_P G.1 CL ([(o, .inl (G.2 5, 1, .inr (.inl of)))] ++ (W2_3368 ++ [])) H := P_left (P_perm hpm_3373 hP)
    have hD9 : va_D A ([(o, .inl (G.2 5, 1, .inr (.inl of)))] ++ (W2_3368 ++ [])) := D_left (D_perm hpm_3373 hD)
    exact end_i hx hb hr hlk (rfl) (qc_of (of, W2_3368) (v := some (.int (nI 1))) (by rw [hq_3369]) (⟨fun z9 => absurd (hq_3369.symm.trans z9) (by decide), by rw [hq_3369]; decide, hq_3370⟩) hP9 hD9 (trivial) hS) hS dX0_formOn_14 (show 0 + 8300 ≤ 8300 from by first | exact Nat.le_refl _ | decide | omega) (show 0 + 17000 ≤ 17000 from by first | exact Nat.le_refl _ | decide | omega)
  · obtain ⟨rr_3365, W2_3366⟩ := u_
    obtain ⟨hq_3374, hq_3375⟩ : q_form (dC S) v = (0, rr_3365) ∧ DyW G d S W2_3366 := hq
    have hpm_3376 : ([(o, .inl (G.2 5, 1, .inr (.inl of)))] ++ (W2_3366 ++ []) : va_W).Perm ([(o, .inl (G.2 5, 1, .inr (.inl of)))] ++ (W2_3366 ++ [])) := segs_perm2 [[(o, .inl (G.2 5, 1, .inr (.inl of)))]] [W2_3366] [0, 1] rfl
    have hP : va_P G.1 CL ([(o, .inl (G.2 5, 1, .inr (.inl of)))] ++ (W2_3366 ++ [])) H := P_perm hpm_3376 hP
    have hD : va_D A ([(o, .inl (G.2 5, 1, .inr (.inl of)))] ++ (W2_3366 ++ [])) := D_perm hpm_3376 hD
    refine W.eq (g2 := F0 m 7 ls [.int rr_3365, .int (nI 0), .ref o]) rfl ?_
    refine lv_i2l (v := (rr_3365).toInt64) hx hb dX0_formOn_7 rfl ?_
    refine r_last hx hb hK hP hD hS 0 5 rfl rfl (i := 0) (by omega) (by omega) dX0_formOn_8 (fun H locs (hP : va_P G.1 CL ([(o, .inl (G.2 5, 1, .inr (.inl (vp_updL of 0 ((rr_3365).toInt64)))))] ++ (W2_3366 ++ [])) H) (hD : va_D A ([(o, .inl (G.2 5, 1, .inr (.inl (vp_updL of 0 ((rr_3365).toInt64)))))] ++ (W2_3366 ++ []))) hS => ?_)
    refine lv_goto (tgt := 15) hx hb dX0_formOn_9 (by decide) ?_
    refine lv_iconst (v := nI 0) hx hb dX0_formOn_15 (by decide) ?_
    refine vx_ret ?_
    have hpm_3377 : (([(o, .inl (G.2 5, 1, .inr (.inl (vp_updL of 0 ((rr_3365).toInt64)))))] ++ (W2_3366 ++ [])) : va_W).Perm (([(o, .inl (G.2 5, 1, .inr (.inl (vp_updL of 0 ((rr_3365).toInt64)))))] ++ (W2_3366 ++ [])) ++ []) := segs_perm [[(o, .inl (G.2 5, 1, .inr (.inl (vp_updL of 0 ((rr_3365).toInt64)))))], W2_3366] [0, 1] [] rfl
    have hP9 : va_P G.1 CL ([(o, .inl (G.2 5, 1, .inr (.inl (vp_updL of 0 ((rr_3365).toInt64)))))] ++ (W2_3366 ++ [])) H := P_left (P_perm hpm_3377 hP)
    have hD9 : va_D A ([(o, .inl (G.2 5, 1, .inr (.inl (vp_updL of 0 ((rr_3365).toInt64)))))] ++ (W2_3366 ++ [])) := D_left (D_perm hpm_3377 hD)
    exact end_i hx hb hr hlk (rfl) (qc_of (vp_updL of 0 ((rr_3365).toInt64), W2_3366) (v := some (.int (nI 0))) (by rw [hq_3374]) (⟨fun _ => by rw [hq_3374]; exact pk_uLs, by rw [hq_3374]; exact (by decide : (0 : Nat) < 10), hq_3375⟩) hP9 hD9 (trivial) hS) hS dX0_formOn_16 (show 0 + 8300 ≤ 8300 from by first | exact Nat.le_refl _ | decide | omega) (show 0 + 17000 ≤ 17000 from by first | exact Nat.le_refl _ | decide | omega)

set_option maxHeartbeats 4000000 in
theorem wX0_fitnessFromStart (l : Launch) (G : Gt) (d : Nat) (S : DS) (WA : va_W) (o : Nat) (of : Nat → Int64) (v : Int32) (h : DyW G d S WA) (hfl : l.stackTraces = false) : CTW l G yX0_fitnessFromStart cX0_fitnessFromStart 4 (some .int) [(0, 9, 12, 13)] ({ frames := 12, cells := 8300, slots := 17000, locals := 256 } : Room) [.ref d, .int v, .ref o] ([(o, .inl (G.2 5, 1, .inr (.inl of)))] ++ (WA ++ [])) RH0 (S := (Nat → Int64) × va_W) (fun (u_ : (Nat → Int64) × va_W) => some (.int (nI ((q_fit (dC S) v).1)))) (fun (u_ : (Nat → Int64) × va_W) => ((q_fit (dC S) v).1 = 0 → u_.1 0 = ((q_fit (dC S) v).2).toInt64) ∧ (q_fit (dC S) v).1 < 10 ∧ DyW G d S u_.2) (fun (u_ : (Nat → Int64) × va_W) => ([(o, .inl (G.2 5, 1, .inr (.inl u_.1)))] ++ (u_.2 ++ []))) (fun (u_ : (Nat → Int64) × va_W) (H : Heap) => True) := by
  refine CTW.of (by decide) (Nat.le_of_ble_eq_true rfl) ?_
  intro p e s m below meth c ls A H locs h9 hH0 hP hS hNc htab
  obtain ⟨cf, hr, hlk, hnm, hKB, hE, -, hD, -, hA, hAw, hRH, hl⟩ := h9
  have hx := cf.1
  have hb := cf.2.1
  have hml := cf.2.2.1
  have hown : s.vm.findClass RX0 = some m.cls := cf.2.2.2.1
  have hts := cf.2.2.2.2
  have hK := hKB.1
  have hl : lv_has ls 4 [(0, .ref d), (1, .int v), (2, .ref o)] := hl
  refine lv_aload_n hx hb dX0_fitnessFromStart_0 rfl (lv_at hl 2 rfl) ?_
  refine lv_iconst (v := nI 0) hx hb dX0_fitnessFromStart_1 (by decide) ?_
  refine lv_aload_n hx hb dX0_fitnessFromStart_2 rfl (lv_at hl 0 rfl) ?_
  refine lv_iload_n hx hb dX0_fitnessFromStart_3 rfl (lv_at hl 1 rfl) ?_
  have hpm_3378 : (([(o, .inl (G.2 5, 1, .inr (.inl of)))] ++ (WA ++ [])) : va_W).Perm ((WA ++ []) ++ [(o, .inl (G.2 5, 1, .inr (.inl of)))]) := segs_perm [[(o, .inl (G.2 5, 1, .inr (.inl of)))], WA] [1] [0] rfl
  have hF := hF_ofP (wc := (WA ++ [])) hD hS hA hpm_3378
  refine go_cxP hS hP hD hpm_3378 hF
      (vx_runV (As := [.int v]) (rest := [.int (nI 0), .ref o]) cf (dX1_fitnessFromStart l G d S WA v (show DyW G d S WA from by first | assumption | omega) hfl H.size) (cwV 1 hts (lw_V q1310 q1311 q1312 q47 q1313) rfl rfl rfl (by decide +kernel) ⟨Nat.le_of_ble_eq_true rfl, Nat.le_of_ble_eq_true rfl⟩) (preV_of hKB hE hS hF (DyW.recv hK h (seg_at [[(o, .inl (G.2 5, 1, .inr (.inl of)))], WA] 1 rfl hP)) (P_left (P_perm hpm_3378 hP)) ((D_left (D_perm hpm_3378 hD)).weaken (fun _ _ _ _ => trivial)) trivial) rfl rfl hl.1 rfl (lv_room (Nat.le_of_ble_eq_true rfl)) dX0_fitnessFromStart_4 ⟨show 0 + 8300 ≤ 8300 from by first | decide | omega, show 0 + 17000 ≤ 17000 from by first | decide | omega⟩)
      (fun u_ H locs ce q9 hq hph (hP : va_P G.1 CL ([(o, .inl (G.2 5, 1, .inr (.inl of)))] ++ (u_.2 ++ [])) H) (hD : va_D A ([(o, .inl (G.2 5, 1, .inr (.inl of)))] ++ (u_.2 ++ []))) hS hfz hfk hce hcv hcl => ?_) (fun u_ H locs hq hph (hP : va_P G.1 CL ([(o, .inl (G.2 5, 1, .inr (.inl of)))] ++ (u_.2 ++ [])) H) (hD : va_D A ([(o, .inl (G.2 5, 1, .inr (.inl of)))] ++ (u_.2 ++ []))) hS hfz hfk => ?_)
  · obtain ⟨kx_3381, W2_3382⟩ := u_
    obtain ⟨hq_3383, hq_3384, hq_3385⟩ : (q_fit (dC S) v).1 = kx_3381 ∧ DyW G d S W2_3382 ∧ 1 ≤ kx_3381 ∧ kx_3381 ≤ 1 := hq
    have hpm_3386 : ([(o, .inl (G.2 5, 1, .inr (.inl of)))] ++ (W2_3382 ++ []) : va_W).Perm ([(o, .inl (G.2 5, 1, .inr (.inl of)))] ++ (W2_3382 ++ [])) := segs_perm2 [[(o, .inl (G.2 5, 1, .inr (.inl of)))]] [W2_3382] [0, 1] rfl
    have hP : va_P G.1 CL ([(o, .inl (G.2 5, 1, .inr (.inl of)))] ++ (W2_3382 ++ [])) H := P_perm hpm_3386 hP
    have hD : va_D A ([(o, .inl (G.2 5, 1, .inr (.inl of)))] ++ (W2_3382 ++ [])) := D_perm hpm_3386 hD
    obtain rfl : kx_3381 = 1 := by omega
    have hcl9 : s.vm.findClass eA = some ce.cls := hcl
    refine vx_catch (name := eA) (E := eA) hown [] (⟨0, 9, 12, 13⟩ : ExceptionTableEntry) [] (by rw [htab]; rfl) (fun z hz => absurd hz List.not_mem_nil) (by decide) (by decide) (hts _ q680) (va_Nw.use rfl (hKB.nest q698 rfl)) hce hcv hcl9 ?_
    refine W.eq (g2 := F0 m 12 ls [.ref q9]) rfl ?_
    refine lv_astore_n (lv' := [(3, .ref q9), (0, .ref d), (1, .int v), (2, .ref o)]) hx hb dX0_fitnessFromStart_12 rfl hl (by decide) rfl (fun ls hl => ?_)
    refine lv_iconst (v := nI 1) hx hb dX0_fitnessFromStart_13 (by decide) ?_
    refine vx_ret ?_
    have hpm_3387 : (([(o, .inl (G.2 5, 1, .inr (.inl of)))] ++ (W2_3382 ++ [])) : va_W).Perm (([(o, .inl (G.2 5, 1, .inr (.inl of)))] ++ (W2_3382 ++ [])) ++ []) := segs_perm [[(o, .inl (G.2 5, 1, .inr (.inl of)))], W2_3382] [0, 1] [] rfl
    have hP9 : va_P G.1 CL ([(o, .inl (G.2 5, 1, .inr (.inl of)))] ++ (W2_3382 ++ [])) H := P_left (P_perm hpm_3387 hP)
    have hD9 : va_D A ([(o, .inl (G.2 5, 1, .inr (.inl of)))] ++ (W2_3382 ++ [])) := D_left (D_perm hpm_3387 hD)
    exact end_i hx hb hr hlk (rfl) (qc_of (of, W2_3382) (v := some (.int (nI 1))) (by rw [hq_3383]) (⟨fun z9 => absurd (hq_3383.symm.trans z9) (by decide), by rw [hq_3383]; decide, hq_3384⟩) hP9 hD9 (trivial) hS) hS dX0_fitnessFromStart_14 (show 0 + 8300 ≤ 8300 from by first | exact Nat.le_refl _ | decide | omega) (show 0 + 17000 ≤ 17000 from by first | exact Nat.le_refl _ | decide | omega)
  · obtain ⟨rr_3379, W2_3380⟩ := u_
    obtain ⟨hq_3388, hq_3389⟩ : q_fit (dC S) v = (0, rr_3379) ∧ DyW G d S W2_3380 := hq
    have hpm_3390 : ([(o, .inl (G.2 5, 1, .inr (.inl of)))] ++ (W2_3380 ++ []) : va_W).Perm ([(o, .inl (G.2 5, 1, .inr (.inl of)))] ++ (W2_3380 ++ [])) := segs_perm2 [[(o, .inl (G.2 5, 1, .inr (.inl of)))]] [W2_3380] [0, 1] rfl
    have hP : va_P G.1 CL ([(o, .inl (G.2 5, 1, .inr (.inl of)))] ++ (W2_3380 ++ [])) H := P_perm hpm_3390 hP
    have hD : va_D A ([(o, .inl (G.2 5, 1, .inr (.inl of)))] ++ (W2_3380 ++ [])) := D_perm hpm_3390 hD
    refine W.eq (g2 := F0 m 7 ls [.int rr_3379, .int (nI 0), .ref o]) rfl ?_
    refine lv_i2l (v := (rr_3379).toInt64) hx hb dX0_fitnessFromStart_7 rfl ?_
    refine r_last hx hb hK hP hD hS 0 5 rfl rfl (i := 0) (by omega) (by omega) dX0_fitnessFromStart_8 (fun H locs (hP : va_P G.1 CL ([(o, .inl (G.2 5, 1, .inr (.inl (vp_updL of 0 ((rr_3379).toInt64)))))] ++ (W2_3380 ++ [])) H) (hD : va_D A ([(o, .inl (G.2 5, 1, .inr (.inl (vp_updL of 0 ((rr_3379).toInt64)))))] ++ (W2_3380 ++ []))) hS => ?_)
    refine lv_goto (tgt := 15) hx hb dX0_fitnessFromStart_9 (by decide) ?_
    refine lv_iconst (v := nI 0) hx hb dX0_fitnessFromStart_15 (by decide) ?_
    refine vx_ret ?_
    have hpm_3391 : (([(o, .inl (G.2 5, 1, .inr (.inl (vp_updL of 0 ((rr_3379).toInt64)))))] ++ (W2_3380 ++ [])) : va_W).Perm (([(o, .inl (G.2 5, 1, .inr (.inl (vp_updL of 0 ((rr_3379).toInt64)))))] ++ (W2_3380 ++ [])) ++ []) := segs_perm [[(o, .inl (G.2 5, 1, .inr (.inl (vp_updL of 0 ((rr_3379).toInt64)))))], W2_3380] [0, 1] [] rfl
    have hP9 : va_P G.1 CL ([(o, .inl (G.2 5, 1, .inr (.inl (vp_updL of 0 ((rr_3379).toInt64)))))] ++ (W2_3380 ++ [])) H := P_left (P_perm hpm_3391 hP)
    have hD9 : va_D A ([(o, .inl (G.2 5, 1, .inr (.inl (vp_updL of 0 ((rr_3379).toInt64)))))] ++ (W2_3380 ++ [])) := D_left (D_perm hpm_3391 hD)
    exact end_i hx hb hr hlk (rfl) (qc_of (vp_updL of 0 ((rr_3379).toInt64), W2_3380) (v := some (.int (nI 0))) (by rw [hq_3388]) (⟨fun _ => by rw [hq_3388]; exact pk_uLs, by rw [hq_3388]; exact (by decide : (0 : Nat) < 10), hq_3389⟩) hP9 hD9 (trivial) hS) hS dX0_fitnessFromStart_16 (show 0 + 8300 ≤ 8300 from by first | exact Nat.le_refl _ | decide | omega) (show 0 + 17000 ≤ 17000 from by first | exact Nat.le_refl _ | decide | omega)

set_option maxHeartbeats 4000000 in
theorem wX0_fatigueFromStart (l : Launch) (G : Gt) (d : Nat) (S : DS) (WA : va_W) (o : Nat) (of : Nat → Int64) (v : Int32) (h : DyW G d S WA) (hfl : l.stackTraces = false) : CTW l G yX0_fatigueFromStart cX0_fatigueFromStart 4 (some .int) [(0, 9, 12, 13)] ({ frames := 12, cells := 8300, slots := 17000, locals := 256 } : Room) [.ref d, .int v, .ref o] ([(o, .inl (G.2 5, 1, .inr (.inl of)))] ++ (WA ++ [])) RH0 (S := (Nat → Int64) × va_W) (fun (u_ : (Nat → Int64) × va_W) => some (.int (nI ((q_fat (dC S) v).1)))) (fun (u_ : (Nat → Int64) × va_W) => ((q_fat (dC S) v).1 = 0 → u_.1 0 = ((q_fat (dC S) v).2).toInt64) ∧ (q_fat (dC S) v).1 < 10 ∧ DyW G d S u_.2) (fun (u_ : (Nat → Int64) × va_W) => ([(o, .inl (G.2 5, 1, .inr (.inl u_.1)))] ++ (u_.2 ++ []))) (fun (u_ : (Nat → Int64) × va_W) (H : Heap) => True) := by
  refine CTW.of (by decide) (Nat.le_of_ble_eq_true rfl) ?_
  intro p e s m below meth c ls A H locs h9 hH0 hP hS hNc htab
  obtain ⟨cf, hr, hlk, hnm, hKB, hE, -, hD, -, hA, hAw, hRH, hl⟩ := h9
  have hx := cf.1
  have hb := cf.2.1
  have hml := cf.2.2.1
  have hown : s.vm.findClass RX0 = some m.cls := cf.2.2.2.1
  have hts := cf.2.2.2.2
  have hK := hKB.1
  have hl : lv_has ls 4 [(0, .ref d), (1, .int v), (2, .ref o)] := hl
  refine lv_aload_n hx hb dX0_fatigueFromStart_0 rfl (lv_at hl 2 rfl) ?_
  refine lv_iconst (v := nI 0) hx hb dX0_fatigueFromStart_1 (by decide) ?_
  refine lv_aload_n hx hb dX0_fatigueFromStart_2 rfl (lv_at hl 0 rfl) ?_
  refine lv_iload_n hx hb dX0_fatigueFromStart_3 rfl (lv_at hl 1 rfl) ?_
  have hpm_3392 : (([(o, .inl (G.2 5, 1, .inr (.inl of)))] ++ (WA ++ [])) : va_W).Perm ((WA ++ []) ++ [(o, .inl (G.2 5, 1, .inr (.inl of)))]) := segs_perm [[(o, .inl (G.2 5, 1, .inr (.inl of)))], WA] [1] [0] rfl
  have hF := hF_ofP (wc := (WA ++ [])) hD hS hA hpm_3392
  refine go_cxP hS hP hD hpm_3392 hF
      (vx_runV (As := [.int v]) (rest := [.int (nI 0), .ref o]) cf (dX1_fatigueFromStart l G d S WA v (show DyW G d S WA from by first | assumption | omega) hfl H.size) (cwV 1 hts (lw_V q1329 q1330 q1331 q47 q1332) rfl rfl rfl (by decide +kernel) ⟨Nat.le_of_ble_eq_true rfl, Nat.le_of_ble_eq_true rfl⟩) (preV_of hKB hE hS hF (DyW.recv hK h (seg_at [[(o, .inl (G.2 5, 1, .inr (.inl of)))], WA] 1 rfl hP)) (P_left (P_perm hpm_3392 hP)) ((D_left (D_perm hpm_3392 hD)).weaken (fun _ _ _ _ => trivial)) trivial) rfl rfl hl.1 rfl (lv_room (Nat.le_of_ble_eq_true rfl)) dX0_fatigueFromStart_4 ⟨show 0 + 8300 ≤ 8300 from by first | decide | omega, show 0 + 17000 ≤ 17000 from by first | decide | omega⟩)
      (fun u_ H locs ce q9 hq hph (hP : va_P G.1 CL ([(o, .inl (G.2 5, 1, .inr (.inl of)))] ++ (u_.2 ++ [])) H) (hD : va_D A ([(o, .inl (G.2 5, 1, .inr (.inl of)))] ++ (u_.2 ++ []))) hS hfz hfk hce hcv hcl => ?_) (fun u_ H locs hq hph (hP : va_P G.1 CL ([(o, .inl (G.2 5, 1, .inr (.inl of)))] ++ (u_.2 ++ [])) H) (hD : va_D A ([(o, .inl (G.2 5, 1, .inr (.inl of)))] ++ (u_.2 ++ []))) hS hfz hfk => ?_)
  · obtain ⟨kx_3395, W2_3396⟩ := u_
    obtain ⟨hq_3397, hq_3398, hq_3399⟩ : (q_fat (dC S) v).1 = kx_3395 ∧ DyW G d S W2_3396 ∧ 1 ≤ kx_3395 ∧ kx_3395 ≤ 1 := hq
    have hpm_3400 : ([(o, .inl (G.2 5, 1, .inr (.inl of)))] ++ (W2_3396 ++ []) : va_W).Perm ([(o, .inl (G.2 5, 1, .inr (.inl of)))] ++ (W2_3396 ++ [])) := segs_perm2 [[(o, .inl (G.2 5, 1, .inr (.inl of)))]] [W2_3396] [0, 1] rfl
    have hP : va_P G.1 CL ([(o, .inl (G.2 5, 1, .inr (.inl of)))] ++ (W2_3396 ++ [])) H := P_perm hpm_3400 hP
    have hD : va_D A ([(o, .inl (G.2 5, 1, .inr (.inl of)))] ++ (W2_3396 ++ [])) := D_perm hpm_3400 hD
    obtain rfl : kx_3395 = 1 := by omega
    have hcl9 : s.vm.findClass eA = some ce.cls := hcl
    refine vx_catch (name := eA) (E := eA) hown [] (⟨0, 9, 12, 13⟩ : ExceptionTableEntry) [] (by rw [htab]; rfl) (fun z hz => absurd hz List.not_mem_nil) (by decide) (by decide) (hts _ q680) (va_Nw.use rfl (hKB.nest q698 rfl)) hce hcv hcl9 ?_
    refine W.eq (g2 := F0 m 12 ls [.ref q9]) rfl ?_
    refine lv_astore_n (lv' := [(3, .ref q9), (0, .ref d), (1, .int v), (2, .ref o)]) hx hb dX0_fatigueFromStart_12 rfl hl (by decide) rfl (fun ls hl => ?_)
    refine lv_iconst (v := nI 1) hx hb dX0_fatigueFromStart_13 (by decide) ?_
    refine vx_ret ?_
    have hpm_3401 : (([(o, .inl (G.2 5, 1, .inr (.inl of)))] ++ (W2_3396 ++ [])) : va_W).Perm (([(o, .inl (G.2 5, 1, .inr (.inl of)))] ++ (W2_3396 ++ [])) ++ []) := segs_perm [[(o, .inl (G.2 5, 1, .inr (.inl of)))], W2_3396] [0, 1] [] rfl
    have hP9 : va_P G.1 CL ([(o, .inl (G.2 5, 1, .inr (.inl of)))] ++ (W2_3396 ++ [])) H := P_left (P_perm hpm_3401 hP)
    have hD9 : va_D A ([(o, .inl (G.2 5, 1, .inr (.inl of)))] ++ (W2_3396 ++ [])) := D_left (D_perm hpm_3401 hD)
    exact end_i hx hb hr hlk (rfl) (qc_of (of, W2_3396) (v := some (.int (nI 1))) (by rw [hq_3397]) (⟨fun z9 => absurd (hq_3397.symm.trans z9) (by decide), by rw [hq_3397]; decide, hq_3398⟩) hP9 hD9 (trivial) hS) hS dX0_fatigueFromStart_14 (show 0 + 8300 ≤ 8300 from by first | exact Nat.le_refl _ | decide | omega) (show 0 + 17000 ≤ 17000 from by first | exact Nat.le_refl _ | decide | omega)
  · obtain ⟨rr_3393, W2_3394⟩ := u_
    obtain ⟨hq_3402, hq_3403⟩ : q_fat (dC S) v = (0, rr_3393) ∧ DyW G d S W2_3394 := hq
    have hpm_3404 : ([(o, .inl (G.2 5, 1, .inr (.inl of)))] ++ (W2_3394 ++ []) : va_W).Perm ([(o, .inl (G.2 5, 1, .inr (.inl of)))] ++ (W2_3394 ++ [])) := segs_perm2 [[(o, .inl (G.2 5, 1, .inr (.inl of)))]] [W2_3394] [0, 1] rfl
    have hP : va_P G.1 CL ([(o, .inl (G.2 5, 1, .inr (.inl of)))] ++ (W2_3394 ++ [])) H := P_perm hpm_3404 hP
    have hD : va_D A ([(o, .inl (G.2 5, 1, .inr (.inl of)))] ++ (W2_3394 ++ [])) := D_perm hpm_3404 hD
    refine W.eq (g2 := F0 m 7 ls [.int rr_3393, .int (nI 0), .ref o]) rfl ?_
    refine lv_i2l (v := (rr_3393).toInt64) hx hb dX0_fatigueFromStart_7 rfl ?_
    refine r_last hx hb hK hP hD hS 0 5 rfl rfl (i := 0) (by omega) (by omega) dX0_fatigueFromStart_8 (fun H locs (hP : va_P G.1 CL ([(o, .inl (G.2 5, 1, .inr (.inl (vp_updL of 0 ((rr_3393).toInt64)))))] ++ (W2_3394 ++ [])) H) (hD : va_D A ([(o, .inl (G.2 5, 1, .inr (.inl (vp_updL of 0 ((rr_3393).toInt64)))))] ++ (W2_3394 ++ []))) hS => ?_)
    refine lv_goto (tgt := 15) hx hb dX0_fatigueFromStart_9 (by decide) ?_
    refine lv_iconst (v := nI 0) hx hb dX0_fatigueFromStart_15 (by decide) ?_
    refine vx_ret ?_
    have hpm_3405 : (([(o, .inl (G.2 5, 1, .inr (.inl (vp_updL of 0 ((rr_3393).toInt64)))))] ++ (W2_3394 ++ [])) : va_W).Perm (([(o, .inl (G.2 5, 1, .inr (.inl (vp_updL of 0 ((rr_3393).toInt64)))))] ++ (W2_3394 ++ [])) ++ []) := segs_perm [[(o, .inl (G.2 5, 1, .inr (.inl (vp_updL of 0 ((rr_3393).toInt64)))))], W2_3394] [0, 1] [] rfl
    have hP9 : va_P G.1 CL ([(o, .inl (G.2 5, 1, .inr (.inl (vp_updL of 0 ((rr_3393).toInt64)))))] ++ (W2_3394 ++ [])) H := P_left (P_perm hpm_3405 hP)
    have hD9 : va_D A ([(o, .inl (G.2 5, 1, .inr (.inl (vp_updL of 0 ((rr_3393).toInt64)))))] ++ (W2_3394 ++ [])) := D_left (D_perm hpm_3405 hD)
    exact end_i hx hb hr hlk (rfl) (qc_of (vp_updL of 0 ((rr_3393).toInt64), W2_3394) (v := some (.int (nI 0))) (by rw [hq_3402]) (⟨fun _ => by rw [hq_3402]; exact pk_uLs, by rw [hq_3402]; exact (by decide : (0 : Nat) < 10), hq_3403⟩) hP9 hD9 (trivial) hS) hS dX0_fatigueFromStart_16 (show 0 + 8300 ≤ 8300 from by first | exact Nat.le_refl _ | decide | omega) (show 0 + 17000 ≤ 17000 from by first | exact Nat.le_refl _ | decide | omega)

set_option maxHeartbeats 4000000 in
theorem wX0_targetAt (l : Launch) (G : Gt) (d : Nat) (S : DS) (WA : va_W) (o : Nat) (of : Nat → Int64) (v : Int32) (h : DyW G d S WA) (hfl : l.stackTraces = false) : CTW l G yX0_targetAt cX0_targetAt 4 (some .int) [(0, 9, 12, 63)] ({ frames := 8, cells := 2, slots := 8, locals := 123 } : Room) [.ref d, .int v, .ref o] ([(o, .inl (G.2 5, 1, .inr (.inl of)))] ++ (WA ++ [])) RH0 (S := (Nat → Int64) × va_W) (fun (u_ : (Nat → Int64) × va_W) => some (.int (nI ((q_target (dC S) v).1)))) (fun (u_ : (Nat → Int64) × va_W) => ((q_target (dC S) v).1 = 0 → u_.1 0 = ((q_target (dC S) v).2).toInt64) ∧ (q_target (dC S) v).1 < 10 ∧ DyW G d S u_.2) (fun (u_ : (Nat → Int64) × va_W) => ([(o, .inl (G.2 5, 1, .inr (.inl u_.1)))] ++ (u_.2 ++ []))) (fun (u_ : (Nat → Int64) × va_W) (H : Heap) => True) := by
  refine CTW.of (by decide) (Nat.le_of_ble_eq_true rfl) ?_
  intro p e s m below meth c ls A H locs h9 hH0 hP hS hNc htab
  obtain ⟨cf, hr, hlk, hnm, hKB, hE, -, hD, -, hA, hAw, hRH, hl⟩ := h9
  have hx := cf.1
  have hb := cf.2.1
  have hml := cf.2.2.1
  have hown : s.vm.findClass RX0 = some m.cls := cf.2.2.2.1
  have hts := cf.2.2.2.2
  have hK := hKB.1
  have hl : lv_has ls 4 [(0, .ref d), (1, .int v), (2, .ref o)] := hl
  refine lv_aload_n hx hb dX0_targetAt_0 rfl (lv_at hl 2 rfl) ?_
  refine lv_iconst (v := nI 0) hx hb dX0_targetAt_1 (by decide) ?_
  refine lv_aload_n hx hb dX0_targetAt_2 rfl (lv_at hl 0 rfl) ?_
  refine lv_iload_n hx hb dX0_targetAt_3 rfl (lv_at hl 1 rfl) ?_
  have hpm_3406 : (([(o, .inl (G.2 5, 1, .inr (.inl of)))] ++ (WA ++ [])) : va_W).Perm ((WA ++ []) ++ [(o, .inl (G.2 5, 1, .inr (.inl of)))]) := segs_perm [[(o, .inl (G.2 5, 1, .inr (.inl of)))], WA] [1] [0] rfl
  have hF := hF_ofP (wc := (WA ++ [])) hD hS hA hpm_3406
  refine go_cxP hS hP hD hpm_3406 hF
      (vx_runV (As := [.int v]) (rest := [.int (nI 0), .ref o]) cf (dX1_targetAt l G d S WA v (show DyW G d S WA from by first | assumption | omega) hfl H.size) (cwV 1 hts (lw_V q1427 q1428 q1429 q47 q1430) rfl rfl rfl (by decide +kernel) ⟨Nat.le_of_ble_eq_true rfl, Nat.le_of_ble_eq_true rfl⟩) (preV_of hKB hE hS hF (DyW.recv hK h (seg_at [[(o, .inl (G.2 5, 1, .inr (.inl of)))], WA] 1 rfl hP)) (P_left (P_perm hpm_3406 hP)) ((D_left (D_perm hpm_3406 hD)).weaken (fun _ _ _ _ => trivial)) trivial) rfl rfl hl.1 rfl (lv_room (Nat.le_of_ble_eq_true rfl)) dX0_targetAt_4 ⟨show 0 + 2 ≤ 2 from by first | decide | omega, show 0 + 8 ≤ 8 from by first | decide | omega⟩)
      (fun u_ H locs ce q9 hq hph (hP : va_P G.1 CL ([(o, .inl (G.2 5, 1, .inr (.inl of)))] ++ (u_.2 ++ [])) H) (hD : va_D A ([(o, .inl (G.2 5, 1, .inr (.inl of)))] ++ (u_.2 ++ []))) hS hfz hfk hce hcv hcl => ?_) (fun u_ H locs hq hph (hP : va_P G.1 CL ([(o, .inl (G.2 5, 1, .inr (.inl of)))] ++ (u_.2 ++ [])) H) (hD : va_D A ([(o, .inl (G.2 5, 1, .inr (.inl of)))] ++ (u_.2 ++ []))) hS hfz hfk => ?_)
  · obtain ⟨kx_3409, W2_3410⟩ := u_
    obtain ⟨hq_3411, hq_3412, hq_3413⟩ : (q_target (dC S) v).1 = kx_3409 ∧ DyW G d S W2_3410 ∧ 1 ≤ kx_3409 ∧ kx_3409 ≤ 1 := hq
    have hpm_3414 : ([(o, .inl (G.2 5, 1, .inr (.inl of)))] ++ (W2_3410 ++ []) : va_W).Perm ([(o, .inl (G.2 5, 1, .inr (.inl of)))] ++ (W2_3410 ++ [])) := segs_perm2 [[(o, .inl (G.2 5, 1, .inr (.inl of)))]] [W2_3410] [0, 1] rfl
    have hP : va_P G.1 CL ([(o, .inl (G.2 5, 1, .inr (.inl of)))] ++ (W2_3410 ++ [])) H := P_perm hpm_3414 hP
    have hD : va_D A ([(o, .inl (G.2 5, 1, .inr (.inl of)))] ++ (W2_3410 ++ [])) := D_perm hpm_3414 hD
    obtain rfl : kx_3409 = 1 := by omega
    have hcl9 : s.vm.findClass eI = some ce.cls := hcl
    refine vx_catch (name := eI) (E := eI) hown [] (⟨0, 9, 12, 63⟩ : ExceptionTableEntry) [] (by rw [htab]; rfl) (fun z hz => absurd hz List.not_mem_nil) (by decide) (by decide) (hts _ q1197) (va_Nw.use rfl (hKB.nest q785 rfl)) hce hcv hcl9 ?_
    refine W.eq (g2 := F0 m 12 ls [.ref q9]) rfl ?_
    refine lv_astore_n (lv' := [(3, .ref q9), (0, .ref d), (1, .int v), (2, .ref o)]) hx hb dX0_targetAt_12 rfl hl (by decide) rfl (fun ls hl => ?_)
    refine lv_iconst (v := nI 1) hx hb dX0_targetAt_13 (by decide) ?_
    refine vx_ret ?_
    have hpm_3415 : (([(o, .inl (G.2 5, 1, .inr (.inl of)))] ++ (W2_3410 ++ [])) : va_W).Perm (([(o, .inl (G.2 5, 1, .inr (.inl of)))] ++ (W2_3410 ++ [])) ++ []) := segs_perm [[(o, .inl (G.2 5, 1, .inr (.inl of)))], W2_3410] [0, 1] [] rfl
    have hP9 : va_P G.1 CL ([(o, .inl (G.2 5, 1, .inr (.inl of)))] ++ (W2_3410 ++ [])) H := P_left (P_perm hpm_3415 hP)
    have hD9 : va_D A ([(o, .inl (G.2 5, 1, .inr (.inl of)))] ++ (W2_3410 ++ [])) := D_left (D_perm hpm_3415 hD)
    exact end_i hx hb hr hlk (rfl) (qc_of (of, W2_3410) (v := some (.int (nI 1))) (by rw [hq_3411]) (⟨fun z9 => absurd (hq_3411.symm.trans z9) (by decide), by rw [hq_3411]; decide, hq_3412⟩) hP9 hD9 (trivial) hS) hS dX0_targetAt_14 (show 0 + 2 ≤ 2 from by first | exact Nat.le_refl _ | decide | omega) (show 0 + 8 ≤ 8 from by first | exact Nat.le_refl _ | decide | omega)
  · obtain ⟨rr_3407, W2_3408⟩ := u_
    obtain ⟨hq_3416, hq_3417⟩ : q_target (dC S) v = (0, rr_3407) ∧ DyW G d S W2_3408 := hq
    have hpm_3418 : ([(o, .inl (G.2 5, 1, .inr (.inl of)))] ++ (W2_3408 ++ []) : va_W).Perm ([(o, .inl (G.2 5, 1, .inr (.inl of)))] ++ (W2_3408 ++ [])) := segs_perm2 [[(o, .inl (G.2 5, 1, .inr (.inl of)))]] [W2_3408] [0, 1] rfl
    have hP : va_P G.1 CL ([(o, .inl (G.2 5, 1, .inr (.inl of)))] ++ (W2_3408 ++ [])) H := P_perm hpm_3418 hP
    have hD : va_D A ([(o, .inl (G.2 5, 1, .inr (.inl of)))] ++ (W2_3408 ++ [])) := D_perm hpm_3418 hD
    refine W.eq (g2 := F0 m 7 ls [.int rr_3407, .int (nI 0), .ref o]) rfl ?_
    refine lv_i2l (v := (rr_3407).toInt64) hx hb dX0_targetAt_7 rfl ?_
    refine r_last hx hb hK hP hD hS 0 5 rfl rfl (i := 0) (by omega) (by omega) dX0_targetAt_8 (fun H locs (hP : va_P G.1 CL ([(o, .inl (G.2 5, 1, .inr (.inl (vp_updL of 0 ((rr_3407).toInt64)))))] ++ (W2_3408 ++ [])) H) (hD : va_D A ([(o, .inl (G.2 5, 1, .inr (.inl (vp_updL of 0 ((rr_3407).toInt64)))))] ++ (W2_3408 ++ []))) hS => ?_)
    refine lv_goto (tgt := 15) hx hb dX0_targetAt_9 (by decide) ?_
    refine lv_iconst (v := nI 0) hx hb dX0_targetAt_15 (by decide) ?_
    refine vx_ret ?_
    have hpm_3419 : (([(o, .inl (G.2 5, 1, .inr (.inl (vp_updL of 0 ((rr_3407).toInt64)))))] ++ (W2_3408 ++ [])) : va_W).Perm (([(o, .inl (G.2 5, 1, .inr (.inl (vp_updL of 0 ((rr_3407).toInt64)))))] ++ (W2_3408 ++ [])) ++ []) := segs_perm [[(o, .inl (G.2 5, 1, .inr (.inl (vp_updL of 0 ((rr_3407).toInt64)))))], W2_3408] [0, 1] [] rfl
    have hP9 : va_P G.1 CL ([(o, .inl (G.2 5, 1, .inr (.inl (vp_updL of 0 ((rr_3407).toInt64)))))] ++ (W2_3408 ++ [])) H := P_left (P_perm hpm_3419 hP)
    have hD9 : va_D A ([(o, .inl (G.2 5, 1, .inr (.inl (vp_updL of 0 ((rr_3407).toInt64)))))] ++ (W2_3408 ++ [])) := D_left (D_perm hpm_3419 hD)
    exact end_i hx hb hr hlk (rfl) (qc_of (vp_updL of 0 ((rr_3407).toInt64), W2_3408) (v := some (.int (nI 0))) (by rw [hq_3416]) (⟨fun _ => by rw [hq_3416]; exact pk_uLs, by rw [hq_3416]; exact (by decide : (0 : Nat) < 10), hq_3417⟩) hP9 hD9 (trivial) hS) hS dX0_targetAt_16 (show 0 + 2 ≤ 2 from by first | exact Nat.le_refl _ | decide | omega) (show 0 + 8 ≤ 8 from by first | exact Nat.le_refl _ | decide | omega)

set_option maxHeartbeats 4000000 in
theorem wX0_daysToForm (l : Launch) (G : Gt) (d : Nat) (S : DS) (WA : va_W) (o : Nat) (of : Nat → Int64) (v : Int32) (h : DyW G d S WA) (hfl : l.stackTraces = false) : CTW l G yX0_daysToForm cX0_daysToForm 4 (some .int) [(0, 9, 12, 13), (0, 9, 15, 24)] ({ frames := 14, cells := 8300, slots := 17000, locals := 300 } : Room) [.ref d, .int v, .ref o] ([(o, .inl (G.2 5, 1, .inr (.inl of)))] ++ (WA ++ [])) RH0 (S := (Nat → Int64) × va_W) (fun (u_ : (Nat → Int64) × va_W) => some (.int (nI ((q_daysTo (dC S) v).1)))) (fun (u_ : (Nat → Int64) × va_W) => ((q_daysTo (dC S) v).1 = 0 → u_.1 0 = ((q_daysTo (dC S) v).2).toInt64) ∧ (q_daysTo (dC S) v).1 < 10 ∧ DyW G d S u_.2) (fun (u_ : (Nat → Int64) × va_W) => ([(o, .inl (G.2 5, 1, .inr (.inl u_.1)))] ++ (u_.2 ++ []))) (fun (u_ : (Nat → Int64) × va_W) (H : Heap) => True) := by
  refine CTW.of (by decide) (Nat.le_of_ble_eq_true rfl) ?_
  intro p e s m below meth c ls A H locs h9 hH0 hP hS hNc htab
  obtain ⟨cf, hr, hlk, hnm, hKB, hE, -, hD, -, hA, hAw, hRH, hl⟩ := h9
  have hx := cf.1
  have hb := cf.2.1
  have hml := cf.2.2.1
  have hown : s.vm.findClass RX0 = some m.cls := cf.2.2.2.1
  have hts := cf.2.2.2.2
  have hK := hKB.1
  have hl : lv_has ls 4 [(0, .ref d), (1, .int v), (2, .ref o)] := hl
  refine lv_aload_n hx hb dX0_daysToForm_0 rfl (lv_at hl 2 rfl) ?_
  refine lv_iconst (v := nI 0) hx hb dX0_daysToForm_1 (by decide) ?_
  refine lv_aload_n hx hb dX0_daysToForm_2 rfl (lv_at hl 0 rfl) ?_
  refine lv_iload_n hx hb dX0_daysToForm_3 rfl (lv_at hl 1 rfl) ?_
  have hpm_3420 : (([(o, .inl (G.2 5, 1, .inr (.inl of)))] ++ (WA ++ [])) : va_W).Perm ((WA ++ []) ++ [(o, .inl (G.2 5, 1, .inr (.inl of)))]) := segs_perm [[(o, .inl (G.2 5, 1, .inr (.inl of)))], WA] [1] [0] rfl
  have hF := hF_ofP (wc := (WA ++ [])) hD hS hA hpm_3420
  refine go_cxP hS hP hD hpm_3420 hF
      (vx_runV (As := [.int v]) (rest := [.int (nI 0), .ref o]) cf (dX1_daysToForm l G d S WA v (show DyW G d S WA from by first | assumption | omega) hfl H.size) (cwV 1 hts (lw_V q1343 q1344 q1345 q47 q1346) rfl rfl rfl (by decide +kernel) ⟨Nat.le_of_ble_eq_true rfl, Nat.le_of_ble_eq_true rfl⟩) (preV_of hKB hE hS hF (DyW.recv hK h (seg_at [[(o, .inl (G.2 5, 1, .inr (.inl of)))], WA] 1 rfl hP)) (P_left (P_perm hpm_3420 hP)) ((D_left (D_perm hpm_3420 hD)).weaken (fun _ _ _ _ => trivial)) trivial) rfl rfl hl.1 rfl (lv_room (Nat.le_of_ble_eq_true rfl)) dX0_daysToForm_4 ⟨show 0 + 8300 ≤ 8300 from by first | decide | omega, show 0 + 17000 ≤ 17000 from by first | decide | omega⟩)
      (fun u_ H locs ce q9 hq hph (hP : va_P G.1 CL ([(o, .inl (G.2 5, 1, .inr (.inl of)))] ++ (u_.2 ++ [])) H) (hD : va_D A ([(o, .inl (G.2 5, 1, .inr (.inl of)))] ++ (u_.2 ++ []))) hS hfz hfk hce hcv hcl => ?_) (fun u_ H locs hq hph (hP : va_P G.1 CL ([(o, .inl (G.2 5, 1, .inr (.inl of)))] ++ (u_.2 ++ [])) H) (hD : va_D A ([(o, .inl (G.2 5, 1, .inr (.inl of)))] ++ (u_.2 ++ []))) hS hfz hfk => ?_)
  · obtain ⟨kx_3423, W2_3424⟩ := u_
    obtain ⟨hq_3425, hq_3426, hq_3427⟩ : (q_daysTo (dC S) v).1 = kx_3423 ∧ DyW G d S W2_3424 ∧ 1 ≤ kx_3423 ∧ kx_3423 ≤ 2 := hq
    have hpm_3428 : ([(o, .inl (G.2 5, 1, .inr (.inl of)))] ++ (W2_3424 ++ []) : va_W).Perm ([(o, .inl (G.2 5, 1, .inr (.inl of)))] ++ (W2_3424 ++ [])) := segs_perm2 [[(o, .inl (G.2 5, 1, .inr (.inl of)))]] [W2_3424] [0, 1] rfl
    have hP : va_P G.1 CL ([(o, .inl (G.2 5, 1, .inr (.inl of)))] ++ (W2_3424 ++ [])) H := P_perm hpm_3428 hP
    have hD : va_D A ([(o, .inl (G.2 5, 1, .inr (.inl of)))] ++ (W2_3424 ++ [])) := D_perm hpm_3428 hD
    rcases (show kx_3423 = 1 ∨ kx_3423 = 2 by omega) with rfl | rfl
    · have hcl9 : s.vm.findClass eA = some ce.cls := hcl
      refine vx_catch (name := eA) (E := eA) hown [] (⟨0, 9, 12, 13⟩ : ExceptionTableEntry) [(⟨0, 9, 15, 24⟩ : ExceptionTableEntry)] (by rw [htab]; rfl) (fun z hz => absurd hz List.not_mem_nil) (by decide) (by decide) (hts _ q680) (va_Nw.use rfl (hKB.nest q698 rfl)) hce hcv hcl9 ?_
      refine W.eq (g2 := F0 m 12 ls [.ref q9]) rfl ?_
      refine lv_astore_n (lv' := [(3, .ref q9), (0, .ref d), (1, .int v), (2, .ref o)]) hx hb dX0_daysToForm_12 rfl hl (by decide) rfl (fun ls hl => ?_)
      refine lv_iconst (v := nI 1) hx hb dX0_daysToForm_13 (by decide) ?_
      refine vx_ret ?_
      have hpm_3429 : (([(o, .inl (G.2 5, 1, .inr (.inl of)))] ++ (W2_3424 ++ [])) : va_W).Perm (([(o, .inl (G.2 5, 1, .inr (.inl of)))] ++ (W2_3424 ++ [])) ++ []) := segs_perm [[(o, .inl (G.2 5, 1, .inr (.inl of)))], W2_3424] [0, 1] [] rfl
      have hP9 : va_P G.1 CL ([(o, .inl (G.2 5, 1, .inr (.inl of)))] ++ (W2_3424 ++ [])) H := P_left (P_perm hpm_3429 hP)
      have hD9 : va_D A ([(o, .inl (G.2 5, 1, .inr (.inl of)))] ++ (W2_3424 ++ [])) := D_left (D_perm hpm_3429 hD)
      exact end_i hx hb hr hlk (rfl) (qc_of (of, W2_3424) (v := some (.int (nI 1))) (by rw [hq_3425]) (⟨fun z9 => absurd (hq_3425.symm.trans z9) (by decide), by rw [hq_3425]; decide, hq_3426⟩) hP9 hD9 (trivial) hS) hS dX0_daysToForm_14 (show 0 + 8300 ≤ 8300 from by first | exact Nat.le_refl _ | decide | omega) (show 0 + 17000 ≤ 17000 from by first | exact Nat.le_refl _ | decide | omega)
    · have hcl9 : s.vm.findClass eN = some ce.cls := hcl
      refine vx_catch (name := eN) (E := eN) hown [(⟨0, 9, 12, 13⟩ : ExceptionTableEntry)] (⟨0, 9, 15, 24⟩ : ExceptionTableEntry) [] (by rw [htab]; rfl) (fun z hz => by rcases List.mem_singleton.mp hz with rfl; exact Or.inr ⟨by decide, _, hts _ q680, hNc _ (List.mem_of_getElem? (i := 3) rfl)⟩) (by decide) (by decide) (hts _ q1013) (va_Nw.use rfl (hKB.nest q334 rfl)) hce hcv hcl9 ?_
      refine W.eq (g2 := F0 m 15 ls [.ref q9]) rfl ?_
      refine lv_astore_n (lv' := [(3, .ref q9), (0, .ref d), (1, .int v), (2, .ref o)]) hx hb dX0_daysToForm_15 rfl hl (by decide) rfl (fun ls hl => ?_)
      refine lv_iconst (v := nI 2) hx hb dX0_daysToForm_16 (by decide) ?_
      refine vx_ret ?_
      have hpm_3430 : (([(o, .inl (G.2 5, 1, .inr (.inl of)))] ++ (W2_3424 ++ [])) : va_W).Perm (([(o, .inl (G.2 5, 1, .inr (.inl of)))] ++ (W2_3424 ++ [])) ++ []) := segs_perm [[(o, .inl (G.2 5, 1, .inr (.inl of)))], W2_3424] [0, 1] [] rfl
      have hP9 : va_P G.1 CL ([(o, .inl (G.2 5, 1, .inr (.inl of)))] ++ (W2_3424 ++ [])) H := P_left (P_perm hpm_3430 hP)
      have hD9 : va_D A ([(o, .inl (G.2 5, 1, .inr (.inl of)))] ++ (W2_3424 ++ [])) := D_left (D_perm hpm_3430 hD)
      exact end_i hx hb hr hlk (rfl) (qc_of (of, W2_3424) (v := some (.int (nI 2))) (by rw [hq_3425]) (⟨fun z9 => absurd (hq_3425.symm.trans z9) (by decide), by rw [hq_3425]; decide, hq_3426⟩) hP9 hD9 (trivial) hS) hS dX0_daysToForm_17 (show 0 + 8300 ≤ 8300 from by first | exact Nat.le_refl _ | decide | omega) (show 0 + 17000 ≤ 17000 from by first | exact Nat.le_refl _ | decide | omega)
  · obtain ⟨rr_3421, W2_3422⟩ := u_
    obtain ⟨hq_3431, hq_3432⟩ : q_daysTo (dC S) v = (0, rr_3421) ∧ DyW G d S W2_3422 := hq
    have hpm_3433 : ([(o, .inl (G.2 5, 1, .inr (.inl of)))] ++ (W2_3422 ++ []) : va_W).Perm ([(o, .inl (G.2 5, 1, .inr (.inl of)))] ++ (W2_3422 ++ [])) := segs_perm2 [[(o, .inl (G.2 5, 1, .inr (.inl of)))]] [W2_3422] [0, 1] rfl
    have hP : va_P G.1 CL ([(o, .inl (G.2 5, 1, .inr (.inl of)))] ++ (W2_3422 ++ [])) H := P_perm hpm_3433 hP
    have hD : va_D A ([(o, .inl (G.2 5, 1, .inr (.inl of)))] ++ (W2_3422 ++ [])) := D_perm hpm_3433 hD
    refine W.eq (g2 := F0 m 7 ls [.int rr_3421, .int (nI 0), .ref o]) rfl ?_
    refine lv_i2l (v := (rr_3421).toInt64) hx hb dX0_daysToForm_7 rfl ?_
    refine r_last hx hb hK hP hD hS 0 5 rfl rfl (i := 0) (by omega) (by omega) dX0_daysToForm_8 (fun H locs (hP : va_P G.1 CL ([(o, .inl (G.2 5, 1, .inr (.inl (vp_updL of 0 ((rr_3421).toInt64)))))] ++ (W2_3422 ++ [])) H) (hD : va_D A ([(o, .inl (G.2 5, 1, .inr (.inl (vp_updL of 0 ((rr_3421).toInt64)))))] ++ (W2_3422 ++ []))) hS => ?_)
    refine lv_goto (tgt := 18) hx hb dX0_daysToForm_9 (by decide) ?_
    refine lv_iconst (v := nI 0) hx hb dX0_daysToForm_18 (by decide) ?_
    refine vx_ret ?_
    have hpm_3434 : (([(o, .inl (G.2 5, 1, .inr (.inl (vp_updL of 0 ((rr_3421).toInt64)))))] ++ (W2_3422 ++ [])) : va_W).Perm (([(o, .inl (G.2 5, 1, .inr (.inl (vp_updL of 0 ((rr_3421).toInt64)))))] ++ (W2_3422 ++ [])) ++ []) := segs_perm [[(o, .inl (G.2 5, 1, .inr (.inl (vp_updL of 0 ((rr_3421).toInt64)))))], W2_3422] [0, 1] [] rfl
    have hP9 : va_P G.1 CL ([(o, .inl (G.2 5, 1, .inr (.inl (vp_updL of 0 ((rr_3421).toInt64)))))] ++ (W2_3422 ++ [])) H := P_left (P_perm hpm_3434 hP)
    have hD9 : va_D A ([(o, .inl (G.2 5, 1, .inr (.inl (vp_updL of 0 ((rr_3421).toInt64)))))] ++ (W2_3422 ++ [])) := D_left (D_perm hpm_3434 hD)
    exact end_i hx hb hr hlk (rfl) (qc_of (vp_updL of 0 ((rr_3421).toInt64), W2_3422) (v := some (.int (nI 0))) (by rw [hq_3431]) (⟨fun _ => by rw [hq_3431]; exact pk_uLs, by rw [hq_3431]; exact (by decide : (0 : Nat) < 10), hq_3432⟩) hP9 hD9 (trivial) hS) hS dX0_daysToForm_19 (show 0 + 8300 ≤ 8300 from by first | exact Nat.le_refl _ | decide | omega) (show 0 + 17000 ≤ 17000 from by first | exact Nat.le_refl _ | decide | omega)

set_option maxHeartbeats 4000000 in
theorem wX0_bestDays (l : Launch) (G : Gt) (d : Nat) (S : DS) (WA : va_W) (o : Nat) (of : Nat → Int64) (v : Int32) (h : DyW G d S WA) (hfl : l.stackTraces = false) : CTW l G yX0_bestDays cX0_bestDays 4 (some .int) [(0, 9, 12, 13), (0, 9, 15, 24)] ({ frames := 14, cells := 16600, slots := 34000, locals := 301 } : Room) [.ref d, .int v, .ref o] ([(o, .inl (G.2 5, 1, .inr (.inl of)))] ++ (WA ++ [])) RH0 (S := (Nat → Int64) × va_W) (fun (u_ : (Nat → Int64) × va_W) => some (.int (nI ((q_bestDays (dC S) v).1)))) (fun (u_ : (Nat → Int64) × va_W) => ((q_bestDays (dC S) v).1 = 0 → u_.1 0 = ((q_bestDays (dC S) v).2).toInt64) ∧ (q_bestDays (dC S) v).1 < 10 ∧ DyW G d S u_.2) (fun (u_ : (Nat → Int64) × va_W) => ([(o, .inl (G.2 5, 1, .inr (.inl u_.1)))] ++ (u_.2 ++ []))) (fun (u_ : (Nat → Int64) × va_W) (H : Heap) => True) := by
  refine CTW.of (by decide) (Nat.le_of_ble_eq_true rfl) ?_
  intro p e s m below meth c ls A H locs h9 hH0 hP hS hNc htab
  obtain ⟨cf, hr, hlk, hnm, hKB, hE, -, hD, -, hA, hAw, hRH, hl⟩ := h9
  have hx := cf.1
  have hb := cf.2.1
  have hml := cf.2.2.1
  have hown : s.vm.findClass RX0 = some m.cls := cf.2.2.2.1
  have hts := cf.2.2.2.2
  have hK := hKB.1
  have hl : lv_has ls 4 [(0, .ref d), (1, .int v), (2, .ref o)] := hl
  refine lv_aload_n hx hb dX0_bestDays_0 rfl (lv_at hl 2 rfl) ?_
  refine lv_iconst (v := nI 0) hx hb dX0_bestDays_1 (by decide) ?_
  refine lv_aload_n hx hb dX0_bestDays_2 rfl (lv_at hl 0 rfl) ?_
  refine lv_iload_n hx hb dX0_bestDays_3 rfl (lv_at hl 1 rfl) ?_
  have hpm_3435 : (([(o, .inl (G.2 5, 1, .inr (.inl of)))] ++ (WA ++ [])) : va_W).Perm ((WA ++ []) ++ [(o, .inl (G.2 5, 1, .inr (.inl of)))]) := segs_perm [[(o, .inl (G.2 5, 1, .inr (.inl of)))], WA] [1] [0] rfl
  have hF := hF_ofP (wc := (WA ++ [])) hD hS hA hpm_3435
  refine go_cxP hS hP hD hpm_3435 hF
      (vx_runV (As := [.int v]) (rest := [.int (nI 0), .ref o]) cf (dX1_bestDays l G d S WA v (show DyW G d S WA from by first | assumption | omega) hfl H.size) (cwV 1 hts (lw_V q1353 q1354 q1355 q47 q1356) rfl rfl rfl (by decide +kernel) ⟨Nat.le_of_ble_eq_true rfl, Nat.le_of_ble_eq_true rfl⟩) (preV_of hKB hE hS hF (DyW.recv hK h (seg_at [[(o, .inl (G.2 5, 1, .inr (.inl of)))], WA] 1 rfl hP)) (P_left (P_perm hpm_3435 hP)) ((D_left (D_perm hpm_3435 hD)).weaken (fun _ _ _ _ => trivial)) trivial) rfl rfl hl.1 rfl (lv_room (Nat.le_of_ble_eq_true rfl)) dX0_bestDays_4 ⟨show 0 + 16600 ≤ 16600 from by first | decide | omega, show 0 + 34000 ≤ 34000 from by first | decide | omega⟩)
      (fun u_ H locs ce q9 hq hph (hP : va_P G.1 CL ([(o, .inl (G.2 5, 1, .inr (.inl of)))] ++ (u_.2 ++ [])) H) (hD : va_D A ([(o, .inl (G.2 5, 1, .inr (.inl of)))] ++ (u_.2 ++ []))) hS hfz hfk hce hcv hcl => ?_) (fun u_ H locs hq hph (hP : va_P G.1 CL ([(o, .inl (G.2 5, 1, .inr (.inl of)))] ++ (u_.2 ++ [])) H) (hD : va_D A ([(o, .inl (G.2 5, 1, .inr (.inl of)))] ++ (u_.2 ++ []))) hS hfz hfk => ?_)
  · obtain ⟨kx_3438, W2_3439⟩ := u_
    obtain ⟨hq_3440, hq_3441, hq_3442⟩ : (q_bestDays (dC S) v).1 = kx_3438 ∧ DyW G d S W2_3439 ∧ 1 ≤ kx_3438 ∧ kx_3438 ≤ 2 := hq
    have hpm_3443 : ([(o, .inl (G.2 5, 1, .inr (.inl of)))] ++ (W2_3439 ++ []) : va_W).Perm ([(o, .inl (G.2 5, 1, .inr (.inl of)))] ++ (W2_3439 ++ [])) := segs_perm2 [[(o, .inl (G.2 5, 1, .inr (.inl of)))]] [W2_3439] [0, 1] rfl
    have hP : va_P G.1 CL ([(o, .inl (G.2 5, 1, .inr (.inl of)))] ++ (W2_3439 ++ [])) H := P_perm hpm_3443 hP
    have hD : va_D A ([(o, .inl (G.2 5, 1, .inr (.inl of)))] ++ (W2_3439 ++ [])) := D_perm hpm_3443 hD
    rcases (show kx_3438 = 1 ∨ kx_3438 = 2 by omega) with rfl | rfl
    · have hcl9 : s.vm.findClass eA = some ce.cls := hcl
      refine vx_catch (name := eA) (E := eA) hown [] (⟨0, 9, 12, 13⟩ : ExceptionTableEntry) [(⟨0, 9, 15, 24⟩ : ExceptionTableEntry)] (by rw [htab]; rfl) (fun z hz => absurd hz List.not_mem_nil) (by decide) (by decide) (hts _ q680) (va_Nw.use rfl (hKB.nest q698 rfl)) hce hcv hcl9 ?_
      refine W.eq (g2 := F0 m 12 ls [.ref q9]) rfl ?_
      refine lv_astore_n (lv' := [(3, .ref q9), (0, .ref d), (1, .int v), (2, .ref o)]) hx hb dX0_bestDays_12 rfl hl (by decide) rfl (fun ls hl => ?_)
      refine lv_iconst (v := nI 1) hx hb dX0_bestDays_13 (by decide) ?_
      refine vx_ret ?_
      have hpm_3444 : (([(o, .inl (G.2 5, 1, .inr (.inl of)))] ++ (W2_3439 ++ [])) : va_W).Perm (([(o, .inl (G.2 5, 1, .inr (.inl of)))] ++ (W2_3439 ++ [])) ++ []) := segs_perm [[(o, .inl (G.2 5, 1, .inr (.inl of)))], W2_3439] [0, 1] [] rfl
      have hP9 : va_P G.1 CL ([(o, .inl (G.2 5, 1, .inr (.inl of)))] ++ (W2_3439 ++ [])) H := P_left (P_perm hpm_3444 hP)
      have hD9 : va_D A ([(o, .inl (G.2 5, 1, .inr (.inl of)))] ++ (W2_3439 ++ [])) := D_left (D_perm hpm_3444 hD)
      exact end_i hx hb hr hlk (rfl) (qc_of (of, W2_3439) (v := some (.int (nI 1))) (by rw [hq_3440]) (⟨fun z9 => absurd (hq_3440.symm.trans z9) (by decide), by rw [hq_3440]; decide, hq_3441⟩) hP9 hD9 (trivial) hS) hS dX0_bestDays_14 (show 0 + 16600 ≤ 16600 from by first | exact Nat.le_refl _ | decide | omega) (show 0 + 34000 ≤ 34000 from by first | exact Nat.le_refl _ | decide | omega)
    · have hcl9 : s.vm.findClass eN = some ce.cls := hcl
      refine vx_catch (name := eN) (E := eN) hown [(⟨0, 9, 12, 13⟩ : ExceptionTableEntry)] (⟨0, 9, 15, 24⟩ : ExceptionTableEntry) [] (by rw [htab]; rfl) (fun z hz => by rcases List.mem_singleton.mp hz with rfl; exact Or.inr ⟨by decide, _, hts _ q680, hNc _ (List.mem_of_getElem? (i := 3) rfl)⟩) (by decide) (by decide) (hts _ q1013) (va_Nw.use rfl (hKB.nest q334 rfl)) hce hcv hcl9 ?_
      refine W.eq (g2 := F0 m 15 ls [.ref q9]) rfl ?_
      refine lv_astore_n (lv' := [(3, .ref q9), (0, .ref d), (1, .int v), (2, .ref o)]) hx hb dX0_bestDays_15 rfl hl (by decide) rfl (fun ls hl => ?_)
      refine lv_iconst (v := nI 2) hx hb dX0_bestDays_16 (by decide) ?_
      refine vx_ret ?_
      have hpm_3445 : (([(o, .inl (G.2 5, 1, .inr (.inl of)))] ++ (W2_3439 ++ [])) : va_W).Perm (([(o, .inl (G.2 5, 1, .inr (.inl of)))] ++ (W2_3439 ++ [])) ++ []) := segs_perm [[(o, .inl (G.2 5, 1, .inr (.inl of)))], W2_3439] [0, 1] [] rfl
      have hP9 : va_P G.1 CL ([(o, .inl (G.2 5, 1, .inr (.inl of)))] ++ (W2_3439 ++ [])) H := P_left (P_perm hpm_3445 hP)
      have hD9 : va_D A ([(o, .inl (G.2 5, 1, .inr (.inl of)))] ++ (W2_3439 ++ [])) := D_left (D_perm hpm_3445 hD)
      exact end_i hx hb hr hlk (rfl) (qc_of (of, W2_3439) (v := some (.int (nI 2))) (by rw [hq_3440]) (⟨fun z9 => absurd (hq_3440.symm.trans z9) (by decide), by rw [hq_3440]; decide, hq_3441⟩) hP9 hD9 (trivial) hS) hS dX0_bestDays_17 (show 0 + 16600 ≤ 16600 from by first | exact Nat.le_refl _ | decide | omega) (show 0 + 34000 ≤ 34000 from by first | exact Nat.le_refl _ | decide | omega)
  · obtain ⟨rr_3436, W2_3437⟩ := u_
    obtain ⟨hq_3446, hq_3447⟩ : q_bestDays (dC S) v = (0, rr_3436) ∧ DyW G d S W2_3437 := hq
    have hpm_3448 : ([(o, .inl (G.2 5, 1, .inr (.inl of)))] ++ (W2_3437 ++ []) : va_W).Perm ([(o, .inl (G.2 5, 1, .inr (.inl of)))] ++ (W2_3437 ++ [])) := segs_perm2 [[(o, .inl (G.2 5, 1, .inr (.inl of)))]] [W2_3437] [0, 1] rfl
    have hP : va_P G.1 CL ([(o, .inl (G.2 5, 1, .inr (.inl of)))] ++ (W2_3437 ++ [])) H := P_perm hpm_3448 hP
    have hD : va_D A ([(o, .inl (G.2 5, 1, .inr (.inl of)))] ++ (W2_3437 ++ [])) := D_perm hpm_3448 hD
    refine W.eq (g2 := F0 m 7 ls [.int rr_3436, .int (nI 0), .ref o]) rfl ?_
    refine lv_i2l (v := (rr_3436).toInt64) hx hb dX0_bestDays_7 rfl ?_
    refine r_last hx hb hK hP hD hS 0 5 rfl rfl (i := 0) (by omega) (by omega) dX0_bestDays_8 (fun H locs (hP : va_P G.1 CL ([(o, .inl (G.2 5, 1, .inr (.inl (vp_updL of 0 ((rr_3436).toInt64)))))] ++ (W2_3437 ++ [])) H) (hD : va_D A ([(o, .inl (G.2 5, 1, .inr (.inl (vp_updL of 0 ((rr_3436).toInt64)))))] ++ (W2_3437 ++ []))) hS => ?_)
    refine lv_goto (tgt := 18) hx hb dX0_bestDays_9 (by decide) ?_
    refine lv_iconst (v := nI 0) hx hb dX0_bestDays_18 (by decide) ?_
    refine vx_ret ?_
    have hpm_3449 : (([(o, .inl (G.2 5, 1, .inr (.inl (vp_updL of 0 ((rr_3436).toInt64)))))] ++ (W2_3437 ++ [])) : va_W).Perm (([(o, .inl (G.2 5, 1, .inr (.inl (vp_updL of 0 ((rr_3436).toInt64)))))] ++ (W2_3437 ++ [])) ++ []) := segs_perm [[(o, .inl (G.2 5, 1, .inr (.inl (vp_updL of 0 ((rr_3436).toInt64)))))], W2_3437] [0, 1] [] rfl
    have hP9 : va_P G.1 CL ([(o, .inl (G.2 5, 1, .inr (.inl (vp_updL of 0 ((rr_3436).toInt64)))))] ++ (W2_3437 ++ [])) H := P_left (P_perm hpm_3449 hP)
    have hD9 : va_D A ([(o, .inl (G.2 5, 1, .inr (.inl (vp_updL of 0 ((rr_3436).toInt64)))))] ++ (W2_3437 ++ [])) := D_left (D_perm hpm_3449 hD)
    exact end_i hx hb hr hlk (rfl) (qc_of (vp_updL of 0 ((rr_3436).toInt64), W2_3437) (v := some (.int (nI 0))) (by rw [hq_3446]) (⟨fun _ => by rw [hq_3446]; exact pk_uLs, by rw [hq_3446]; exact (by decide : (0 : Nat) < 10), hq_3447⟩) hP9 hD9 (trivial) hS) hS dX0_bestDays_19 (show 0 + 16600 ≤ 16600 from by first | exact Nat.le_refl _ | decide | omega) (show 0 + 34000 ≤ 34000 from by first | exact Nat.le_refl _ | decide | omega)

set_option maxHeartbeats 4000000 in
theorem wX0_bestDaysStart (l : Launch) (G : Gt) (d : Nat) (S : DS) (WA : va_W) (o : Nat) (of : Nat → Int64) (v : Int32) (h : DyW G d S WA) (hfl : l.stackTraces = false) : CTW l G yX0_bestDaysStart cX0_bestDaysStart 4 (some .int) [(0, 9, 12, 13), (0, 9, 15, 24)] ({ frames := 14, cells := 8300, slots := 17000, locals := 301 } : Room) [.ref d, .int v, .ref o] ([(o, .inl (G.2 5, 1, .inr (.inl of)))] ++ (WA ++ [])) RH0 (S := (Nat → Int64) × va_W) (fun (u_ : (Nat → Int64) × va_W) => some (.int (nI ((q_bestStart (dC S) v).1)))) (fun (u_ : (Nat → Int64) × va_W) => ((q_bestStart (dC S) v).1 = 0 → u_.1 0 = ((q_bestStart (dC S) v).2).toInt64) ∧ (q_bestStart (dC S) v).1 < 10 ∧ DyW G d S u_.2) (fun (u_ : (Nat → Int64) × va_W) => ([(o, .inl (G.2 5, 1, .inr (.inl u_.1)))] ++ (u_.2 ++ []))) (fun (u_ : (Nat → Int64) × va_W) (H : Heap) => True) := by
  refine CTW.of (by decide) (Nat.le_of_ble_eq_true rfl) ?_
  intro p e s m below meth c ls A H locs h9 hH0 hP hS hNc htab
  obtain ⟨cf, hr, hlk, hnm, hKB, hE, -, hD, -, hA, hAw, hRH, hl⟩ := h9
  have hx := cf.1
  have hb := cf.2.1
  have hml := cf.2.2.1
  have hown : s.vm.findClass RX0 = some m.cls := cf.2.2.2.1
  have hts := cf.2.2.2.2
  have hK := hKB.1
  have hl : lv_has ls 4 [(0, .ref d), (1, .int v), (2, .ref o)] := hl
  refine lv_aload_n hx hb dX0_bestDaysStart_0 rfl (lv_at hl 2 rfl) ?_
  refine lv_iconst (v := nI 0) hx hb dX0_bestDaysStart_1 (by decide) ?_
  refine lv_aload_n hx hb dX0_bestDaysStart_2 rfl (lv_at hl 0 rfl) ?_
  refine lv_iload_n hx hb dX0_bestDaysStart_3 rfl (lv_at hl 1 rfl) ?_
  have hpm_3450 : (([(o, .inl (G.2 5, 1, .inr (.inl of)))] ++ (WA ++ [])) : va_W).Perm ((WA ++ []) ++ [(o, .inl (G.2 5, 1, .inr (.inl of)))]) := segs_perm [[(o, .inl (G.2 5, 1, .inr (.inl of)))], WA] [1] [0] rfl
  have hF := hF_ofP (wc := (WA ++ [])) hD hS hA hpm_3450
  refine go_cxP hS hP hD hpm_3450 hF
      (vx_runV (As := [.int v]) (rest := [.int (nI 0), .ref o]) cf (dX1_bestDaysStart l G d S WA v (show DyW G d S WA from by first | assumption | omega) hfl H.size) (cwV 1 hts (lw_V q1380 q1381 q1382 q47 q1383) rfl rfl rfl (by decide +kernel) ⟨Nat.le_of_ble_eq_true rfl, Nat.le_of_ble_eq_true rfl⟩) (preV_of hKB hE hS hF (DyW.recv hK h (seg_at [[(o, .inl (G.2 5, 1, .inr (.inl of)))], WA] 1 rfl hP)) (P_left (P_perm hpm_3450 hP)) ((D_left (D_perm hpm_3450 hD)).weaken (fun _ _ _ _ => trivial)) trivial) rfl rfl hl.1 rfl (lv_room (Nat.le_of_ble_eq_true rfl)) dX0_bestDaysStart_4 ⟨show 0 + 8300 ≤ 8300 from by first | decide | omega, show 0 + 17000 ≤ 17000 from by first | decide | omega⟩)
      (fun u_ H locs ce q9 hq hph (hP : va_P G.1 CL ([(o, .inl (G.2 5, 1, .inr (.inl of)))] ++ (u_.2 ++ [])) H) (hD : va_D A ([(o, .inl (G.2 5, 1, .inr (.inl of)))] ++ (u_.2 ++ []))) hS hfz hfk hce hcv hcl => ?_) (fun u_ H locs hq hph (hP : va_P G.1 CL ([(o, .inl (G.2 5, 1, .inr (.inl of)))] ++ (u_.2 ++ [])) H) (hD : va_D A ([(o, .inl (G.2 5, 1, .inr (.inl of)))] ++ (u_.2 ++ []))) hS hfz hfk => ?_)
  · obtain ⟨kx_3453, W2_3454⟩ := u_
    obtain ⟨hq_3455, hq_3456, hq_3457⟩ : (q_bestStart (dC S) v).1 = kx_3453 ∧ DyW G d S W2_3454 ∧ 1 ≤ kx_3453 ∧ kx_3453 ≤ 2 := hq
    have hpm_3458 : ([(o, .inl (G.2 5, 1, .inr (.inl of)))] ++ (W2_3454 ++ []) : va_W).Perm ([(o, .inl (G.2 5, 1, .inr (.inl of)))] ++ (W2_3454 ++ [])) := segs_perm2 [[(o, .inl (G.2 5, 1, .inr (.inl of)))]] [W2_3454] [0, 1] rfl
    have hP : va_P G.1 CL ([(o, .inl (G.2 5, 1, .inr (.inl of)))] ++ (W2_3454 ++ [])) H := P_perm hpm_3458 hP
    have hD : va_D A ([(o, .inl (G.2 5, 1, .inr (.inl of)))] ++ (W2_3454 ++ [])) := D_perm hpm_3458 hD
    rcases (show kx_3453 = 1 ∨ kx_3453 = 2 by omega) with rfl | rfl
    · have hcl9 : s.vm.findClass eA = some ce.cls := hcl
      refine vx_catch (name := eA) (E := eA) hown [] (⟨0, 9, 12, 13⟩ : ExceptionTableEntry) [(⟨0, 9, 15, 24⟩ : ExceptionTableEntry)] (by rw [htab]; rfl) (fun z hz => absurd hz List.not_mem_nil) (by decide) (by decide) (hts _ q680) (va_Nw.use rfl (hKB.nest q698 rfl)) hce hcv hcl9 ?_
      refine W.eq (g2 := F0 m 12 ls [.ref q9]) rfl ?_
      refine lv_astore_n (lv' := [(3, .ref q9), (0, .ref d), (1, .int v), (2, .ref o)]) hx hb dX0_bestDaysStart_12 rfl hl (by decide) rfl (fun ls hl => ?_)
      refine lv_iconst (v := nI 1) hx hb dX0_bestDaysStart_13 (by decide) ?_
      refine vx_ret ?_
      have hpm_3459 : (([(o, .inl (G.2 5, 1, .inr (.inl of)))] ++ (W2_3454 ++ [])) : va_W).Perm (([(o, .inl (G.2 5, 1, .inr (.inl of)))] ++ (W2_3454 ++ [])) ++ []) := segs_perm [[(o, .inl (G.2 5, 1, .inr (.inl of)))], W2_3454] [0, 1] [] rfl
      have hP9 : va_P G.1 CL ([(o, .inl (G.2 5, 1, .inr (.inl of)))] ++ (W2_3454 ++ [])) H := P_left (P_perm hpm_3459 hP)
      have hD9 : va_D A ([(o, .inl (G.2 5, 1, .inr (.inl of)))] ++ (W2_3454 ++ [])) := D_left (D_perm hpm_3459 hD)
      exact end_i hx hb hr hlk (rfl) (qc_of (of, W2_3454) (v := some (.int (nI 1))) (by rw [hq_3455]) (⟨fun z9 => absurd (hq_3455.symm.trans z9) (by decide), by rw [hq_3455]; decide, hq_3456⟩) hP9 hD9 (trivial) hS) hS dX0_bestDaysStart_14 (show 0 + 8300 ≤ 8300 from by first | exact Nat.le_refl _ | decide | omega) (show 0 + 17000 ≤ 17000 from by first | exact Nat.le_refl _ | decide | omega)
    · have hcl9 : s.vm.findClass eN = some ce.cls := hcl
      refine vx_catch (name := eN) (E := eN) hown [(⟨0, 9, 12, 13⟩ : ExceptionTableEntry)] (⟨0, 9, 15, 24⟩ : ExceptionTableEntry) [] (by rw [htab]; rfl) (fun z hz => by rcases List.mem_singleton.mp hz with rfl; exact Or.inr ⟨by decide, _, hts _ q680, hNc _ (List.mem_of_getElem? (i := 3) rfl)⟩) (by decide) (by decide) (hts _ q1013) (va_Nw.use rfl (hKB.nest q334 rfl)) hce hcv hcl9 ?_
      refine W.eq (g2 := F0 m 15 ls [.ref q9]) rfl ?_
      refine lv_astore_n (lv' := [(3, .ref q9), (0, .ref d), (1, .int v), (2, .ref o)]) hx hb dX0_bestDaysStart_15 rfl hl (by decide) rfl (fun ls hl => ?_)
      refine lv_iconst (v := nI 2) hx hb dX0_bestDaysStart_16 (by decide) ?_
      refine vx_ret ?_
      have hpm_3460 : (([(o, .inl (G.2 5, 1, .inr (.inl of)))] ++ (W2_3454 ++ [])) : va_W).Perm (([(o, .inl (G.2 5, 1, .inr (.inl of)))] ++ (W2_3454 ++ [])) ++ []) := segs_perm [[(o, .inl (G.2 5, 1, .inr (.inl of)))], W2_3454] [0, 1] [] rfl
      have hP9 : va_P G.1 CL ([(o, .inl (G.2 5, 1, .inr (.inl of)))] ++ (W2_3454 ++ [])) H := P_left (P_perm hpm_3460 hP)
      have hD9 : va_D A ([(o, .inl (G.2 5, 1, .inr (.inl of)))] ++ (W2_3454 ++ [])) := D_left (D_perm hpm_3460 hD)
      exact end_i hx hb hr hlk (rfl) (qc_of (of, W2_3454) (v := some (.int (nI 2))) (by rw [hq_3455]) (⟨fun z9 => absurd (hq_3455.symm.trans z9) (by decide), by rw [hq_3455]; decide, hq_3456⟩) hP9 hD9 (trivial) hS) hS dX0_bestDaysStart_17 (show 0 + 8300 ≤ 8300 from by first | exact Nat.le_refl _ | decide | omega) (show 0 + 17000 ≤ 17000 from by first | exact Nat.le_refl _ | decide | omega)
  · obtain ⟨rr_3451, W2_3452⟩ := u_
    obtain ⟨hq_3461, hq_3462⟩ : q_bestStart (dC S) v = (0, rr_3451) ∧ DyW G d S W2_3452 := hq
    have hpm_3463 : ([(o, .inl (G.2 5, 1, .inr (.inl of)))] ++ (W2_3452 ++ []) : va_W).Perm ([(o, .inl (G.2 5, 1, .inr (.inl of)))] ++ (W2_3452 ++ [])) := segs_perm2 [[(o, .inl (G.2 5, 1, .inr (.inl of)))]] [W2_3452] [0, 1] rfl
    have hP : va_P G.1 CL ([(o, .inl (G.2 5, 1, .inr (.inl of)))] ++ (W2_3452 ++ [])) H := P_perm hpm_3463 hP
    have hD : va_D A ([(o, .inl (G.2 5, 1, .inr (.inl of)))] ++ (W2_3452 ++ [])) := D_perm hpm_3463 hD
    refine W.eq (g2 := F0 m 7 ls [.int rr_3451, .int (nI 0), .ref o]) rfl ?_
    refine lv_i2l (v := (rr_3451).toInt64) hx hb dX0_bestDaysStart_7 rfl ?_
    refine r_last hx hb hK hP hD hS 0 5 rfl rfl (i := 0) (by omega) (by omega) dX0_bestDaysStart_8 (fun H locs (hP : va_P G.1 CL ([(o, .inl (G.2 5, 1, .inr (.inl (vp_updL of 0 ((rr_3451).toInt64)))))] ++ (W2_3452 ++ [])) H) (hD : va_D A ([(o, .inl (G.2 5, 1, .inr (.inl (vp_updL of 0 ((rr_3451).toInt64)))))] ++ (W2_3452 ++ []))) hS => ?_)
    refine lv_goto (tgt := 18) hx hb dX0_bestDaysStart_9 (by decide) ?_
    refine lv_iconst (v := nI 0) hx hb dX0_bestDaysStart_18 (by decide) ?_
    refine vx_ret ?_
    have hpm_3464 : (([(o, .inl (G.2 5, 1, .inr (.inl (vp_updL of 0 ((rr_3451).toInt64)))))] ++ (W2_3452 ++ [])) : va_W).Perm (([(o, .inl (G.2 5, 1, .inr (.inl (vp_updL of 0 ((rr_3451).toInt64)))))] ++ (W2_3452 ++ [])) ++ []) := segs_perm [[(o, .inl (G.2 5, 1, .inr (.inl (vp_updL of 0 ((rr_3451).toInt64)))))], W2_3452] [0, 1] [] rfl
    have hP9 : va_P G.1 CL ([(o, .inl (G.2 5, 1, .inr (.inl (vp_updL of 0 ((rr_3451).toInt64)))))] ++ (W2_3452 ++ [])) H := P_left (P_perm hpm_3464 hP)
    have hD9 : va_D A ([(o, .inl (G.2 5, 1, .inr (.inl (vp_updL of 0 ((rr_3451).toInt64)))))] ++ (W2_3452 ++ [])) := D_left (D_perm hpm_3464 hD)
    exact end_i hx hb hr hlk (rfl) (qc_of (vp_updL of 0 ((rr_3451).toInt64), W2_3452) (v := some (.int (nI 0))) (by rw [hq_3461]) (⟨fun _ => by rw [hq_3461]; exact pk_uLs, by rw [hq_3461]; exact (by decide : (0 : Nat) < 10), hq_3462⟩) hP9 hD9 (trivial) hS) hS dX0_bestDaysStart_19 (show 0 + 8300 ≤ 8300 from by first | exact Nat.le_refl _ | decide | omega) (show 0 + 17000 ≤ 17000 from by first | exact Nat.le_refl _ | decide | omega)

set_option maxHeartbeats 4000000 in
theorem wX0_bestDaysByTrying (l : Launch) (G : Gt) (d : Nat) (S : DS) (WA : va_W) (o : Nat) (of : Nat → Int64) (v : Int32) (h : DyW G d S WA) (hfl : l.stackTraces = false) : CTW l G yX0_bestDaysByTrying cX0_bestDaysByTrying 4 (some .int) [(0, 9, 12, 13), (0, 9, 15, 24)] ({ frames := 14, cells := 8300, slots := 17000, locals := 302 } : Room) [.ref d, .int v, .ref o] ([(o, .inl (G.2 5, 1, .inr (.inl of)))] ++ (WA ++ [])) RH0 (S := (Nat → Int64) × va_W) (fun (u_ : (Nat → Int64) × va_W) => some (.int (nI ((q_bestDays (dC S) v).1)))) (fun (u_ : (Nat → Int64) × va_W) => ((q_bestDays (dC S) v).1 = 0 → u_.1 0 = ((q_bestDays (dC S) v).2).toInt64) ∧ (q_bestDays (dC S) v).1 < 10 ∧ DyW G d S u_.2) (fun (u_ : (Nat → Int64) × va_W) => ([(o, .inl (G.2 5, 1, .inr (.inl u_.1)))] ++ (u_.2 ++ []))) (fun (u_ : (Nat → Int64) × va_W) (H : Heap) => True) := by
  refine CTW.of (by decide) (Nat.le_of_ble_eq_true rfl) ?_
  intro p e s m below meth c ls A H locs h9 hH0 hP hS hNc htab
  obtain ⟨cf, hr, hlk, hnm, hKB, hE, -, hD, -, hA, hAw, hRH, hl⟩ := h9
  have hx := cf.1
  have hb := cf.2.1
  have hml := cf.2.2.1
  have hown : s.vm.findClass RX0 = some m.cls := cf.2.2.2.1
  have hts := cf.2.2.2.2
  have hK := hKB.1
  have hl : lv_has ls 4 [(0, .ref d), (1, .int v), (2, .ref o)] := hl
  refine lv_aload_n hx hb dX0_bestDaysByTrying_0 rfl (lv_at hl 2 rfl) ?_
  refine lv_iconst (v := nI 0) hx hb dX0_bestDaysByTrying_1 (by decide) ?_
  refine lv_aload_n hx hb dX0_bestDaysByTrying_2 rfl (lv_at hl 0 rfl) ?_
  refine lv_iload_n hx hb dX0_bestDaysByTrying_3 rfl (lv_at hl 1 rfl) ?_
  have hpm_3465 : (([(o, .inl (G.2 5, 1, .inr (.inl of)))] ++ (WA ++ [])) : va_W).Perm ((WA ++ []) ++ [(o, .inl (G.2 5, 1, .inr (.inl of)))]) := segs_perm [[(o, .inl (G.2 5, 1, .inr (.inl of)))], WA] [1] [0] rfl
  have hF := hF_ofP (wc := (WA ++ [])) hD hS hA hpm_3465
  refine go_cxP hS hP hD hpm_3465 hF
      (vx_runV (As := [.int v]) (rest := [.int (nI 0), .ref o]) cf (dX1_bestDaysByTrying l G d S WA v (show DyW G d S WA from by first | assumption | omega) hfl H.size) (cwV 1 hts (lw_V q1373 q1374 q1375 q47 q1376) rfl rfl rfl (by decide +kernel) ⟨Nat.le_of_ble_eq_true rfl, Nat.le_of_ble_eq_true rfl⟩) (preV_of hKB hE hS hF (DyW.recv hK h (seg_at [[(o, .inl (G.2 5, 1, .inr (.inl of)))], WA] 1 rfl hP)) (P_left (P_perm hpm_3465 hP)) ((D_left (D_perm hpm_3465 hD)).weaken (fun _ _ _ _ => trivial)) trivial) rfl rfl hl.1 rfl (lv_room (Nat.le_of_ble_eq_true rfl)) dX0_bestDaysByTrying_4 ⟨show 0 + 8300 ≤ 8300 from by first | decide | omega, show 0 + 17000 ≤ 17000 from by first | decide | omega⟩)
      (fun u_ H locs ce q9 hq hph (hP : va_P G.1 CL ([(o, .inl (G.2 5, 1, .inr (.inl of)))] ++ (u_.2 ++ [])) H) (hD : va_D A ([(o, .inl (G.2 5, 1, .inr (.inl of)))] ++ (u_.2 ++ []))) hS hfz hfk hce hcv hcl => ?_) (fun u_ H locs hq hph (hP : va_P G.1 CL ([(o, .inl (G.2 5, 1, .inr (.inl of)))] ++ (u_.2 ++ [])) H) (hD : va_D A ([(o, .inl (G.2 5, 1, .inr (.inl of)))] ++ (u_.2 ++ []))) hS hfz hfk => ?_)
  · obtain ⟨kx_3468, W2_3469⟩ := u_
    obtain ⟨hq_3470, hq_3471, hq_3472⟩ : (q_bestDays (dC S) v).1 = kx_3468 ∧ DyW G d S W2_3469 ∧ 1 ≤ kx_3468 ∧ kx_3468 ≤ 2 := hq
    have hpm_3473 : ([(o, .inl (G.2 5, 1, .inr (.inl of)))] ++ (W2_3469 ++ []) : va_W).Perm ([(o, .inl (G.2 5, 1, .inr (.inl of)))] ++ (W2_3469 ++ [])) := segs_perm2 [[(o, .inl (G.2 5, 1, .inr (.inl of)))]] [W2_3469] [0, 1] rfl
    have hP : va_P G.1 CL ([(o, .inl (G.2 5, 1, .inr (.inl of)))] ++ (W2_3469 ++ [])) H := P_perm hpm_3473 hP
    have hD : va_D A ([(o, .inl (G.2 5, 1, .inr (.inl of)))] ++ (W2_3469 ++ [])) := D_perm hpm_3473 hD
    rcases (show kx_3468 = 1 ∨ kx_3468 = 2 by omega) with rfl | rfl
    · have hcl9 : s.vm.findClass eA = some ce.cls := hcl
      refine vx_catch (name := eA) (E := eA) hown [] (⟨0, 9, 12, 13⟩ : ExceptionTableEntry) [(⟨0, 9, 15, 24⟩ : ExceptionTableEntry)] (by rw [htab]; rfl) (fun z hz => absurd hz List.not_mem_nil) (by decide) (by decide) (hts _ q680) (va_Nw.use rfl (hKB.nest q698 rfl)) hce hcv hcl9 ?_
      refine W.eq (g2 := F0 m 12 ls [.ref q9]) rfl ?_
      refine lv_astore_n (lv' := [(3, .ref q9), (0, .ref d), (1, .int v), (2, .ref o)]) hx hb dX0_bestDaysByTrying_12 rfl hl (by decide) rfl (fun ls hl => ?_)
      refine lv_iconst (v := nI 1) hx hb dX0_bestDaysByTrying_13 (by decide) ?_
      refine vx_ret ?_
      have hpm_3474 : (([(o, .inl (G.2 5, 1, .inr (.inl of)))] ++ (W2_3469 ++ [])) : va_W).Perm (([(o, .inl (G.2 5, 1, .inr (.inl of)))] ++ (W2_3469 ++ [])) ++ []) := segs_perm [[(o, .inl (G.2 5, 1, .inr (.inl of)))], W2_3469] [0, 1] [] rfl
      have hP9 : va_P G.1 CL ([(o, .inl (G.2 5, 1, .inr (.inl of)))] ++ (W2_3469 ++ [])) H := P_left (P_perm hpm_3474 hP)
      have hD9 : va_D A ([(o, .inl (G.2 5, 1, .inr (.inl of)))] ++ (W2_3469 ++ [])) := D_left (D_perm hpm_3474 hD)
      exact end_i hx hb hr hlk (rfl) (qc_of (of, W2_3469) (v := some (.int (nI 1))) (by rw [hq_3470]) (⟨fun z9 => absurd (hq_3470.symm.trans z9) (by decide), by rw [hq_3470]; decide, hq_3471⟩) hP9 hD9 (trivial) hS) hS dX0_bestDaysByTrying_14 (show 0 + 8300 ≤ 8300 from by first | exact Nat.le_refl _ | decide | omega) (show 0 + 17000 ≤ 17000 from by first | exact Nat.le_refl _ | decide | omega)
    · have hcl9 : s.vm.findClass eN = some ce.cls := hcl
      refine vx_catch (name := eN) (E := eN) hown [(⟨0, 9, 12, 13⟩ : ExceptionTableEntry)] (⟨0, 9, 15, 24⟩ : ExceptionTableEntry) [] (by rw [htab]; rfl) (fun z hz => by rcases List.mem_singleton.mp hz with rfl; exact Or.inr ⟨by decide, _, hts _ q680, hNc _ (List.mem_of_getElem? (i := 3) rfl)⟩) (by decide) (by decide) (hts _ q1013) (va_Nw.use rfl (hKB.nest q334 rfl)) hce hcv hcl9 ?_
      refine W.eq (g2 := F0 m 15 ls [.ref q9]) rfl ?_
      refine lv_astore_n (lv' := [(3, .ref q9), (0, .ref d), (1, .int v), (2, .ref o)]) hx hb dX0_bestDaysByTrying_15 rfl hl (by decide) rfl (fun ls hl => ?_)
      refine lv_iconst (v := nI 2) hx hb dX0_bestDaysByTrying_16 (by decide) ?_
      refine vx_ret ?_
      have hpm_3475 : (([(o, .inl (G.2 5, 1, .inr (.inl of)))] ++ (W2_3469 ++ [])) : va_W).Perm (([(o, .inl (G.2 5, 1, .inr (.inl of)))] ++ (W2_3469 ++ [])) ++ []) := segs_perm [[(o, .inl (G.2 5, 1, .inr (.inl of)))], W2_3469] [0, 1] [] rfl
      have hP9 : va_P G.1 CL ([(o, .inl (G.2 5, 1, .inr (.inl of)))] ++ (W2_3469 ++ [])) H := P_left (P_perm hpm_3475 hP)
      have hD9 : va_D A ([(o, .inl (G.2 5, 1, .inr (.inl of)))] ++ (W2_3469 ++ [])) := D_left (D_perm hpm_3475 hD)
      exact end_i hx hb hr hlk (rfl) (qc_of (of, W2_3469) (v := some (.int (nI 2))) (by rw [hq_3470]) (⟨fun z9 => absurd (hq_3470.symm.trans z9) (by decide), by rw [hq_3470]; decide, hq_3471⟩) hP9 hD9 (trivial) hS) hS dX0_bestDaysByTrying_17 (show 0 + 8300 ≤ 8300 from by first | exact Nat.le_refl _ | decide | omega) (show 0 + 17000 ≤ 17000 from by first | exact Nat.le_refl _ | decide | omega)
  · obtain ⟨rr_3466, W2_3467⟩ := u_
    obtain ⟨hq_3476, hq_3477⟩ : q_bestDays (dC S) v = (0, rr_3466) ∧ DyW G d S W2_3467 := hq
    have hpm_3478 : ([(o, .inl (G.2 5, 1, .inr (.inl of)))] ++ (W2_3467 ++ []) : va_W).Perm ([(o, .inl (G.2 5, 1, .inr (.inl of)))] ++ (W2_3467 ++ [])) := segs_perm2 [[(o, .inl (G.2 5, 1, .inr (.inl of)))]] [W2_3467] [0, 1] rfl
    have hP : va_P G.1 CL ([(o, .inl (G.2 5, 1, .inr (.inl of)))] ++ (W2_3467 ++ [])) H := P_perm hpm_3478 hP
    have hD : va_D A ([(o, .inl (G.2 5, 1, .inr (.inl of)))] ++ (W2_3467 ++ [])) := D_perm hpm_3478 hD
    refine W.eq (g2 := F0 m 7 ls [.int rr_3466, .int (nI 0), .ref o]) rfl ?_
    refine lv_i2l (v := (rr_3466).toInt64) hx hb dX0_bestDaysByTrying_7 rfl ?_
    refine r_last hx hb hK hP hD hS 0 5 rfl rfl (i := 0) (by omega) (by omega) dX0_bestDaysByTrying_8 (fun H locs (hP : va_P G.1 CL ([(o, .inl (G.2 5, 1, .inr (.inl (vp_updL of 0 ((rr_3466).toInt64)))))] ++ (W2_3467 ++ [])) H) (hD : va_D A ([(o, .inl (G.2 5, 1, .inr (.inl (vp_updL of 0 ((rr_3466).toInt64)))))] ++ (W2_3467 ++ []))) hS => ?_)
    refine lv_goto (tgt := 18) hx hb dX0_bestDaysByTrying_9 (by decide) ?_
    refine lv_iconst (v := nI 0) hx hb dX0_bestDaysByTrying_18 (by decide) ?_
    refine vx_ret ?_
    have hpm_3479 : (([(o, .inl (G.2 5, 1, .inr (.inl (vp_updL of 0 ((rr_3466).toInt64)))))] ++ (W2_3467 ++ [])) : va_W).Perm (([(o, .inl (G.2 5, 1, .inr (.inl (vp_updL of 0 ((rr_3466).toInt64)))))] ++ (W2_3467 ++ [])) ++ []) := segs_perm [[(o, .inl (G.2 5, 1, .inr (.inl (vp_updL of 0 ((rr_3466).toInt64)))))], W2_3467] [0, 1] [] rfl
    have hP9 : va_P G.1 CL ([(o, .inl (G.2 5, 1, .inr (.inl (vp_updL of 0 ((rr_3466).toInt64)))))] ++ (W2_3467 ++ [])) H := P_left (P_perm hpm_3479 hP)
    have hD9 : va_D A ([(o, .inl (G.2 5, 1, .inr (.inl (vp_updL of 0 ((rr_3466).toInt64)))))] ++ (W2_3467 ++ [])) := D_left (D_perm hpm_3479 hD)
    exact end_i hx hb hr hlk (rfl) (qc_of (vp_updL of 0 ((rr_3466).toInt64), W2_3467) (v := some (.int (nI 0))) (by rw [hq_3476]) (⟨fun _ => by rw [hq_3476]; exact pk_uLs, by rw [hq_3476]; exact (by decide : (0 : Nat) < 10), hq_3477⟩) hP9 hD9 (trivial) hS) hS dX0_bestDaysByTrying_19 (show 0 + 8300 ≤ 8300 from by first | exact Nat.le_refl _ | decide | omega) (show 0 + 17000 ≤ 17000 from by first | exact Nat.le_refl _ | decide | omega)

set_option maxHeartbeats 4000000 in
theorem wX0_zoneShare (l : Launch) (G : Gt) (d : Nat) (S : DS) (WA : va_W) (o : Nat) (of : Nat → UInt64) (v : Int32) (h : DyW G d S WA) (hfl : l.stackTraces = false) : CTW l G yX0_zoneShare cX0_zoneShare 4 (some .int) [(0, 9, 12, 13), (0, 9, 15, 84)] ({ frames := 10, cells := 60, slots := 200, locals := 213 } : Room) [.ref d, .int v, .ref o] ([(o, .inl (G.2 6, 1, .inr (.inr (.inr (.inl of)))))] ++ (WA ++ [])) RH0 (S := (Nat → UInt64) × va_W) (fun (u_ : (Nat → UInt64) × va_W) => some (.int (nI ((q_share (dC S) v).1)))) (fun (u_ : (Nat → UInt64) × va_W) => ((q_share (dC S) v).1 = 0 → u_.1 0 = FP.f2d (q_share (dC S) v).2) ∧ (q_share (dC S) v).1 < 10 ∧ DyW G d S u_.2) (fun (u_ : (Nat → UInt64) × va_W) => ([(o, .inl (G.2 6, 1, .inr (.inr (.inr (.inl u_.1)))))] ++ (u_.2 ++ []))) (fun (u_ : (Nat → UInt64) × va_W) (H : Heap) => True) := by
  refine CTW.of (by decide) (Nat.le_of_ble_eq_true rfl) ?_
  intro p e s m below meth c ls A H locs h9 hH0 hP hS hNc htab
  obtain ⟨cf, hr, hlk, hnm, hKB, hE, -, hD, -, hA, hAw, hRH, hl⟩ := h9
  have hx := cf.1
  have hb := cf.2.1
  have hml := cf.2.2.1
  have hown : s.vm.findClass RX0 = some m.cls := cf.2.2.2.1
  have hts := cf.2.2.2.2
  have hK := hKB.1
  have hl : lv_has ls 4 [(0, .ref d), (1, .int v), (2, .ref o)] := hl
  refine lv_aload_n hx hb dX0_zoneShare_0 rfl (lv_at hl 2 rfl) ?_
  refine lv_iconst (v := nI 0) hx hb dX0_zoneShare_1 (by decide) ?_
  refine lv_aload_n hx hb dX0_zoneShare_2 rfl (lv_at hl 0 rfl) ?_
  refine lv_iload_n hx hb dX0_zoneShare_3 rfl (lv_at hl 1 rfl) ?_
  have hpm_3480 : (([(o, .inl (G.2 6, 1, .inr (.inr (.inr (.inl of)))))] ++ (WA ++ [])) : va_W).Perm ((WA ++ []) ++ [(o, .inl (G.2 6, 1, .inr (.inr (.inr (.inl of)))))]) := segs_perm [[(o, .inl (G.2 6, 1, .inr (.inr (.inr (.inl of)))))], WA] [1] [0] rfl
  have hF := hF_ofP (wc := (WA ++ [])) hD hS hA hpm_3480
  refine go_cxP hS hP hD hpm_3480 hF
      (vx_runV (As := [.int v]) (rest := [.int (nI 0), .ref o]) cf (dX1_zoneShare l G d S WA v (show DyW G d S WA from by first | assumption | omega) hfl H.size) (cwV 1 hts (lw_V q1292 q1293 q1294 q47 q1295) rfl rfl rfl (by decide +kernel) ⟨Nat.le_of_ble_eq_true rfl, Nat.le_of_ble_eq_true rfl⟩) (preV_of hKB hE hS hF (DyW.recv hK h (seg_at [[(o, .inl (G.2 6, 1, .inr (.inr (.inr (.inl of)))))], WA] 1 rfl hP)) (P_left (P_perm hpm_3480 hP)) ((D_left (D_perm hpm_3480 hD)).weaken (fun _ _ _ _ => trivial)) trivial) rfl rfl hl.1 rfl (lv_room (Nat.le_of_ble_eq_true rfl)) dX0_zoneShare_4 ⟨show 0 + 60 ≤ 60 from by first | decide | omega, show 0 + 200 ≤ 200 from by first | decide | omega⟩)
      (fun u_ H locs ce q9 hq hph (hP : va_P G.1 CL ([(o, .inl (G.2 6, 1, .inr (.inr (.inr (.inl of)))))] ++ (u_.2 ++ [])) H) (hD : va_D A ([(o, .inl (G.2 6, 1, .inr (.inr (.inr (.inl of)))))] ++ (u_.2 ++ []))) hS hfz hfk hce hcv hcl => ?_) (fun u_ H locs hq hph (hP : va_P G.1 CL ([(o, .inl (G.2 6, 1, .inr (.inr (.inr (.inl of)))))] ++ (u_.2 ++ [])) H) (hD : va_D A ([(o, .inl (G.2 6, 1, .inr (.inr (.inr (.inl of)))))] ++ (u_.2 ++ []))) hS hfz hfk => ?_)
  · obtain ⟨kx_3483, W2_3484⟩ := u_
    obtain ⟨hq_3485, hq_3486, hq_3487⟩ : (q_share (dC S) v).1 = kx_3483 ∧ DyW G d S W2_3484 ∧ 1 ≤ kx_3483 ∧ kx_3483 ≤ 2 := hq
    have hpm_3488 : ([(o, .inl (G.2 6, 1, .inr (.inr (.inr (.inl of)))))] ++ (W2_3484 ++ []) : va_W).Perm ([(o, .inl (G.2 6, 1, .inr (.inr (.inr (.inl of)))))] ++ (W2_3484 ++ [])) := segs_perm2 [[(o, .inl (G.2 6, 1, .inr (.inr (.inr (.inl of)))))]] [W2_3484] [0, 1] rfl
    have hP : va_P G.1 CL ([(o, .inl (G.2 6, 1, .inr (.inr (.inr (.inl of)))))] ++ (W2_3484 ++ [])) H := P_perm hpm_3488 hP
    have hD : va_D A ([(o, .inl (G.2 6, 1, .inr (.inr (.inr (.inl of)))))] ++ (W2_3484 ++ [])) := D_perm hpm_3488 hD
    rcases (show kx_3483 = 1 ∨ kx_3483 = 2 by omega) with rfl | rfl
    · have hcl9 : s.vm.findClass eA = some ce.cls := hcl
      refine vx_catch (name := eA) (E := eA) hown [] (⟨0, 9, 12, 13⟩ : ExceptionTableEntry) [(⟨0, 9, 15, 84⟩ : ExceptionTableEntry)] (by rw [htab]; rfl) (fun z hz => absurd hz List.not_mem_nil) (by decide) (by decide) (hts _ q680) (va_Nw.use rfl (hKB.nest q698 rfl)) hce hcv hcl9 ?_
      refine W.eq (g2 := F0 m 12 ls [.ref q9]) rfl ?_
      refine lv_astore_n (lv' := [(3, .ref q9), (0, .ref d), (1, .int v), (2, .ref o)]) hx hb dX0_zoneShare_12 rfl hl (by decide) rfl (fun ls hl => ?_)
      refine lv_iconst (v := nI 1) hx hb dX0_zoneShare_13 (by decide) ?_
      refine vx_ret ?_
      have hpm_3489 : (([(o, .inl (G.2 6, 1, .inr (.inr (.inr (.inl of)))))] ++ (W2_3484 ++ [])) : va_W).Perm (([(o, .inl (G.2 6, 1, .inr (.inr (.inr (.inl of)))))] ++ (W2_3484 ++ [])) ++ []) := segs_perm [[(o, .inl (G.2 6, 1, .inr (.inr (.inr (.inl of)))))], W2_3484] [0, 1] [] rfl
      have hP9 : va_P G.1 CL ([(o, .inl (G.2 6, 1, .inr (.inr (.inr (.inl of)))))] ++ (W2_3484 ++ [])) H := P_left (P_perm hpm_3489 hP)
      have hD9 : va_D A ([(o, .inl (G.2 6, 1, .inr (.inr (.inr (.inl of)))))] ++ (W2_3484 ++ [])) := D_left (D_perm hpm_3489 hD)
      exact end_i hx hb hr hlk (rfl) (qc_of (of, W2_3484) (v := some (.int (nI 1))) (by rw [hq_3485]) (⟨fun z9 => absurd (hq_3485.symm.trans z9) (by decide), by rw [hq_3485]; decide, hq_3486⟩) hP9 hD9 (trivial) hS) hS dX0_zoneShare_14 (show 0 + 60 ≤ 60 from by first | exact Nat.le_refl _ | decide | omega) (show 0 + 200 ≤ 200 from by first | exact Nat.le_refl _ | decide | omega)
    · have hcl9 : s.vm.findClass eR = some ce.cls := hcl
      refine vx_catch (name := eR) (E := eR) hown [(⟨0, 9, 12, 13⟩ : ExceptionTableEntry)] (⟨0, 9, 15, 84⟩ : ExceptionTableEntry) [] (by rw [htab]; rfl) (fun z hz => by rcases List.mem_singleton.mp hz with rfl; exact Or.inr ⟨by decide, _, hts _ q680, hNc _ (List.mem_of_getElem? (i := 4) rfl)⟩) (by decide) (by decide) (hts _ q1278) (va_Nw.use rfl (hKB.nest q1290 rfl)) hce hcv hcl9 ?_
      refine W.eq (g2 := F0 m 15 ls [.ref q9]) rfl ?_
      refine lv_astore_n (lv' := [(3, .ref q9), (0, .ref d), (1, .int v), (2, .ref o)]) hx hb dX0_zoneShare_15 rfl hl (by decide) rfl (fun ls hl => ?_)
      refine lv_iconst (v := nI 2) hx hb dX0_zoneShare_16 (by decide) ?_
      refine vx_ret ?_
      have hpm_3490 : (([(o, .inl (G.2 6, 1, .inr (.inr (.inr (.inl of)))))] ++ (W2_3484 ++ [])) : va_W).Perm (([(o, .inl (G.2 6, 1, .inr (.inr (.inr (.inl of)))))] ++ (W2_3484 ++ [])) ++ []) := segs_perm [[(o, .inl (G.2 6, 1, .inr (.inr (.inr (.inl of)))))], W2_3484] [0, 1] [] rfl
      have hP9 : va_P G.1 CL ([(o, .inl (G.2 6, 1, .inr (.inr (.inr (.inl of)))))] ++ (W2_3484 ++ [])) H := P_left (P_perm hpm_3490 hP)
      have hD9 : va_D A ([(o, .inl (G.2 6, 1, .inr (.inr (.inr (.inl of)))))] ++ (W2_3484 ++ [])) := D_left (D_perm hpm_3490 hD)
      exact end_i hx hb hr hlk (rfl) (qc_of (of, W2_3484) (v := some (.int (nI 2))) (by rw [hq_3485]) (⟨fun z9 => absurd (hq_3485.symm.trans z9) (by decide), by rw [hq_3485]; decide, hq_3486⟩) hP9 hD9 (trivial) hS) hS dX0_zoneShare_17 (show 0 + 60 ≤ 60 from by first | exact Nat.le_refl _ | decide | omega) (show 0 + 200 ≤ 200 from by first | exact Nat.le_refl _ | decide | omega)
  · obtain ⟨rr_3481, W2_3482⟩ := u_
    obtain ⟨hq_3491, hq_3492⟩ : q_share (dC S) v = (0, rr_3481) ∧ DyW G d S W2_3482 := hq
    have hpm_3493 : ([(o, .inl (G.2 6, 1, .inr (.inr (.inr (.inl of)))))] ++ (W2_3482 ++ []) : va_W).Perm ([(o, .inl (G.2 6, 1, .inr (.inr (.inr (.inl of)))))] ++ (W2_3482 ++ [])) := segs_perm2 [[(o, .inl (G.2 6, 1, .inr (.inr (.inr (.inl of)))))]] [W2_3482] [0, 1] rfl
    have hP : va_P G.1 CL ([(o, .inl (G.2 6, 1, .inr (.inr (.inr (.inl of)))))] ++ (W2_3482 ++ [])) H := P_perm hpm_3493 hP
    have hD : va_D A ([(o, .inl (G.2 6, 1, .inr (.inr (.inr (.inl of)))))] ++ (W2_3482 ++ [])) := D_perm hpm_3493 hD
    refine W.eq (g2 := F0 m 7 ls [.float rr_3481, .int (nI 0), .ref o]) rfl ?_
    refine lv_f2d hx hb dX0_zoneShare_7 (share_f2d h.inv.1 hq_3491) ?_
    refine r_dast hx hb hK hP hD hS 0 6 rfl rfl (i := 0) (by omega) (by omega) dX0_zoneShare_8 (fun H locs (hP : va_P G.1 CL ([(o, .inl (G.2 6, 1, .inr (.inr (.inr (.inl (vf_upd of 0 (FP.f2d rr_3481)))))))] ++ (W2_3482 ++ [])) H) (hD : va_D A ([(o, .inl (G.2 6, 1, .inr (.inr (.inr (.inl (vf_upd of 0 (FP.f2d rr_3481)))))))] ++ (W2_3482 ++ []))) hS => ?_)
    refine lv_goto (tgt := 18) hx hb dX0_zoneShare_9 (by decide) ?_
    refine lv_iconst (v := nI 0) hx hb dX0_zoneShare_18 (by decide) ?_
    refine vx_ret ?_
    have hpm_3494 : (([(o, .inl (G.2 6, 1, .inr (.inr (.inr (.inl (vf_upd of 0 (FP.f2d rr_3481)))))))] ++ (W2_3482 ++ [])) : va_W).Perm (([(o, .inl (G.2 6, 1, .inr (.inr (.inr (.inl (vf_upd of 0 (FP.f2d rr_3481)))))))] ++ (W2_3482 ++ [])) ++ []) := segs_perm [[(o, .inl (G.2 6, 1, .inr (.inr (.inr (.inl (vf_upd of 0 (FP.f2d rr_3481)))))))], W2_3482] [0, 1] [] rfl
    have hP9 : va_P G.1 CL ([(o, .inl (G.2 6, 1, .inr (.inr (.inr (.inl (vf_upd of 0 (FP.f2d rr_3481)))))))] ++ (W2_3482 ++ [])) H := P_left (P_perm hpm_3494 hP)
    have hD9 : va_D A ([(o, .inl (G.2 6, 1, .inr (.inr (.inr (.inl (vf_upd of 0 (FP.f2d rr_3481)))))))] ++ (W2_3482 ++ [])) := D_left (D_perm hpm_3494 hD)
    exact end_i hx hb hr hlk (rfl) (qc_of (vf_upd of 0 (FP.f2d rr_3481), W2_3482) (v := some (.int (nI 0))) (by rw [hq_3491]) (⟨fun _ => by rw [hq_3491]; exact vf_us, by rw [hq_3491]; exact (by decide : (0 : Nat) < 10), hq_3492⟩) hP9 hD9 (trivial) hS) hS dX0_zoneShare_19 (show 0 + 60 ≤ 60 from by first | exact Nat.le_refl _ | decide | omega) (show 0 + 200 ≤ 200 from by first | exact Nat.le_refl _ | decide | omega)

set_option maxHeartbeats 4000000 in
theorem wX0_bestEffort (l : Launch) (G : Gt) (d : Nat) (S : DS) (WA : va_W) (o : Nat) (of : Nat → Int64) (v : Int32) (h : DyW G d S WA) (hfl : l.stackTraces = false) : CTW l G yX0_bestEffort cX0_bestEffort 4 (some .int) [(0, 9, 12, 13), (0, 9, 15, 24)] ({ frames := 8, cells := 90, slots := 20000, locals := 140 } : Room) [.ref d, .int v, .ref o] ([(o, .inl (G.2 5, 1, .inr (.inl of)))] ++ (WA ++ [])) RH0 (S := (Nat → Int64) × va_W) (fun (u_ : (Nat → Int64) × va_W) => some (.int (nI ((q_bestEff (dC S) v).1)))) (fun (u_ : (Nat → Int64) × va_W) => ((q_bestEff (dC S) v).1 = 0 → u_.1 0 = ((q_bestEff (dC S) v).2).toInt64) ∧ (q_bestEff (dC S) v).1 < 10 ∧ DyW G d S u_.2) (fun (u_ : (Nat → Int64) × va_W) => ([(o, .inl (G.2 5, 1, .inr (.inl u_.1)))] ++ (u_.2 ++ []))) (fun (u_ : (Nat → Int64) × va_W) (H : Heap) => True) := by
  refine CTW.of (by decide) (Nat.le_of_ble_eq_true rfl) ?_
  intro p e s m below meth c ls A H locs h9 hH0 hP hS hNc htab
  obtain ⟨cf, hr, hlk, hnm, hKB, hE, -, hD, -, hA, hAw, hRH, hl⟩ := h9
  have hx := cf.1
  have hb := cf.2.1
  have hml := cf.2.2.1
  have hown : s.vm.findClass RX0 = some m.cls := cf.2.2.2.1
  have hts := cf.2.2.2.2
  have hK := hKB.1
  have hl : lv_has ls 4 [(0, .ref d), (1, .int v), (2, .ref o)] := hl
  refine lv_aload_n hx hb dX0_bestEffort_0 rfl (lv_at hl 2 rfl) ?_
  refine lv_iconst (v := nI 0) hx hb dX0_bestEffort_1 (by decide) ?_
  refine lv_aload_n hx hb dX0_bestEffort_2 rfl (lv_at hl 0 rfl) ?_
  refine lv_iload_n hx hb dX0_bestEffort_3 rfl (lv_at hl 1 rfl) ?_
  have hpm_3495 : (([(o, .inl (G.2 5, 1, .inr (.inl of)))] ++ (WA ++ [])) : va_W).Perm ((WA ++ []) ++ [(o, .inl (G.2 5, 1, .inr (.inl of)))]) := segs_perm [[(o, .inl (G.2 5, 1, .inr (.inl of)))], WA] [1] [0] rfl
  have hF := hF_ofP (wc := (WA ++ [])) hD hS hA hpm_3495
  refine go_cxP hS hP hD hpm_3495 hF
      (vx_runV (As := [.int v]) (rest := [.int (nI 0), .ref o]) cf (dX1_bestEffort l G d S WA v (show DyW G d S WA from by first | assumption | omega) hfl H.size) (cwV 1 hts (lw_V q1387 q1388 q1389 q47 q1390) rfl rfl rfl (by decide +kernel) ⟨Nat.le_of_ble_eq_true rfl, Nat.le_of_ble_eq_true rfl⟩) (preV_of hKB hE hS hF (DyW.recv hK h (seg_at [[(o, .inl (G.2 5, 1, .inr (.inl of)))], WA] 1 rfl hP)) (P_left (P_perm hpm_3495 hP)) ((D_left (D_perm hpm_3495 hD)).weaken (fun _ _ _ _ => trivial)) trivial) rfl rfl hl.1 rfl (lv_room (Nat.le_of_ble_eq_true rfl)) dX0_bestEffort_4 ⟨show 0 + 90 ≤ 90 from by first | decide | omega, show 0 + 20000 ≤ 20000 from by first | decide | omega⟩)
      (fun u_ H locs ce q9 hq hph (hP : va_P G.1 CL ([(o, .inl (G.2 5, 1, .inr (.inl of)))] ++ (u_.2 ++ [])) H) (hD : va_D A ([(o, .inl (G.2 5, 1, .inr (.inl of)))] ++ (u_.2 ++ []))) hS hfz hfk hce hcv hcl => ?_) (fun u_ H locs hq hph (hP : va_P G.1 CL ([(o, .inl (G.2 5, 1, .inr (.inl of)))] ++ (u_.2 ++ [])) H) (hD : va_D A ([(o, .inl (G.2 5, 1, .inr (.inl of)))] ++ (u_.2 ++ []))) hS hfz hfk => ?_)
  · obtain ⟨kx_3498, W2_3499⟩ := u_
    obtain ⟨hq_3500, hq_3501, hq_3502⟩ : (q_bestEff (dC S) v).1 = kx_3498 ∧ DyW G d S W2_3499 ∧ 1 ≤ kx_3498 ∧ kx_3498 ≤ 2 := hq
    have hpm_3503 : ([(o, .inl (G.2 5, 1, .inr (.inl of)))] ++ (W2_3499 ++ []) : va_W).Perm ([(o, .inl (G.2 5, 1, .inr (.inl of)))] ++ (W2_3499 ++ [])) := segs_perm2 [[(o, .inl (G.2 5, 1, .inr (.inl of)))]] [W2_3499] [0, 1] rfl
    have hP : va_P G.1 CL ([(o, .inl (G.2 5, 1, .inr (.inl of)))] ++ (W2_3499 ++ [])) H := P_perm hpm_3503 hP
    have hD : va_D A ([(o, .inl (G.2 5, 1, .inr (.inl of)))] ++ (W2_3499 ++ [])) := D_perm hpm_3503 hD
    rcases (show kx_3498 = 1 ∨ kx_3498 = 2 by omega) with rfl | rfl
    · have hcl9 : s.vm.findClass eA = some ce.cls := hcl
      refine vx_catch (name := eA) (E := eA) hown [] (⟨0, 9, 12, 13⟩ : ExceptionTableEntry) [(⟨0, 9, 15, 24⟩ : ExceptionTableEntry)] (by rw [htab]; rfl) (fun z hz => absurd hz List.not_mem_nil) (by decide) (by decide) (hts _ q680) (va_Nw.use rfl (hKB.nest q698 rfl)) hce hcv hcl9 ?_
      refine W.eq (g2 := F0 m 12 ls [.ref q9]) rfl ?_
      refine lv_astore_n (lv' := [(3, .ref q9), (0, .ref d), (1, .int v), (2, .ref o)]) hx hb dX0_bestEffort_12 rfl hl (by decide) rfl (fun ls hl => ?_)
      refine lv_iconst (v := nI 1) hx hb dX0_bestEffort_13 (by decide) ?_
      refine vx_ret ?_
      have hpm_3504 : (([(o, .inl (G.2 5, 1, .inr (.inl of)))] ++ (W2_3499 ++ [])) : va_W).Perm (([(o, .inl (G.2 5, 1, .inr (.inl of)))] ++ (W2_3499 ++ [])) ++ []) := segs_perm [[(o, .inl (G.2 5, 1, .inr (.inl of)))], W2_3499] [0, 1] [] rfl
      have hP9 : va_P G.1 CL ([(o, .inl (G.2 5, 1, .inr (.inl of)))] ++ (W2_3499 ++ [])) H := P_left (P_perm hpm_3504 hP)
      have hD9 : va_D A ([(o, .inl (G.2 5, 1, .inr (.inl of)))] ++ (W2_3499 ++ [])) := D_left (D_perm hpm_3504 hD)
      exact end_i hx hb hr hlk (rfl) (qc_of (of, W2_3499) (v := some (.int (nI 1))) (by rw [hq_3500]) (⟨fun z9 => absurd (hq_3500.symm.trans z9) (by decide), by rw [hq_3500]; decide, hq_3501⟩) hP9 hD9 (trivial) hS) hS dX0_bestEffort_14 (show 0 + 90 ≤ 90 from by first | exact Nat.le_refl _ | decide | omega) (show 0 + 20000 ≤ 20000 from by first | exact Nat.le_refl _ | decide | omega)
    · have hcl9 : s.vm.findClass eN = some ce.cls := hcl
      refine vx_catch (name := eN) (E := eN) hown [(⟨0, 9, 12, 13⟩ : ExceptionTableEntry)] (⟨0, 9, 15, 24⟩ : ExceptionTableEntry) [] (by rw [htab]; rfl) (fun z hz => by rcases List.mem_singleton.mp hz with rfl; exact Or.inr ⟨by decide, _, hts _ q680, hNc _ (List.mem_of_getElem? (i := 3) rfl)⟩) (by decide) (by decide) (hts _ q1013) (va_Nw.use rfl (hKB.nest q334 rfl)) hce hcv hcl9 ?_
      refine W.eq (g2 := F0 m 15 ls [.ref q9]) rfl ?_
      refine lv_astore_n (lv' := [(3, .ref q9), (0, .ref d), (1, .int v), (2, .ref o)]) hx hb dX0_bestEffort_15 rfl hl (by decide) rfl (fun ls hl => ?_)
      refine lv_iconst (v := nI 2) hx hb dX0_bestEffort_16 (by decide) ?_
      refine vx_ret ?_
      have hpm_3505 : (([(o, .inl (G.2 5, 1, .inr (.inl of)))] ++ (W2_3499 ++ [])) : va_W).Perm (([(o, .inl (G.2 5, 1, .inr (.inl of)))] ++ (W2_3499 ++ [])) ++ []) := segs_perm [[(o, .inl (G.2 5, 1, .inr (.inl of)))], W2_3499] [0, 1] [] rfl
      have hP9 : va_P G.1 CL ([(o, .inl (G.2 5, 1, .inr (.inl of)))] ++ (W2_3499 ++ [])) H := P_left (P_perm hpm_3505 hP)
      have hD9 : va_D A ([(o, .inl (G.2 5, 1, .inr (.inl of)))] ++ (W2_3499 ++ [])) := D_left (D_perm hpm_3505 hD)
      exact end_i hx hb hr hlk (rfl) (qc_of (of, W2_3499) (v := some (.int (nI 2))) (by rw [hq_3500]) (⟨fun z9 => absurd (hq_3500.symm.trans z9) (by decide), by rw [hq_3500]; decide, hq_3501⟩) hP9 hD9 (trivial) hS) hS dX0_bestEffort_17 (show 0 + 90 ≤ 90 from by first | exact Nat.le_refl _ | decide | omega) (show 0 + 20000 ≤ 20000 from by first | exact Nat.le_refl _ | decide | omega)
  · obtain ⟨rr_3496, W2_3497⟩ := u_
    obtain ⟨hq_3506, hq_3507⟩ : q_bestEff (dC S) v = (0, rr_3496) ∧ DyW G d S W2_3497 := hq
    have hpm_3508 : ([(o, .inl (G.2 5, 1, .inr (.inl of)))] ++ (W2_3497 ++ []) : va_W).Perm ([(o, .inl (G.2 5, 1, .inr (.inl of)))] ++ (W2_3497 ++ [])) := segs_perm2 [[(o, .inl (G.2 5, 1, .inr (.inl of)))]] [W2_3497] [0, 1] rfl
    have hP : va_P G.1 CL ([(o, .inl (G.2 5, 1, .inr (.inl of)))] ++ (W2_3497 ++ [])) H := P_perm hpm_3508 hP
    have hD : va_D A ([(o, .inl (G.2 5, 1, .inr (.inl of)))] ++ (W2_3497 ++ [])) := D_perm hpm_3508 hD
    refine W.eq (g2 := F0 m 7 ls [.int rr_3496, .int (nI 0), .ref o]) rfl ?_
    refine lv_i2l (v := (rr_3496).toInt64) hx hb dX0_bestEffort_7 rfl ?_
    refine r_last hx hb hK hP hD hS 0 5 rfl rfl (i := 0) (by omega) (by omega) dX0_bestEffort_8 (fun H locs (hP : va_P G.1 CL ([(o, .inl (G.2 5, 1, .inr (.inl (vp_updL of 0 ((rr_3496).toInt64)))))] ++ (W2_3497 ++ [])) H) (hD : va_D A ([(o, .inl (G.2 5, 1, .inr (.inl (vp_updL of 0 ((rr_3496).toInt64)))))] ++ (W2_3497 ++ []))) hS => ?_)
    refine lv_goto (tgt := 18) hx hb dX0_bestEffort_9 (by decide) ?_
    refine lv_iconst (v := nI 0) hx hb dX0_bestEffort_18 (by decide) ?_
    refine vx_ret ?_
    have hpm_3509 : (([(o, .inl (G.2 5, 1, .inr (.inl (vp_updL of 0 ((rr_3496).toInt64)))))] ++ (W2_3497 ++ [])) : va_W).Perm (([(o, .inl (G.2 5, 1, .inr (.inl (vp_updL of 0 ((rr_3496).toInt64)))))] ++ (W2_3497 ++ [])) ++ []) := segs_perm [[(o, .inl (G.2 5, 1, .inr (.inl (vp_updL of 0 ((rr_3496).toInt64)))))], W2_3497] [0, 1] [] rfl
    have hP9 : va_P G.1 CL ([(o, .inl (G.2 5, 1, .inr (.inl (vp_updL of 0 ((rr_3496).toInt64)))))] ++ (W2_3497 ++ [])) H := P_left (P_perm hpm_3509 hP)
    have hD9 : va_D A ([(o, .inl (G.2 5, 1, .inr (.inl (vp_updL of 0 ((rr_3496).toInt64)))))] ++ (W2_3497 ++ [])) := D_left (D_perm hpm_3509 hD)
    exact end_i hx hb hr hlk (rfl) (qc_of (vp_updL of 0 ((rr_3496).toInt64), W2_3497) (v := some (.int (nI 0))) (by rw [hq_3506]) (⟨fun _ => by rw [hq_3506]; exact pk_uLs, by rw [hq_3506]; exact (by decide : (0 : Nat) < 10), hq_3507⟩) hP9 hD9 (trivial) hS) hS dX0_bestEffort_19 (show 0 + 90 ≤ 90 from by first | exact Nat.le_refl _ | decide | omega) (show 0 + 20000 ≤ 20000 from by first | exact Nat.le_refl _ | decide | omega)

set_option maxHeartbeats 4000000 in
theorem wX0_bestEffortSession (l : Launch) (G : Gt) (d : Nat) (S : DS) (WA : va_W) (o : Nat) (of : Nat → Int64) (v : Int32) (h : DyW G d S WA) (hfl : l.stackTraces = false) : CTW l G yX0_bestEffortSession cX0_bestEffortSession 4 (some .int) [(0, 9, 12, 13), (0, 9, 15, 24)] ({ frames := 8, cells := 90, slots := 20000, locals := 142 } : Room) [.ref d, .int v, .ref o] ([(o, .inl (G.2 5, 1, .inr (.inl of)))] ++ (WA ++ [])) RH0 (S := (Nat → Int64) × va_W) (fun (u_ : (Nat → Int64) × va_W) => some (.int (nI ((q_bestEffS (dC S) v).1)))) (fun (u_ : (Nat → Int64) × va_W) => ((q_bestEffS (dC S) v).1 = 0 → u_.1 0 = ((q_bestEffS (dC S) v).2).toInt64) ∧ (q_bestEffS (dC S) v).1 < 10 ∧ DyW G d S u_.2) (fun (u_ : (Nat → Int64) × va_W) => ([(o, .inl (G.2 5, 1, .inr (.inl u_.1)))] ++ (u_.2 ++ []))) (fun (u_ : (Nat → Int64) × va_W) (H : Heap) => True) := by
  refine CTW.of (by decide) (Nat.le_of_ble_eq_true rfl) ?_
  intro p e s m below meth c ls A H locs h9 hH0 hP hS hNc htab
  obtain ⟨cf, hr, hlk, hnm, hKB, hE, -, hD, -, hA, hAw, hRH, hl⟩ := h9
  have hx := cf.1
  have hb := cf.2.1
  have hml := cf.2.2.1
  have hown : s.vm.findClass RX0 = some m.cls := cf.2.2.2.1
  have hts := cf.2.2.2.2
  have hK := hKB.1
  have hl : lv_has ls 4 [(0, .ref d), (1, .int v), (2, .ref o)] := hl
  refine lv_aload_n hx hb dX0_bestEffortSession_0 rfl (lv_at hl 2 rfl) ?_
  refine lv_iconst (v := nI 0) hx hb dX0_bestEffortSession_1 (by decide) ?_
  refine lv_aload_n hx hb dX0_bestEffortSession_2 rfl (lv_at hl 0 rfl) ?_
  refine lv_iload_n hx hb dX0_bestEffortSession_3 rfl (lv_at hl 1 rfl) ?_
  have hpm_3510 : (([(o, .inl (G.2 5, 1, .inr (.inl of)))] ++ (WA ++ [])) : va_W).Perm ((WA ++ []) ++ [(o, .inl (G.2 5, 1, .inr (.inl of)))]) := segs_perm [[(o, .inl (G.2 5, 1, .inr (.inl of)))], WA] [1] [0] rfl
  have hF := hF_ofP (wc := (WA ++ [])) hD hS hA hpm_3510
  refine go_cxP hS hP hD hpm_3510 hF
      (vx_runV (As := [.int v]) (rest := [.int (nI 0), .ref o]) cf (dX1_bestEffortSession l G d S WA v (show DyW G d S WA from by first | assumption | omega) hfl H.size) (cwV 1 hts (lw_V q1409 q1410 q1411 q47 q1412) rfl rfl rfl (by decide +kernel) ⟨Nat.le_of_ble_eq_true rfl, Nat.le_of_ble_eq_true rfl⟩) (preV_of hKB hE hS hF (DyW.recv hK h (seg_at [[(o, .inl (G.2 5, 1, .inr (.inl of)))], WA] 1 rfl hP)) (P_left (P_perm hpm_3510 hP)) ((D_left (D_perm hpm_3510 hD)).weaken (fun _ _ _ _ => trivial)) trivial) rfl rfl hl.1 rfl (lv_room (Nat.le_of_ble_eq_true rfl)) dX0_bestEffortSession_4 ⟨show 0 + 90 ≤ 90 from by first | decide | omega, show 0 + 20000 ≤ 20000 from by first | decide | omega⟩)
      (fun u_ H locs ce q9 hq hph (hP : va_P G.1 CL ([(o, .inl (G.2 5, 1, .inr (.inl of)))] ++ (u_.2 ++ [])) H) (hD : va_D A ([(o, .inl (G.2 5, 1, .inr (.inl of)))] ++ (u_.2 ++ []))) hS hfz hfk hce hcv hcl => ?_) (fun u_ H locs hq hph (hP : va_P G.1 CL ([(o, .inl (G.2 5, 1, .inr (.inl of)))] ++ (u_.2 ++ [])) H) (hD : va_D A ([(o, .inl (G.2 5, 1, .inr (.inl of)))] ++ (u_.2 ++ []))) hS hfz hfk => ?_)
  · obtain ⟨kx_3513, W2_3514⟩ := u_
    obtain ⟨hq_3515, hq_3516, hq_3517⟩ : (q_bestEffS (dC S) v).1 = kx_3513 ∧ DyW G d S W2_3514 ∧ 1 ≤ kx_3513 ∧ kx_3513 ≤ 2 := hq
    have hpm_3518 : ([(o, .inl (G.2 5, 1, .inr (.inl of)))] ++ (W2_3514 ++ []) : va_W).Perm ([(o, .inl (G.2 5, 1, .inr (.inl of)))] ++ (W2_3514 ++ [])) := segs_perm2 [[(o, .inl (G.2 5, 1, .inr (.inl of)))]] [W2_3514] [0, 1] rfl
    have hP : va_P G.1 CL ([(o, .inl (G.2 5, 1, .inr (.inl of)))] ++ (W2_3514 ++ [])) H := P_perm hpm_3518 hP
    have hD : va_D A ([(o, .inl (G.2 5, 1, .inr (.inl of)))] ++ (W2_3514 ++ [])) := D_perm hpm_3518 hD
    rcases (show kx_3513 = 1 ∨ kx_3513 = 2 by omega) with rfl | rfl
    · have hcl9 : s.vm.findClass eA = some ce.cls := hcl
      refine vx_catch (name := eA) (E := eA) hown [] (⟨0, 9, 12, 13⟩ : ExceptionTableEntry) [(⟨0, 9, 15, 24⟩ : ExceptionTableEntry)] (by rw [htab]; rfl) (fun z hz => absurd hz List.not_mem_nil) (by decide) (by decide) (hts _ q680) (va_Nw.use rfl (hKB.nest q698 rfl)) hce hcv hcl9 ?_
      refine W.eq (g2 := F0 m 12 ls [.ref q9]) rfl ?_
      refine lv_astore_n (lv' := [(3, .ref q9), (0, .ref d), (1, .int v), (2, .ref o)]) hx hb dX0_bestEffortSession_12 rfl hl (by decide) rfl (fun ls hl => ?_)
      refine lv_iconst (v := nI 1) hx hb dX0_bestEffortSession_13 (by decide) ?_
      refine vx_ret ?_
      have hpm_3519 : (([(o, .inl (G.2 5, 1, .inr (.inl of)))] ++ (W2_3514 ++ [])) : va_W).Perm (([(o, .inl (G.2 5, 1, .inr (.inl of)))] ++ (W2_3514 ++ [])) ++ []) := segs_perm [[(o, .inl (G.2 5, 1, .inr (.inl of)))], W2_3514] [0, 1] [] rfl
      have hP9 : va_P G.1 CL ([(o, .inl (G.2 5, 1, .inr (.inl of)))] ++ (W2_3514 ++ [])) H := P_left (P_perm hpm_3519 hP)
      have hD9 : va_D A ([(o, .inl (G.2 5, 1, .inr (.inl of)))] ++ (W2_3514 ++ [])) := D_left (D_perm hpm_3519 hD)
      exact end_i hx hb hr hlk (rfl) (qc_of (of, W2_3514) (v := some (.int (nI 1))) (by rw [hq_3515]) (⟨fun z9 => absurd (hq_3515.symm.trans z9) (by decide), by rw [hq_3515]; decide, hq_3516⟩) hP9 hD9 (trivial) hS) hS dX0_bestEffortSession_14 (show 0 + 90 ≤ 90 from by first | exact Nat.le_refl _ | decide | omega) (show 0 + 20000 ≤ 20000 from by first | exact Nat.le_refl _ | decide | omega)
    · have hcl9 : s.vm.findClass eN = some ce.cls := hcl
      refine vx_catch (name := eN) (E := eN) hown [(⟨0, 9, 12, 13⟩ : ExceptionTableEntry)] (⟨0, 9, 15, 24⟩ : ExceptionTableEntry) [] (by rw [htab]; rfl) (fun z hz => by rcases List.mem_singleton.mp hz with rfl; exact Or.inr ⟨by decide, _, hts _ q680, hNc _ (List.mem_of_getElem? (i := 3) rfl)⟩) (by decide) (by decide) (hts _ q1013) (va_Nw.use rfl (hKB.nest q334 rfl)) hce hcv hcl9 ?_
      refine W.eq (g2 := F0 m 15 ls [.ref q9]) rfl ?_
      refine lv_astore_n (lv' := [(3, .ref q9), (0, .ref d), (1, .int v), (2, .ref o)]) hx hb dX0_bestEffortSession_15 rfl hl (by decide) rfl (fun ls hl => ?_)
      refine lv_iconst (v := nI 2) hx hb dX0_bestEffortSession_16 (by decide) ?_
      refine vx_ret ?_
      have hpm_3520 : (([(o, .inl (G.2 5, 1, .inr (.inl of)))] ++ (W2_3514 ++ [])) : va_W).Perm (([(o, .inl (G.2 5, 1, .inr (.inl of)))] ++ (W2_3514 ++ [])) ++ []) := segs_perm [[(o, .inl (G.2 5, 1, .inr (.inl of)))], W2_3514] [0, 1] [] rfl
      have hP9 : va_P G.1 CL ([(o, .inl (G.2 5, 1, .inr (.inl of)))] ++ (W2_3514 ++ [])) H := P_left (P_perm hpm_3520 hP)
      have hD9 : va_D A ([(o, .inl (G.2 5, 1, .inr (.inl of)))] ++ (W2_3514 ++ [])) := D_left (D_perm hpm_3520 hD)
      exact end_i hx hb hr hlk (rfl) (qc_of (of, W2_3514) (v := some (.int (nI 2))) (by rw [hq_3515]) (⟨fun z9 => absurd (hq_3515.symm.trans z9) (by decide), by rw [hq_3515]; decide, hq_3516⟩) hP9 hD9 (trivial) hS) hS dX0_bestEffortSession_17 (show 0 + 90 ≤ 90 from by first | exact Nat.le_refl _ | decide | omega) (show 0 + 20000 ≤ 20000 from by first | exact Nat.le_refl _ | decide | omega)
  · obtain ⟨rr_3511, W2_3512⟩ := u_
    obtain ⟨hq_3521, hq_3522⟩ : q_bestEffS (dC S) v = (0, rr_3511) ∧ DyW G d S W2_3512 := hq
    have hpm_3523 : ([(o, .inl (G.2 5, 1, .inr (.inl of)))] ++ (W2_3512 ++ []) : va_W).Perm ([(o, .inl (G.2 5, 1, .inr (.inl of)))] ++ (W2_3512 ++ [])) := segs_perm2 [[(o, .inl (G.2 5, 1, .inr (.inl of)))]] [W2_3512] [0, 1] rfl
    have hP : va_P G.1 CL ([(o, .inl (G.2 5, 1, .inr (.inl of)))] ++ (W2_3512 ++ [])) H := P_perm hpm_3523 hP
    have hD : va_D A ([(o, .inl (G.2 5, 1, .inr (.inl of)))] ++ (W2_3512 ++ [])) := D_perm hpm_3523 hD
    refine W.eq (g2 := F0 m 7 ls [.int rr_3511, .int (nI 0), .ref o]) rfl ?_
    refine lv_i2l (v := (rr_3511).toInt64) hx hb dX0_bestEffortSession_7 rfl ?_
    refine r_last hx hb hK hP hD hS 0 5 rfl rfl (i := 0) (by omega) (by omega) dX0_bestEffortSession_8 (fun H locs (hP : va_P G.1 CL ([(o, .inl (G.2 5, 1, .inr (.inl (vp_updL of 0 ((rr_3511).toInt64)))))] ++ (W2_3512 ++ [])) H) (hD : va_D A ([(o, .inl (G.2 5, 1, .inr (.inl (vp_updL of 0 ((rr_3511).toInt64)))))] ++ (W2_3512 ++ []))) hS => ?_)
    refine lv_goto (tgt := 18) hx hb dX0_bestEffortSession_9 (by decide) ?_
    refine lv_iconst (v := nI 0) hx hb dX0_bestEffortSession_18 (by decide) ?_
    refine vx_ret ?_
    have hpm_3524 : (([(o, .inl (G.2 5, 1, .inr (.inl (vp_updL of 0 ((rr_3511).toInt64)))))] ++ (W2_3512 ++ [])) : va_W).Perm (([(o, .inl (G.2 5, 1, .inr (.inl (vp_updL of 0 ((rr_3511).toInt64)))))] ++ (W2_3512 ++ [])) ++ []) := segs_perm [[(o, .inl (G.2 5, 1, .inr (.inl (vp_updL of 0 ((rr_3511).toInt64)))))], W2_3512] [0, 1] [] rfl
    have hP9 : va_P G.1 CL ([(o, .inl (G.2 5, 1, .inr (.inl (vp_updL of 0 ((rr_3511).toInt64)))))] ++ (W2_3512 ++ [])) H := P_left (P_perm hpm_3524 hP)
    have hD9 : va_D A ([(o, .inl (G.2 5, 1, .inr (.inl (vp_updL of 0 ((rr_3511).toInt64)))))] ++ (W2_3512 ++ [])) := D_left (D_perm hpm_3524 hD)
    exact end_i hx hb hr hlk (rfl) (qc_of (vp_updL of 0 ((rr_3511).toInt64), W2_3512) (v := some (.int (nI 0))) (by rw [hq_3521]) (⟨fun _ => by rw [hq_3521]; exact pk_uLs, by rw [hq_3521]; exact (by decide : (0 : Nat) < 10), hq_3522⟩) hP9 hD9 (trivial) hS) hS dX0_bestEffortSession_19 (show 0 + 90 ≤ 90 from by first | exact Nat.le_refl _ | decide | omega) (show 0 + 20000 ≤ 20000 from by first | exact Nat.le_refl _ | decide | omega)

set_option maxHeartbeats 4000000 in
theorem wX0_bestEffortByTrying (l : Launch) (G : Gt) (d : Nat) (S : DS) (WA : va_W) (o : Nat) (of : Nat → Int64) (v : Int32) (h : DyW G d S WA) (hfl : l.stackTraces = false) : CTW l G yX0_bestEffortByTrying cX0_bestEffortByTrying 4 (some .int) [(0, 9, 12, 13), (0, 9, 15, 24)] ({ frames := 8, cells := 90, slots := 20000, locals := 144 } : Room) [.ref d, .int v, .ref o] ([(o, .inl (G.2 5, 1, .inr (.inl of)))] ++ (WA ++ [])) RH0 (S := (Nat → Int64) × va_W) (fun (u_ : (Nat → Int64) × va_W) => some (.int (nI ((q_bestEff (dC S) v).1)))) (fun (u_ : (Nat → Int64) × va_W) => ((q_bestEff (dC S) v).1 = 0 → u_.1 0 = ((q_bestEff (dC S) v).2).toInt64) ∧ (q_bestEff (dC S) v).1 < 10 ∧ DyW G d S u_.2) (fun (u_ : (Nat → Int64) × va_W) => ([(o, .inl (G.2 5, 1, .inr (.inl u_.1)))] ++ (u_.2 ++ []))) (fun (u_ : (Nat → Int64) × va_W) (H : Heap) => True) := by
  refine CTW.of (by decide) (Nat.le_of_ble_eq_true rfl) ?_
  intro p e s m below meth c ls A H locs h9 hH0 hP hS hNc htab
  obtain ⟨cf, hr, hlk, hnm, hKB, hE, -, hD, -, hA, hAw, hRH, hl⟩ := h9
  have hx := cf.1
  have hb := cf.2.1
  have hml := cf.2.2.1
  have hown : s.vm.findClass RX0 = some m.cls := cf.2.2.2.1
  have hts := cf.2.2.2.2
  have hK := hKB.1
  have hl : lv_has ls 4 [(0, .ref d), (1, .int v), (2, .ref o)] := hl
  refine lv_aload_n hx hb dX0_bestEffortByTrying_0 rfl (lv_at hl 2 rfl) ?_
  refine lv_iconst (v := nI 0) hx hb dX0_bestEffortByTrying_1 (by decide) ?_
  refine lv_aload_n hx hb dX0_bestEffortByTrying_2 rfl (lv_at hl 0 rfl) ?_
  refine lv_iload_n hx hb dX0_bestEffortByTrying_3 rfl (lv_at hl 1 rfl) ?_
  have hpm_3525 : (([(o, .inl (G.2 5, 1, .inr (.inl of)))] ++ (WA ++ [])) : va_W).Perm ((WA ++ []) ++ [(o, .inl (G.2 5, 1, .inr (.inl of)))]) := segs_perm [[(o, .inl (G.2 5, 1, .inr (.inl of)))], WA] [1] [0] rfl
  have hF := hF_ofP (wc := (WA ++ [])) hD hS hA hpm_3525
  refine go_cxP hS hP hD hpm_3525 hF
      (vx_runV (As := [.int v]) (rest := [.int (nI 0), .ref o]) cf (dX1_bestEffortByTrying l G d S WA v (show DyW G d S WA from by first | assumption | omega) hfl H.size) (cwV 1 hts (lw_V q1402 q1403 q1404 q47 q1405) rfl rfl rfl (by decide +kernel) ⟨Nat.le_of_ble_eq_true rfl, Nat.le_of_ble_eq_true rfl⟩) (preV_of hKB hE hS hF (DyW.recv hK h (seg_at [[(o, .inl (G.2 5, 1, .inr (.inl of)))], WA] 1 rfl hP)) (P_left (P_perm hpm_3525 hP)) ((D_left (D_perm hpm_3525 hD)).weaken (fun _ _ _ _ => trivial)) trivial) rfl rfl hl.1 rfl (lv_room (Nat.le_of_ble_eq_true rfl)) dX0_bestEffortByTrying_4 ⟨show 0 + 90 ≤ 90 from by first | decide | omega, show 0 + 20000 ≤ 20000 from by first | decide | omega⟩)
      (fun u_ H locs ce q9 hq hph (hP : va_P G.1 CL ([(o, .inl (G.2 5, 1, .inr (.inl of)))] ++ (u_.2 ++ [])) H) (hD : va_D A ([(o, .inl (G.2 5, 1, .inr (.inl of)))] ++ (u_.2 ++ []))) hS hfz hfk hce hcv hcl => ?_) (fun u_ H locs hq hph (hP : va_P G.1 CL ([(o, .inl (G.2 5, 1, .inr (.inl of)))] ++ (u_.2 ++ [])) H) (hD : va_D A ([(o, .inl (G.2 5, 1, .inr (.inl of)))] ++ (u_.2 ++ []))) hS hfz hfk => ?_)
  · obtain ⟨kx_3528, W2_3529⟩ := u_
    obtain ⟨hq_3530, hq_3531, hq_3532⟩ : (q_bestEff (dC S) v).1 = kx_3528 ∧ DyW G d S W2_3529 ∧ 1 ≤ kx_3528 ∧ kx_3528 ≤ 2 := hq
    have hpm_3533 : ([(o, .inl (G.2 5, 1, .inr (.inl of)))] ++ (W2_3529 ++ []) : va_W).Perm ([(o, .inl (G.2 5, 1, .inr (.inl of)))] ++ (W2_3529 ++ [])) := segs_perm2 [[(o, .inl (G.2 5, 1, .inr (.inl of)))]] [W2_3529] [0, 1] rfl
    have hP : va_P G.1 CL ([(o, .inl (G.2 5, 1, .inr (.inl of)))] ++ (W2_3529 ++ [])) H := P_perm hpm_3533 hP
    have hD : va_D A ([(o, .inl (G.2 5, 1, .inr (.inl of)))] ++ (W2_3529 ++ [])) := D_perm hpm_3533 hD
    rcases (show kx_3528 = 1 ∨ kx_3528 = 2 by omega) with rfl | rfl
    · have hcl9 : s.vm.findClass eA = some ce.cls := hcl
      refine vx_catch (name := eA) (E := eA) hown [] (⟨0, 9, 12, 13⟩ : ExceptionTableEntry) [(⟨0, 9, 15, 24⟩ : ExceptionTableEntry)] (by rw [htab]; rfl) (fun z hz => absurd hz List.not_mem_nil) (by decide) (by decide) (hts _ q680) (va_Nw.use rfl (hKB.nest q698 rfl)) hce hcv hcl9 ?_
      refine W.eq (g2 := F0 m 12 ls [.ref q9]) rfl ?_
      refine lv_astore_n (lv' := [(3, .ref q9), (0, .ref d), (1, .int v), (2, .ref o)]) hx hb dX0_bestEffortByTrying_12 rfl hl (by decide) rfl (fun ls hl => ?_)
      refine lv_iconst (v := nI 1) hx hb dX0_bestEffortByTrying_13 (by decide) ?_
      refine vx_ret ?_
      have hpm_3534 : (([(o, .inl (G.2 5, 1, .inr (.inl of)))] ++ (W2_3529 ++ [])) : va_W).Perm (([(o, .inl (G.2 5, 1, .inr (.inl of)))] ++ (W2_3529 ++ [])) ++ []) := segs_perm [[(o, .inl (G.2 5, 1, .inr (.inl of)))], W2_3529] [0, 1] [] rfl
      have hP9 : va_P G.1 CL ([(o, .inl (G.2 5, 1, .inr (.inl of)))] ++ (W2_3529 ++ [])) H := P_left (P_perm hpm_3534 hP)
      have hD9 : va_D A ([(o, .inl (G.2 5, 1, .inr (.inl of)))] ++ (W2_3529 ++ [])) := D_left (D_perm hpm_3534 hD)
      exact end_i hx hb hr hlk (rfl) (qc_of (of, W2_3529) (v := some (.int (nI 1))) (by rw [hq_3530]) (⟨fun z9 => absurd (hq_3530.symm.trans z9) (by decide), by rw [hq_3530]; decide, hq_3531⟩) hP9 hD9 (trivial) hS) hS dX0_bestEffortByTrying_14 (show 0 + 90 ≤ 90 from by first | exact Nat.le_refl _ | decide | omega) (show 0 + 20000 ≤ 20000 from by first | exact Nat.le_refl _ | decide | omega)
    · have hcl9 : s.vm.findClass eN = some ce.cls := hcl
      refine vx_catch (name := eN) (E := eN) hown [(⟨0, 9, 12, 13⟩ : ExceptionTableEntry)] (⟨0, 9, 15, 24⟩ : ExceptionTableEntry) [] (by rw [htab]; rfl) (fun z hz => by rcases List.mem_singleton.mp hz with rfl; exact Or.inr ⟨by decide, _, hts _ q680, hNc _ (List.mem_of_getElem? (i := 3) rfl)⟩) (by decide) (by decide) (hts _ q1013) (va_Nw.use rfl (hKB.nest q334 rfl)) hce hcv hcl9 ?_
      refine W.eq (g2 := F0 m 15 ls [.ref q9]) rfl ?_
      refine lv_astore_n (lv' := [(3, .ref q9), (0, .ref d), (1, .int v), (2, .ref o)]) hx hb dX0_bestEffortByTrying_15 rfl hl (by decide) rfl (fun ls hl => ?_)
      refine lv_iconst (v := nI 2) hx hb dX0_bestEffortByTrying_16 (by decide) ?_
      refine vx_ret ?_
      have hpm_3535 : (([(o, .inl (G.2 5, 1, .inr (.inl of)))] ++ (W2_3529 ++ [])) : va_W).Perm (([(o, .inl (G.2 5, 1, .inr (.inl of)))] ++ (W2_3529 ++ [])) ++ []) := segs_perm [[(o, .inl (G.2 5, 1, .inr (.inl of)))], W2_3529] [0, 1] [] rfl
      have hP9 : va_P G.1 CL ([(o, .inl (G.2 5, 1, .inr (.inl of)))] ++ (W2_3529 ++ [])) H := P_left (P_perm hpm_3535 hP)
      have hD9 : va_D A ([(o, .inl (G.2 5, 1, .inr (.inl of)))] ++ (W2_3529 ++ [])) := D_left (D_perm hpm_3535 hD)
      exact end_i hx hb hr hlk (rfl) (qc_of (of, W2_3529) (v := some (.int (nI 2))) (by rw [hq_3530]) (⟨fun z9 => absurd (hq_3530.symm.trans z9) (by decide), by rw [hq_3530]; decide, hq_3531⟩) hP9 hD9 (trivial) hS) hS dX0_bestEffortByTrying_17 (show 0 + 90 ≤ 90 from by first | exact Nat.le_refl _ | decide | omega) (show 0 + 20000 ≤ 20000 from by first | exact Nat.le_refl _ | decide | omega)
  · obtain ⟨rr_3526, W2_3527⟩ := u_
    obtain ⟨hq_3536, hq_3537⟩ : q_bestEff (dC S) v = (0, rr_3526) ∧ DyW G d S W2_3527 := hq
    have hpm_3538 : ([(o, .inl (G.2 5, 1, .inr (.inl of)))] ++ (W2_3527 ++ []) : va_W).Perm ([(o, .inl (G.2 5, 1, .inr (.inl of)))] ++ (W2_3527 ++ [])) := segs_perm2 [[(o, .inl (G.2 5, 1, .inr (.inl of)))]] [W2_3527] [0, 1] rfl
    have hP : va_P G.1 CL ([(o, .inl (G.2 5, 1, .inr (.inl of)))] ++ (W2_3527 ++ [])) H := P_perm hpm_3538 hP
    have hD : va_D A ([(o, .inl (G.2 5, 1, .inr (.inl of)))] ++ (W2_3527 ++ [])) := D_perm hpm_3538 hD
    refine W.eq (g2 := F0 m 7 ls [.int rr_3526, .int (nI 0), .ref o]) rfl ?_
    refine lv_i2l (v := (rr_3526).toInt64) hx hb dX0_bestEffortByTrying_7 rfl ?_
    refine r_last hx hb hK hP hD hS 0 5 rfl rfl (i := 0) (by omega) (by omega) dX0_bestEffortByTrying_8 (fun H locs (hP : va_P G.1 CL ([(o, .inl (G.2 5, 1, .inr (.inl (vp_updL of 0 ((rr_3526).toInt64)))))] ++ (W2_3527 ++ [])) H) (hD : va_D A ([(o, .inl (G.2 5, 1, .inr (.inl (vp_updL of 0 ((rr_3526).toInt64)))))] ++ (W2_3527 ++ []))) hS => ?_)
    refine lv_goto (tgt := 18) hx hb dX0_bestEffortByTrying_9 (by decide) ?_
    refine lv_iconst (v := nI 0) hx hb dX0_bestEffortByTrying_18 (by decide) ?_
    refine vx_ret ?_
    have hpm_3539 : (([(o, .inl (G.2 5, 1, .inr (.inl (vp_updL of 0 ((rr_3526).toInt64)))))] ++ (W2_3527 ++ [])) : va_W).Perm (([(o, .inl (G.2 5, 1, .inr (.inl (vp_updL of 0 ((rr_3526).toInt64)))))] ++ (W2_3527 ++ [])) ++ []) := segs_perm [[(o, .inl (G.2 5, 1, .inr (.inl (vp_updL of 0 ((rr_3526).toInt64)))))], W2_3527] [0, 1] [] rfl
    have hP9 : va_P G.1 CL ([(o, .inl (G.2 5, 1, .inr (.inl (vp_updL of 0 ((rr_3526).toInt64)))))] ++ (W2_3527 ++ [])) H := P_left (P_perm hpm_3539 hP)
    have hD9 : va_D A ([(o, .inl (G.2 5, 1, .inr (.inl (vp_updL of 0 ((rr_3526).toInt64)))))] ++ (W2_3527 ++ [])) := D_left (D_perm hpm_3539 hD)
    exact end_i hx hb hr hlk (rfl) (qc_of (vp_updL of 0 ((rr_3526).toInt64), W2_3527) (v := some (.int (nI 0))) (by rw [hq_3536]) (⟨fun _ => by rw [hq_3536]; exact pk_uLs, by rw [hq_3536]; exact (by decide : (0 : Nat) < 10), hq_3537⟩) hP9 hD9 (trivial) hS) hS dX0_bestEffortByTrying_19 (show 0 + 90 ≤ 90 from by first | exact Nat.le_refl _ | decide | omega) (show 0 + 20000 ≤ 20000 from by first | exact Nat.le_refl _ | decide | omega)

set_option maxHeartbeats 4000000 in
theorem wX0_dueEntry (l : Launch) (G : Gt) (d : Nat) (S : DS) (WA : va_W) (o : Nat) (of : Nat → Int64) (h : DyW G d S WA) (hfl : l.stackTraces = false) : CTW l G yX0_dueEntry cX0_dueEntry 3 (some .int) [(0, 8, 11, 24)] ({ frames := 15, cells := 8300, slots := 17000, locals := 318 } : Room) [.ref d, .ref o] ([(o, .inl (G.2 5, 1, .inr (.inl of)))] ++ (WA ++ [])) RH0 (S := (Nat → Int64) × va_W) (fun (u_ : (Nat → Int64) × va_W) => some (.int (nI ((q_due (dC S)).1)))) (fun (u_ : (Nat → Int64) × va_W) => ((q_due (dC S)).1 = 0 → u_.1 0 = ((q_due (dC S)).2).toInt64) ∧ (q_due (dC S)).1 < 10 ∧ DyW G d S u_.2) (fun (u_ : (Nat → Int64) × va_W) => ([(o, .inl (G.2 5, 1, .inr (.inl u_.1)))] ++ (u_.2 ++ []))) (fun (u_ : (Nat → Int64) × va_W) (H : Heap) => True) := by
  refine CTW.of (by decide) (Nat.le_of_ble_eq_true rfl) ?_
  intro p e s m below meth c ls A H locs h9 hH0 hP hS hNc htab
  obtain ⟨cf, hr, hlk, hnm, hKB, hE, -, hD, -, hA, hAw, hRH, hl⟩ := h9
  have hx := cf.1
  have hb := cf.2.1
  have hml := cf.2.2.1
  have hown : s.vm.findClass RX0 = some m.cls := cf.2.2.2.1
  have hts := cf.2.2.2.2
  have hK := hKB.1
  have hl : lv_has ls 3 [(0, .ref d), (1, .ref o)] := hl
  refine lv_aload_n hx hb dX0_dueEntry_0 rfl (lv_at hl 1 rfl) ?_
  refine lv_iconst (v := nI 0) hx hb dX0_dueEntry_1 (by decide) ?_
  refine lv_aload_n hx hb dX0_dueEntry_2 rfl (lv_at hl 0 rfl) ?_
  have hpm_3540 : (([(o, .inl (G.2 5, 1, .inr (.inl of)))] ++ (WA ++ [])) : va_W).Perm ((WA ++ []) ++ [(o, .inl (G.2 5, 1, .inr (.inl of)))]) := segs_perm [[(o, .inl (G.2 5, 1, .inr (.inl of)))], WA] [1] [0] rfl
  have hF := hF_ofP (wc := (WA ++ [])) hD hS hA hpm_3540
  refine go_cxP hS hP hD hpm_3540 hF
      (vx_runV (As := []) (rest := [.int (nI 0), .ref o]) cf (dX1_dueEntry l G d S WA (show DyW G d S WA from by first | assumption | omega) hfl H.size) (cwV 0 hts (lw_V q1434 q1435 q1436 q47 q1437) rfl rfl rfl (by decide +kernel) ⟨Nat.le_of_ble_eq_true rfl, Nat.le_of_ble_eq_true rfl⟩) (preV_of hKB hE hS hF (DyW.recv hK h (seg_at [[(o, .inl (G.2 5, 1, .inr (.inl of)))], WA] 1 rfl hP)) (P_left (P_perm hpm_3540 hP)) ((D_left (D_perm hpm_3540 hD)).weaken (fun _ _ _ _ => trivial)) trivial) rfl rfl hl.1 rfl (lv_room (Nat.le_of_ble_eq_true rfl)) dX0_dueEntry_3 ⟨show 0 + 8300 ≤ 8300 from by first | decide | omega, show 0 + 17000 ≤ 17000 from by first | decide | omega⟩)
      (fun u_ H locs ce q9 hq hph (hP : va_P G.1 CL ([(o, .inl (G.2 5, 1, .inr (.inl of)))] ++ (u_.2 ++ [])) H) (hD : va_D A ([(o, .inl (G.2 5, 1, .inr (.inl of)))] ++ (u_.2 ++ []))) hS hfz hfk hce hcv hcl => ?_) (fun u_ H locs hq hph (hP : va_P G.1 CL ([(o, .inl (G.2 5, 1, .inr (.inl of)))] ++ (u_.2 ++ [])) H) (hD : va_D A ([(o, .inl (G.2 5, 1, .inr (.inl of)))] ++ (u_.2 ++ []))) hS hfz hfk => ?_)
  · obtain ⟨kx_3543, W2_3544⟩ := u_
    obtain ⟨hq_3545, hq_3546, hq_3547⟩ : (q_due (dC S)).1 = kx_3543 ∧ DyW G d S W2_3544 ∧ 1 ≤ kx_3543 ∧ kx_3543 ≤ 1 := hq
    have hpm_3548 : ([(o, .inl (G.2 5, 1, .inr (.inl of)))] ++ (W2_3544 ++ []) : va_W).Perm ([(o, .inl (G.2 5, 1, .inr (.inl of)))] ++ (W2_3544 ++ [])) := segs_perm2 [[(o, .inl (G.2 5, 1, .inr (.inl of)))]] [W2_3544] [0, 1] rfl
    have hP : va_P G.1 CL ([(o, .inl (G.2 5, 1, .inr (.inl of)))] ++ (W2_3544 ++ [])) H := P_perm hpm_3548 hP
    have hD : va_D A ([(o, .inl (G.2 5, 1, .inr (.inl of)))] ++ (W2_3544 ++ [])) := D_perm hpm_3548 hD
    obtain rfl : kx_3543 = 1 := by omega
    have hcl9 : s.vm.findClass eN = some ce.cls := hcl
    refine vx_catch (name := eN) (E := eN) hown [] (⟨0, 8, 11, 24⟩ : ExceptionTableEntry) [] (by rw [htab]; rfl) (fun z hz => absurd hz List.not_mem_nil) (by decide) (by decide) (hts _ q1013) (va_Nw.use rfl (hKB.nest q334 rfl)) hce hcv hcl9 ?_
    refine W.eq (g2 := F0 m 11 ls [.ref q9]) rfl ?_
    refine lv_astore_n (lv' := [(2, .ref q9), (0, .ref d), (1, .ref o)]) hx hb dX0_dueEntry_11 rfl hl (by decide) rfl (fun ls hl => ?_)
    refine lv_iconst (v := nI 1) hx hb dX0_dueEntry_12 (by decide) ?_
    refine vx_ret ?_
    have hpm_3549 : (([(o, .inl (G.2 5, 1, .inr (.inl of)))] ++ (W2_3544 ++ [])) : va_W).Perm (([(o, .inl (G.2 5, 1, .inr (.inl of)))] ++ (W2_3544 ++ [])) ++ []) := segs_perm [[(o, .inl (G.2 5, 1, .inr (.inl of)))], W2_3544] [0, 1] [] rfl
    have hP9 : va_P G.1 CL ([(o, .inl (G.2 5, 1, .inr (.inl of)))] ++ (W2_3544 ++ [])) H := P_left (P_perm hpm_3549 hP)
    have hD9 : va_D A ([(o, .inl (G.2 5, 1, .inr (.inl of)))] ++ (W2_3544 ++ [])) := D_left (D_perm hpm_3549 hD)
    exact end_i hx hb hr hlk (rfl) (qc_of (of, W2_3544) (v := some (.int (nI 1))) (by rw [hq_3545]) (⟨fun z9 => absurd (hq_3545.symm.trans z9) (by decide), by rw [hq_3545]; decide, hq_3546⟩) hP9 hD9 (trivial) hS) hS dX0_dueEntry_13 (show 0 + 8300 ≤ 8300 from by first | exact Nat.le_refl _ | decide | omega) (show 0 + 17000 ≤ 17000 from by first | exact Nat.le_refl _ | decide | omega)
  · obtain ⟨rr_3541, W2_3542⟩ := u_
    obtain ⟨hq_3550, hq_3551⟩ : q_due (dC S) = (0, rr_3541) ∧ DyW G d S W2_3542 := hq
    have hpm_3552 : ([(o, .inl (G.2 5, 1, .inr (.inl of)))] ++ (W2_3542 ++ []) : va_W).Perm ([(o, .inl (G.2 5, 1, .inr (.inl of)))] ++ (W2_3542 ++ [])) := segs_perm2 [[(o, .inl (G.2 5, 1, .inr (.inl of)))]] [W2_3542] [0, 1] rfl
    have hP : va_P G.1 CL ([(o, .inl (G.2 5, 1, .inr (.inl of)))] ++ (W2_3542 ++ [])) H := P_perm hpm_3552 hP
    have hD : va_D A ([(o, .inl (G.2 5, 1, .inr (.inl of)))] ++ (W2_3542 ++ [])) := D_perm hpm_3552 hD
    refine W.eq (g2 := F0 m 6 ls [.int rr_3541, .int (nI 0), .ref o]) rfl ?_
    refine lv_i2l (v := (rr_3541).toInt64) hx hb dX0_dueEntry_6 rfl ?_
    refine r_last hx hb hK hP hD hS 0 5 rfl rfl (i := 0) (by omega) (by omega) dX0_dueEntry_7 (fun H locs (hP : va_P G.1 CL ([(o, .inl (G.2 5, 1, .inr (.inl (vp_updL of 0 ((rr_3541).toInt64)))))] ++ (W2_3542 ++ [])) H) (hD : va_D A ([(o, .inl (G.2 5, 1, .inr (.inl (vp_updL of 0 ((rr_3541).toInt64)))))] ++ (W2_3542 ++ []))) hS => ?_)
    refine lv_goto (tgt := 14) hx hb dX0_dueEntry_8 (by decide) ?_
    refine lv_iconst (v := nI 0) hx hb dX0_dueEntry_14 (by decide) ?_
    refine vx_ret ?_
    have hpm_3553 : (([(o, .inl (G.2 5, 1, .inr (.inl (vp_updL of 0 ((rr_3541).toInt64)))))] ++ (W2_3542 ++ [])) : va_W).Perm (([(o, .inl (G.2 5, 1, .inr (.inl (vp_updL of 0 ((rr_3541).toInt64)))))] ++ (W2_3542 ++ [])) ++ []) := segs_perm [[(o, .inl (G.2 5, 1, .inr (.inl (vp_updL of 0 ((rr_3541).toInt64)))))], W2_3542] [0, 1] [] rfl
    have hP9 : va_P G.1 CL ([(o, .inl (G.2 5, 1, .inr (.inl (vp_updL of 0 ((rr_3541).toInt64)))))] ++ (W2_3542 ++ [])) H := P_left (P_perm hpm_3553 hP)
    have hD9 : va_D A ([(o, .inl (G.2 5, 1, .inr (.inl (vp_updL of 0 ((rr_3541).toInt64)))))] ++ (W2_3542 ++ [])) := D_left (D_perm hpm_3553 hD)
    exact end_i hx hb hr hlk (rfl) (qc_of (vp_updL of 0 ((rr_3541).toInt64), W2_3542) (v := some (.int (nI 0))) (by rw [hq_3550]) (⟨fun _ => by rw [hq_3550]; exact pk_uLs, by rw [hq_3550]; exact (by decide : (0 : Nat) < 10), hq_3551⟩) hP9 hD9 (trivial) hS) hS dX0_dueEntry_15 (show 0 + 8300 ≤ 8300 from by first | exact Nat.le_refl _ | decide | omega) (show 0 + 17000 ≤ 17000 from by first | exact Nat.le_refl _ | decide | omega)

set_option maxHeartbeats 4000000 in
theorem wX0_planEnd (l : Launch) (G : Gt) (d : Nat) (S : DS) (WA : va_W) (o : Nat) (of : Nat → Int64) (h : DyW G d S WA) (hfl : l.stackTraces = false) : CTW l G yX0_planEnd cX0_planEnd 3 (some .int) [(0, 8, 11, 24)] ({ frames := 15, cells := 8300, slots := 17000, locals := 318 } : Room) [.ref d, .ref o] ([(o, .inl (G.2 5, 1, .inr (.inl of)))] ++ (WA ++ [])) RH0 (S := (Nat → Int64) × va_W) (fun (u_ : (Nat → Int64) × va_W) => some (.int (nI ((q_end (dC S)).1)))) (fun (u_ : (Nat → Int64) × va_W) => ((q_end (dC S)).1 = 0 → u_.1 0 = ((q_end (dC S)).2).toInt64) ∧ (q_end (dC S)).1 < 10 ∧ DyW G d S u_.2) (fun (u_ : (Nat → Int64) × va_W) => ([(o, .inl (G.2 5, 1, .inr (.inl u_.1)))] ++ (u_.2 ++ []))) (fun (u_ : (Nat → Int64) × va_W) (H : Heap) => True) := by
  refine CTW.of (by decide) (Nat.le_of_ble_eq_true rfl) ?_
  intro p e s m below meth c ls A H locs h9 hH0 hP hS hNc htab
  obtain ⟨cf, hr, hlk, hnm, hKB, hE, -, hD, -, hA, hAw, hRH, hl⟩ := h9
  have hx := cf.1
  have hb := cf.2.1
  have hml := cf.2.2.1
  have hown : s.vm.findClass RX0 = some m.cls := cf.2.2.2.1
  have hts := cf.2.2.2.2
  have hK := hKB.1
  have hl : lv_has ls 3 [(0, .ref d), (1, .ref o)] := hl
  refine lv_aload_n hx hb dX0_planEnd_0 rfl (lv_at hl 1 rfl) ?_
  refine lv_iconst (v := nI 0) hx hb dX0_planEnd_1 (by decide) ?_
  refine lv_aload_n hx hb dX0_planEnd_2 rfl (lv_at hl 0 rfl) ?_
  have hpm_3554 : (([(o, .inl (G.2 5, 1, .inr (.inl of)))] ++ (WA ++ [])) : va_W).Perm ((WA ++ []) ++ [(o, .inl (G.2 5, 1, .inr (.inl of)))]) := segs_perm [[(o, .inl (G.2 5, 1, .inr (.inl of)))], WA] [1] [0] rfl
  have hF := hF_ofP (wc := (WA ++ [])) hD hS hA hpm_3554
  refine go_cxP hS hP hD hpm_3554 hF
      (vx_runV (As := []) (rest := [.int (nI 0), .ref o]) cf (dX1_planEnd l G d S WA (show DyW G d S WA from by first | assumption | omega) hfl H.size) (cwV 0 hts (lw_V q1441 q1442 q1443 q47 q1444) rfl rfl rfl (by decide +kernel) ⟨Nat.le_of_ble_eq_true rfl, Nat.le_of_ble_eq_true rfl⟩) (preV_of hKB hE hS hF (DyW.recv hK h (seg_at [[(o, .inl (G.2 5, 1, .inr (.inl of)))], WA] 1 rfl hP)) (P_left (P_perm hpm_3554 hP)) ((D_left (D_perm hpm_3554 hD)).weaken (fun _ _ _ _ => trivial)) trivial) rfl rfl hl.1 rfl (lv_room (Nat.le_of_ble_eq_true rfl)) dX0_planEnd_3 ⟨show 0 + 8300 ≤ 8300 from by first | decide | omega, show 0 + 17000 ≤ 17000 from by first | decide | omega⟩)
      (fun u_ H locs ce q9 hq hph (hP : va_P G.1 CL ([(o, .inl (G.2 5, 1, .inr (.inl of)))] ++ (u_.2 ++ [])) H) (hD : va_D A ([(o, .inl (G.2 5, 1, .inr (.inl of)))] ++ (u_.2 ++ []))) hS hfz hfk hce hcv hcl => ?_) (fun u_ H locs hq hph (hP : va_P G.1 CL ([(o, .inl (G.2 5, 1, .inr (.inl of)))] ++ (u_.2 ++ [])) H) (hD : va_D A ([(o, .inl (G.2 5, 1, .inr (.inl of)))] ++ (u_.2 ++ []))) hS hfz hfk => ?_)
  · obtain ⟨kx_3557, W2_3558⟩ := u_
    obtain ⟨hq_3559, hq_3560, hq_3561⟩ : (q_end (dC S)).1 = kx_3557 ∧ DyW G d S W2_3558 ∧ 1 ≤ kx_3557 ∧ kx_3557 ≤ 1 := hq
    have hpm_3562 : ([(o, .inl (G.2 5, 1, .inr (.inl of)))] ++ (W2_3558 ++ []) : va_W).Perm ([(o, .inl (G.2 5, 1, .inr (.inl of)))] ++ (W2_3558 ++ [])) := segs_perm2 [[(o, .inl (G.2 5, 1, .inr (.inl of)))]] [W2_3558] [0, 1] rfl
    have hP : va_P G.1 CL ([(o, .inl (G.2 5, 1, .inr (.inl of)))] ++ (W2_3558 ++ [])) H := P_perm hpm_3562 hP
    have hD : va_D A ([(o, .inl (G.2 5, 1, .inr (.inl of)))] ++ (W2_3558 ++ [])) := D_perm hpm_3562 hD
    obtain rfl : kx_3557 = 1 := by omega
    have hcl9 : s.vm.findClass eN = some ce.cls := hcl
    refine vx_catch (name := eN) (E := eN) hown [] (⟨0, 8, 11, 24⟩ : ExceptionTableEntry) [] (by rw [htab]; rfl) (fun z hz => absurd hz List.not_mem_nil) (by decide) (by decide) (hts _ q1013) (va_Nw.use rfl (hKB.nest q334 rfl)) hce hcv hcl9 ?_
    refine W.eq (g2 := F0 m 11 ls [.ref q9]) rfl ?_
    refine lv_astore_n (lv' := [(2, .ref q9), (0, .ref d), (1, .ref o)]) hx hb dX0_planEnd_11 rfl hl (by decide) rfl (fun ls hl => ?_)
    refine lv_iconst (v := nI 1) hx hb dX0_planEnd_12 (by decide) ?_
    refine vx_ret ?_
    have hpm_3563 : (([(o, .inl (G.2 5, 1, .inr (.inl of)))] ++ (W2_3558 ++ [])) : va_W).Perm (([(o, .inl (G.2 5, 1, .inr (.inl of)))] ++ (W2_3558 ++ [])) ++ []) := segs_perm [[(o, .inl (G.2 5, 1, .inr (.inl of)))], W2_3558] [0, 1] [] rfl
    have hP9 : va_P G.1 CL ([(o, .inl (G.2 5, 1, .inr (.inl of)))] ++ (W2_3558 ++ [])) H := P_left (P_perm hpm_3563 hP)
    have hD9 : va_D A ([(o, .inl (G.2 5, 1, .inr (.inl of)))] ++ (W2_3558 ++ [])) := D_left (D_perm hpm_3563 hD)
    exact end_i hx hb hr hlk (rfl) (qc_of (of, W2_3558) (v := some (.int (nI 1))) (by rw [hq_3559]) (⟨fun z9 => absurd (hq_3559.symm.trans z9) (by decide), by rw [hq_3559]; decide, hq_3560⟩) hP9 hD9 (trivial) hS) hS dX0_planEnd_13 (show 0 + 8300 ≤ 8300 from by first | exact Nat.le_refl _ | decide | omega) (show 0 + 17000 ≤ 17000 from by first | exact Nat.le_refl _ | decide | omega)
  · obtain ⟨rr_3555, W2_3556⟩ := u_
    obtain ⟨hq_3564, hq_3565⟩ : q_end (dC S) = (0, rr_3555) ∧ DyW G d S W2_3556 := hq
    have hpm_3566 : ([(o, .inl (G.2 5, 1, .inr (.inl of)))] ++ (W2_3556 ++ []) : va_W).Perm ([(o, .inl (G.2 5, 1, .inr (.inl of)))] ++ (W2_3556 ++ [])) := segs_perm2 [[(o, .inl (G.2 5, 1, .inr (.inl of)))]] [W2_3556] [0, 1] rfl
    have hP : va_P G.1 CL ([(o, .inl (G.2 5, 1, .inr (.inl of)))] ++ (W2_3556 ++ [])) H := P_perm hpm_3566 hP
    have hD : va_D A ([(o, .inl (G.2 5, 1, .inr (.inl of)))] ++ (W2_3556 ++ [])) := D_perm hpm_3566 hD
    refine W.eq (g2 := F0 m 6 ls [.int rr_3555, .int (nI 0), .ref o]) rfl ?_
    refine lv_i2l (v := (rr_3555).toInt64) hx hb dX0_planEnd_6 rfl ?_
    refine r_last hx hb hK hP hD hS 0 5 rfl rfl (i := 0) (by omega) (by omega) dX0_planEnd_7 (fun H locs (hP : va_P G.1 CL ([(o, .inl (G.2 5, 1, .inr (.inl (vp_updL of 0 ((rr_3555).toInt64)))))] ++ (W2_3556 ++ [])) H) (hD : va_D A ([(o, .inl (G.2 5, 1, .inr (.inl (vp_updL of 0 ((rr_3555).toInt64)))))] ++ (W2_3556 ++ []))) hS => ?_)
    refine lv_goto (tgt := 14) hx hb dX0_planEnd_8 (by decide) ?_
    refine lv_iconst (v := nI 0) hx hb dX0_planEnd_14 (by decide) ?_
    refine vx_ret ?_
    have hpm_3567 : (([(o, .inl (G.2 5, 1, .inr (.inl (vp_updL of 0 ((rr_3555).toInt64)))))] ++ (W2_3556 ++ [])) : va_W).Perm (([(o, .inl (G.2 5, 1, .inr (.inl (vp_updL of 0 ((rr_3555).toInt64)))))] ++ (W2_3556 ++ [])) ++ []) := segs_perm [[(o, .inl (G.2 5, 1, .inr (.inl (vp_updL of 0 ((rr_3555).toInt64)))))], W2_3556] [0, 1] [] rfl
    have hP9 : va_P G.1 CL ([(o, .inl (G.2 5, 1, .inr (.inl (vp_updL of 0 ((rr_3555).toInt64)))))] ++ (W2_3556 ++ [])) H := P_left (P_perm hpm_3567 hP)
    have hD9 : va_D A ([(o, .inl (G.2 5, 1, .inr (.inl (vp_updL of 0 ((rr_3555).toInt64)))))] ++ (W2_3556 ++ [])) := D_left (D_perm hpm_3567 hD)
    exact end_i hx hb hr hlk (rfl) (qc_of (vp_updL of 0 ((rr_3555).toInt64), W2_3556) (v := some (.int (nI 0))) (by rw [hq_3564]) (⟨fun _ => by rw [hq_3564]; exact pk_uLs, by rw [hq_3564]; exact (by decide : (0 : Nat) < 10), hq_3565⟩) hP9 hD9 (trivial) hS) hS dX0_planEnd_15 (show 0 + 8300 ≤ 8300 from by first | exact Nat.le_refl _ | decide | omega) (show 0 + 17000 ≤ 17000 from by first | exact Nat.le_refl _ | decide | omega)

set_option maxHeartbeats 4000000 in
theorem wX0_pass (l : Launch) (G : Gt) (d : Nat) (S : DS) (WA : va_W) (o : Nat) (of : Nat → Int64) (v : Int32) (h : DyW G d S WA) (hfl : l.stackTraces = false) : CTW l G yX0_pass cX0_pass 4 (some .int) [(0, 9, 12, 13), (0, 9, 15, 15)] ({ frames := 10, cells := 1 + 101, slots := 6 + 5800, locals := 232 } : Room) [.ref d, .int v, .ref o] ([(o, .inl (G.2 5, 1, .inr (.inl of)))] ++ (WA ++ [])) RH0 (S := (Nat → Int64) × DS × va_W) (fun (u_ : (Nat → Int64) × DS × va_W) => some (.int (nI ((o_pass (dC S) v).1)))) (fun (u_ : (Nat → Int64) × DS × va_W) => ((o_pass (dC S) v).1 = 0 → u_.1 0 = ((o_pass (dC S) v).2.1).toInt64) ∧ NxS S (o_pass (dC S) v) u_.2.1 ∧ (o_pass (dC S) v).1 < 10 ∧ DyW G d u_.2.1 u_.2.2) (fun (u_ : (Nat → Int64) × DS × va_W) => ([(o, .inl (G.2 5, 1, .inr (.inl u_.1)))] ++ (u_.2.2 ++ []))) (fun (u_ : (Nat → Int64) × DS × va_W) (H : Heap) => True) := by
  refine CTW.of (by decide) (Nat.le_of_ble_eq_true rfl) ?_
  intro p e s m below meth c ls A H locs h9 hH0 hP hS hNc htab
  obtain ⟨cf, hr, hlk, hnm, hKB, hE, -, hD, -, hA, hAw, hRH, hl⟩ := h9
  have hx := cf.1
  have hb := cf.2.1
  have hml := cf.2.2.1
  have hown : s.vm.findClass RX0 = some m.cls := cf.2.2.2.1
  have hts := cf.2.2.2.2
  have hK := hKB.1
  have hl : lv_has ls 4 [(0, .ref d), (1, .int v), (2, .ref o)] := hl
  refine lv_aload_n hx hb dX0_pass_0 rfl (lv_at hl 2 rfl) ?_
  refine lv_iconst (v := nI 0) hx hb dX0_pass_1 (by decide) ?_
  refine lv_aload_n hx hb dX0_pass_2 rfl (lv_at hl 0 rfl) ?_
  refine lv_iload_n hx hb dX0_pass_3 rfl (lv_at hl 1 rfl) ?_
  have hpm_3568 : (([(o, .inl (G.2 5, 1, .inr (.inl of)))] ++ (WA ++ [])) : va_W).Perm ((WA ++ []) ++ [(o, .inl (G.2 5, 1, .inr (.inl of)))]) := segs_perm [[(o, .inl (G.2 5, 1, .inr (.inl of)))], WA] [1] [0] rfl
  have hF := hF_ofP (wc := (WA ++ [])) hD hS hA hpm_3568
  refine go_cxP hS hP hD hpm_3568 hF
      (vx_runV (As := [.int v]) (rest := [.int (nI 0), .ref o]) cf (dX1_pass l G d S WA v (show DyW G d S WA from by first | assumption | omega) hfl H.size) (cwV 1 hts (lw_V q682 q683 q684 q47 q685) rfl rfl rfl (by decide +kernel) ⟨Nat.le_of_ble_eq_true rfl, Nat.le_of_ble_eq_true rfl⟩) (preV_of hKB hE hS hF (DyW.recv hK h (seg_at [[(o, .inl (G.2 5, 1, .inr (.inl of)))], WA] 1 rfl hP)) (P_left (P_perm hpm_3568 hP)) ((D_left (D_perm hpm_3568 hD)).weaken (fun _ _ _ _ => trivial)) trivial) rfl rfl hl.1 rfl (lv_room (Nat.le_of_ble_eq_true rfl)) dX0_pass_4 ⟨show 0 + (1 + 101) ≤ 1 + 101 from by first | decide | omega, show 0 + (6 + 5800) ≤ 6 + 5800 from by first | decide | omega⟩)
      (fun u_ H locs ce q9 hq hph (hP : va_P G.1 CL ([(o, .inl (G.2 5, 1, .inr (.inl of)))] ++ (WA ++ [])) H) (hD : va_D A ([(o, .inl (G.2 5, 1, .inr (.inl of)))] ++ (WA ++ []))) hS hfz hfk hce hcv hcl => ?_) (fun u_ H locs hq hph (hP : va_P G.1 CL ([(o, .inl (G.2 5, 1, .inr (.inl of)))] ++ (u_.2.2 ++ [])) H) (hD : va_D A ([(o, .inl (G.2 5, 1, .inr (.inl of)))] ++ (u_.2.2 ++ []))) hS hfz hfk => ?_)
  · obtain ⟨kx_3572, rfl⟩ : ∃ z, z = u_ := ⟨_, rfl⟩
    obtain ⟨hq_3573, hq_3574⟩ : (o_pass (dC S) v).1 = kx_3572 ∧ 1 ≤ kx_3572 ∧ kx_3572 ≤ 2 := hq
    have hpm_3575 : ([(o, .inl (G.2 5, 1, .inr (.inl of)))] ++ (WA ++ []) : va_W).Perm ([(o, .inl (G.2 5, 1, .inr (.inl of)))] ++ (WA ++ [])) := segs_perm2 [[(o, .inl (G.2 5, 1, .inr (.inl of)))]] [WA] [0, 1] rfl
    have hP : va_P G.1 CL ([(o, .inl (G.2 5, 1, .inr (.inl of)))] ++ (WA ++ [])) H := P_perm hpm_3575 hP
    have hD : va_D A ([(o, .inl (G.2 5, 1, .inr (.inl of)))] ++ (WA ++ [])) := D_perm hpm_3575 hD
    rcases (show kx_3572 = 1 ∨ kx_3572 = 2 by omega) with rfl | rfl
    · have hcl9 : s.vm.findClass eA = some ce.cls := hcl
      refine vx_catch (name := eA) (E := eA) hown [] (⟨0, 9, 12, 13⟩ : ExceptionTableEntry) [(⟨0, 9, 15, 15⟩ : ExceptionTableEntry)] (by rw [htab]; rfl) (fun z hz => absurd hz List.not_mem_nil) (by decide) (by decide) (hts _ q680) (va_Nw.use rfl (hKB.nest q698 rfl)) hce hcv hcl9 ?_
      refine W.eq (g2 := F0 m 12 ls [.ref q9]) rfl ?_
      refine lv_astore_n (lv' := [(3, .ref q9), (0, .ref d), (1, .int v), (2, .ref o)]) hx hb dX0_pass_12 rfl hl (by decide) rfl (fun ls hl => ?_)
      refine lv_iconst (v := nI 1) hx hb dX0_pass_13 (by decide) ?_
      refine vx_ret ?_
      have hpm_3576 : (([(o, .inl (G.2 5, 1, .inr (.inl of)))] ++ (WA ++ [])) : va_W).Perm (([(o, .inl (G.2 5, 1, .inr (.inl of)))] ++ (WA ++ [])) ++ []) := segs_perm [[(o, .inl (G.2 5, 1, .inr (.inl of)))], WA] [0, 1] [] rfl
      have hP9 : va_P G.1 CL ([(o, .inl (G.2 5, 1, .inr (.inl of)))] ++ (WA ++ [])) H := P_left (P_perm hpm_3576 hP)
      have hD9 : va_D A ([(o, .inl (G.2 5, 1, .inr (.inl of)))] ++ (WA ++ [])) := D_left (D_perm hpm_3576 hD)
      exact end_i hx hb hr hlk (rfl) (qc_of (of, S, WA) (v := some (.int (nI 1))) (by rw [hq_3573]) (⟨fun z9 => absurd (hq_3573.symm.trans z9) (by decide), NxS.no (fun z9 => absurd (hq_3573.symm.trans z9) (by decide)), by rw [hq_3573]; decide, h⟩) hP9 hD9 (trivial) hS) hS dX0_pass_14 (show 0 + (1 + 101) ≤ 1 + 101 from by first | exact Nat.le_refl _ | decide | omega) (show 0 + (6 + 5800) ≤ 6 + 5800 from by first | exact Nat.le_refl _ | decide | omega)
    · have hcl9 : s.vm.findClass eS9 = some ce.cls := hcl
      refine vx_catch (name := eS9) (E := eS9) hown [(⟨0, 9, 12, 13⟩ : ExceptionTableEntry)] (⟨0, 9, 15, 15⟩ : ExceptionTableEntry) [] (by rw [htab]; rfl) (fun z hz => by rcases List.mem_singleton.mp hz with rfl; exact Or.inr ⟨by decide, _, hts _ q680, hNc _ (List.mem_of_getElem? (i := 0) rfl)⟩) (by decide) (by decide) (hts _ q681) (va_Nw.use rfl (hKB.nest q577 rfl)) hce hcv hcl9 ?_
      refine W.eq (g2 := F0 m 15 ls [.ref q9]) rfl ?_
      refine lv_astore_n (lv' := [(3, .ref q9), (0, .ref d), (1, .int v), (2, .ref o)]) hx hb dX0_pass_15 rfl hl (by decide) rfl (fun ls hl => ?_)
      refine lv_iconst (v := nI 2) hx hb dX0_pass_16 (by decide) ?_
      refine vx_ret ?_
      have hpm_3577 : (([(o, .inl (G.2 5, 1, .inr (.inl of)))] ++ (WA ++ [])) : va_W).Perm (([(o, .inl (G.2 5, 1, .inr (.inl of)))] ++ (WA ++ [])) ++ []) := segs_perm [[(o, .inl (G.2 5, 1, .inr (.inl of)))], WA] [0, 1] [] rfl
      have hP9 : va_P G.1 CL ([(o, .inl (G.2 5, 1, .inr (.inl of)))] ++ (WA ++ [])) H := P_left (P_perm hpm_3577 hP)
      have hD9 : va_D A ([(o, .inl (G.2 5, 1, .inr (.inl of)))] ++ (WA ++ [])) := D_left (D_perm hpm_3577 hD)
      exact end_i hx hb hr hlk (rfl) (qc_of (of, S, WA) (v := some (.int (nI 2))) (by rw [hq_3573]) (⟨fun z9 => absurd (hq_3573.symm.trans z9) (by decide), NxS.no (fun z9 => absurd (hq_3573.symm.trans z9) (by decide)), by rw [hq_3573]; decide, h⟩) hP9 hD9 (trivial) hS) hS dX0_pass_17 (show 0 + (1 + 101) ≤ 1 + 101 from by first | exact Nat.le_refl _ | decide | omega) (show 0 + (6 + 5800) ≤ 6 + 5800 from by first | exact Nat.le_refl _ | decide | omega)
  · obtain ⟨rr_3569, B2_3570, W2_3571⟩ := u_
    obtain ⟨hq_3578, hq_3579, hq_3580, hq_3581⟩ : (o_pass (dC S) v).1 = 0 ∧ rr_3569 = (o_pass (dC S) v).2.1 ∧ Sim (o_pass (dC S) v).2.2 B2_3570 ∧ DyW G d ((B2_3570, dS S, min 6 (dK S + 1), hsR (dH S) (dK S) (dC S), dL S, dN S) : DS) W2_3571 := hq
    have hpm_3582 : ([(o, .inl (G.2 5, 1, .inr (.inl of)))] ++ (W2_3571 ++ []) : va_W).Perm ([(o, .inl (G.2 5, 1, .inr (.inl of)))] ++ (W2_3571 ++ [])) := segs_perm2 [[(o, .inl (G.2 5, 1, .inr (.inl of)))]] [W2_3571] [0, 1] rfl
    have hP : va_P G.1 CL ([(o, .inl (G.2 5, 1, .inr (.inl of)))] ++ (W2_3571 ++ [])) H := P_perm hpm_3582 hP
    have hD : va_D A ([(o, .inl (G.2 5, 1, .inr (.inl of)))] ++ (W2_3571 ++ [])) := D_perm hpm_3582 hD
    refine W.eq (g2 := F0 m 7 ls [.int rr_3569, .int (nI 0), .ref o]) rfl ?_
    refine lv_i2l (v := (rr_3569).toInt64) hx hb dX0_pass_7 rfl ?_
    refine r_last hx hb hK hP hD hS 0 5 rfl rfl (i := 0) (by omega) (by omega) dX0_pass_8 (fun H locs (hP : va_P G.1 CL ([(o, .inl (G.2 5, 1, .inr (.inl (vp_updL of 0 ((rr_3569).toInt64)))))] ++ (W2_3571 ++ [])) H) (hD : va_D A ([(o, .inl (G.2 5, 1, .inr (.inl (vp_updL of 0 ((rr_3569).toInt64)))))] ++ (W2_3571 ++ []))) hS => ?_)
    refine lv_goto (tgt := 18) hx hb dX0_pass_9 (by decide) ?_
    refine lv_iconst (v := nI 0) hx hb dX0_pass_18 (by decide) ?_
    refine vx_ret ?_
    have hpm_3583 : (([(o, .inl (G.2 5, 1, .inr (.inl (vp_updL of 0 ((rr_3569).toInt64)))))] ++ (W2_3571 ++ [])) : va_W).Perm (([(o, .inl (G.2 5, 1, .inr (.inl (vp_updL of 0 ((rr_3569).toInt64)))))] ++ (W2_3571 ++ [])) ++ []) := segs_perm [[(o, .inl (G.2 5, 1, .inr (.inl (vp_updL of 0 ((rr_3569).toInt64)))))], W2_3571] [0, 1] [] rfl
    have hP9 : va_P G.1 CL ([(o, .inl (G.2 5, 1, .inr (.inl (vp_updL of 0 ((rr_3569).toInt64)))))] ++ (W2_3571 ++ [])) H := P_left (P_perm hpm_3583 hP)
    have hD9 : va_D A ([(o, .inl (G.2 5, 1, .inr (.inl (vp_updL of 0 ((rr_3569).toInt64)))))] ++ (W2_3571 ++ [])) := D_left (D_perm hpm_3583 hD)
    exact end_i hx hb hr hlk (rfl) (qc_of (vp_updL of 0 ((rr_3569).toInt64), ((B2_3570, dS S, min 6 (dK S + 1), hsR (dH S) (dK S) (dC S), dL S, dN S) : DS), W2_3571) (v := some (.int (nI 0))) (by rw [hq_3578]) (⟨fun _ => by rw [← hq_3579]; exact pk_uLs, NxS.yes hq_3578 hq_3580, by rw [hq_3578]; decide, hq_3581⟩) hP9 hD9 (trivial) hS) hS dX0_pass_19 (show 0 + (1 + 101) ≤ 1 + 101 from by first | exact Nat.le_refl _ | decide | omega) (show 0 + (6 + 5800) ≤ 6 + 5800 from by first | exact Nat.le_refl _ | decide | omega)

set_option maxHeartbeats 4000000 in
theorem wX0_addTest (l : Launch) (G : Gt) (d : Nat) (S : DS) (WA : va_W) (o : Nat) (of : Nat → Int64) (v : Int32) (w : Int32) (h : DyW G d S WA) (hfl : l.stackTraces = false) : CTW l G yX0_addTest cX0_addTest 5 (some .int) [(0, 10, 13, 13), (0, 10, 17, 15)] ({ frames := 11, cells := 95 + 101, slots := 300 + 5800, locals := 235 } : Room) [.ref d, .int v, .int w, .ref o] ([(o, .inl (G.2 5, 1, .inr (.inl of)))] ++ (WA ++ [])) RH0 (S := (Nat → Int64) × DS × va_W) (fun (u_ : (Nat → Int64) × DS × va_W) => some (.int (nI ((o_addTest (dC S) v w).1)))) (fun (u_ : (Nat → Int64) × DS × va_W) => ((o_addTest (dC S) v w).1 = 0 → u_.1 0 = ((o_addTest (dC S) v w).2.1).toInt64) ∧ NxS S (o_addTest (dC S) v w) u_.2.1 ∧ (o_addTest (dC S) v w).1 < 10 ∧ DyW G d u_.2.1 u_.2.2) (fun (u_ : (Nat → Int64) × DS × va_W) => ([(o, .inl (G.2 5, 1, .inr (.inl u_.1)))] ++ (u_.2.2 ++ []))) (fun (u_ : (Nat → Int64) × DS × va_W) (H : Heap) => True) := by
  refine CTW.of (by decide) (Nat.le_of_ble_eq_true rfl) ?_
  intro p e s m below meth c ls A H locs h9 hH0 hP hS hNc htab
  obtain ⟨cf, hr, hlk, hnm, hKB, hE, -, hD, -, hA, hAw, hRH, hl⟩ := h9
  have hx := cf.1
  have hb := cf.2.1
  have hml := cf.2.2.1
  have hown : s.vm.findClass RX0 = some m.cls := cf.2.2.2.1
  have hts := cf.2.2.2.2
  have hK := hKB.1
  have hl : lv_has ls 5 [(0, .ref d), (1, .int v), (2, .int w), (3, .ref o)] := hl
  refine lv_aload_n hx hb dX0_addTest_0 rfl (lv_at hl 3 rfl) ?_
  refine lv_iconst (v := nI 0) hx hb dX0_addTest_1 (by decide) ?_
  refine lv_aload_n hx hb dX0_addTest_2 rfl (lv_at hl 0 rfl) ?_
  refine lv_iload_n hx hb dX0_addTest_3 rfl (lv_at hl 1 rfl) ?_
  refine lv_iload_n hx hb dX0_addTest_4 rfl (lv_at hl 2 rfl) ?_
  have hpm_3584 : (([(o, .inl (G.2 5, 1, .inr (.inl of)))] ++ (WA ++ [])) : va_W).Perm ((WA ++ []) ++ [(o, .inl (G.2 5, 1, .inr (.inl of)))]) := segs_perm [[(o, .inl (G.2 5, 1, .inr (.inl of)))], WA] [1] [0] rfl
  have hF := hF_ofP (wc := (WA ++ [])) hD hS hA hpm_3584
  refine go_cxP hS hP hD hpm_3584 hF
      (vx_runV (As := [.int v, .int w]) (rest := [.int (nI 0), .ref o]) cf (dX1_addTest l G d S WA v w (show DyW G d S WA from by first | assumption | omega) hfl H.size) (cwV 2 hts (lw_V q721 q722 q723 q47 q724) rfl rfl rfl (by decide +kernel) ⟨Nat.le_of_ble_eq_true rfl, Nat.le_of_ble_eq_true rfl⟩) (preV_of hKB hE hS hF (DyW.recv hK h (seg_at [[(o, .inl (G.2 5, 1, .inr (.inl of)))], WA] 1 rfl hP)) (P_left (P_perm hpm_3584 hP)) ((D_left (D_perm hpm_3584 hD)).weaken (fun _ _ _ _ => trivial)) trivial) rfl rfl hl.1 rfl (lv_room (Nat.le_of_ble_eq_true rfl)) dX0_addTest_5 ⟨show 0 + (95 + 101) ≤ 95 + 101 from by first | decide | omega, show 0 + (300 + 5800) ≤ 300 + 5800 from by first | decide | omega⟩)
      (fun u_ H locs ce q9 hq hph (hP : va_P G.1 CL ([(o, .inl (G.2 5, 1, .inr (.inl of)))] ++ (WA ++ [])) H) (hD : va_D A ([(o, .inl (G.2 5, 1, .inr (.inl of)))] ++ (WA ++ []))) hS hfz hfk hce hcv hcl => ?_) (fun u_ H locs hq hph (hP : va_P G.1 CL ([(o, .inl (G.2 5, 1, .inr (.inl of)))] ++ (u_.2.2 ++ [])) H) (hD : va_D A ([(o, .inl (G.2 5, 1, .inr (.inl of)))] ++ (u_.2.2 ++ []))) hS hfz hfk => ?_)
  · obtain ⟨kx_3588, rfl⟩ : ∃ z, z = u_ := ⟨_, rfl⟩
    obtain ⟨hq_3589, hq_3590⟩ : (o_addTest (dC S) v w).1 = kx_3588 ∧ 1 ≤ kx_3588 ∧ kx_3588 ≤ 2 := hq
    have hpm_3591 : ([(o, .inl (G.2 5, 1, .inr (.inl of)))] ++ (WA ++ []) : va_W).Perm ([(o, .inl (G.2 5, 1, .inr (.inl of)))] ++ (WA ++ [])) := segs_perm2 [[(o, .inl (G.2 5, 1, .inr (.inl of)))]] [WA] [0, 1] rfl
    have hP : va_P G.1 CL ([(o, .inl (G.2 5, 1, .inr (.inl of)))] ++ (WA ++ [])) H := P_perm hpm_3591 hP
    have hD : va_D A ([(o, .inl (G.2 5, 1, .inr (.inl of)))] ++ (WA ++ [])) := D_perm hpm_3591 hD
    rcases (show kx_3588 = 1 ∨ kx_3588 = 2 by omega) with rfl | rfl
    · have hcl9 : s.vm.findClass eA = some ce.cls := hcl
      refine vx_catch (name := eA) (E := eA) hown [] (⟨0, 10, 13, 13⟩ : ExceptionTableEntry) [(⟨0, 10, 17, 15⟩ : ExceptionTableEntry)] (by rw [htab]; rfl) (fun z hz => absurd hz List.not_mem_nil) (by decide) (by decide) (hts _ q680) (va_Nw.use rfl (hKB.nest q698 rfl)) hce hcv hcl9 ?_
      refine W.eq (g2 := F0 m 13 ls [.ref q9]) rfl ?_
      refine lv_astore (lv' := [(4, .ref q9), (0, .ref d), (1, .int v), (2, .int w), (3, .ref o)]) hx hb dX0_addTest_13 hl (by decide) rfl (fun ls hl => ?_)
      refine lv_iconst (v := nI 1) hx hb dX0_addTest_15 (by decide) ?_
      refine vx_ret ?_
      have hpm_3592 : (([(o, .inl (G.2 5, 1, .inr (.inl of)))] ++ (WA ++ [])) : va_W).Perm (([(o, .inl (G.2 5, 1, .inr (.inl of)))] ++ (WA ++ [])) ++ []) := segs_perm [[(o, .inl (G.2 5, 1, .inr (.inl of)))], WA] [0, 1] [] rfl
      have hP9 : va_P G.1 CL ([(o, .inl (G.2 5, 1, .inr (.inl of)))] ++ (WA ++ [])) H := P_left (P_perm hpm_3592 hP)
      have hD9 : va_D A ([(o, .inl (G.2 5, 1, .inr (.inl of)))] ++ (WA ++ [])) := D_left (D_perm hpm_3592 hD)
      exact end_i hx hb hr hlk (rfl) (qc_of (of, S, WA) (v := some (.int (nI 1))) (by rw [hq_3589]) (⟨fun z9 => absurd (hq_3589.symm.trans z9) (by decide), NxS.no (fun z9 => absurd (hq_3589.symm.trans z9) (by decide)), by rw [hq_3589]; decide, h⟩) hP9 hD9 (trivial) hS) hS dX0_addTest_16 (show 0 + (95 + 101) ≤ 95 + 101 from by first | exact Nat.le_refl _ | decide | omega) (show 0 + (300 + 5800) ≤ 300 + 5800 from by first | exact Nat.le_refl _ | decide | omega)
    · have hcl9 : s.vm.findClass eS9 = some ce.cls := hcl
      refine vx_catch (name := eS9) (E := eS9) hown [(⟨0, 10, 13, 13⟩ : ExceptionTableEntry)] (⟨0, 10, 17, 15⟩ : ExceptionTableEntry) [] (by rw [htab]; rfl) (fun z hz => by rcases List.mem_singleton.mp hz with rfl; exact Or.inr ⟨by decide, _, hts _ q680, hNc _ (List.mem_of_getElem? (i := 0) rfl)⟩) (by decide) (by decide) (hts _ q681) (va_Nw.use rfl (hKB.nest q577 rfl)) hce hcv hcl9 ?_
      refine W.eq (g2 := F0 m 17 ls [.ref q9]) rfl ?_
      refine lv_astore (lv' := [(4, .ref q9), (0, .ref d), (1, .int v), (2, .int w), (3, .ref o)]) hx hb dX0_addTest_17 hl (by decide) rfl (fun ls hl => ?_)
      refine lv_iconst (v := nI 2) hx hb dX0_addTest_19 (by decide) ?_
      refine vx_ret ?_
      have hpm_3593 : (([(o, .inl (G.2 5, 1, .inr (.inl of)))] ++ (WA ++ [])) : va_W).Perm (([(o, .inl (G.2 5, 1, .inr (.inl of)))] ++ (WA ++ [])) ++ []) := segs_perm [[(o, .inl (G.2 5, 1, .inr (.inl of)))], WA] [0, 1] [] rfl
      have hP9 : va_P G.1 CL ([(o, .inl (G.2 5, 1, .inr (.inl of)))] ++ (WA ++ [])) H := P_left (P_perm hpm_3593 hP)
      have hD9 : va_D A ([(o, .inl (G.2 5, 1, .inr (.inl of)))] ++ (WA ++ [])) := D_left (D_perm hpm_3593 hD)
      exact end_i hx hb hr hlk (rfl) (qc_of (of, S, WA) (v := some (.int (nI 2))) (by rw [hq_3589]) (⟨fun z9 => absurd (hq_3589.symm.trans z9) (by decide), NxS.no (fun z9 => absurd (hq_3589.symm.trans z9) (by decide)), by rw [hq_3589]; decide, h⟩) hP9 hD9 (trivial) hS) hS dX0_addTest_20 (show 0 + (95 + 101) ≤ 95 + 101 from by first | exact Nat.le_refl _ | decide | omega) (show 0 + (300 + 5800) ≤ 300 + 5800 from by first | exact Nat.le_refl _ | decide | omega)
  · obtain ⟨rr_3585, B2_3586, W2_3587⟩ := u_
    obtain ⟨hq_3594, hq_3595, hq_3596, hq_3597⟩ : (o_addTest (dC S) v w).1 = 0 ∧ rr_3585 = (o_addTest (dC S) v w).2.1 ∧ Sim (o_addTest (dC S) v w).2.2 B2_3586 ∧ DyW G d ((B2_3586, dS S, min 6 (dK S + 1), hsR (dH S) (dK S) (dC S), dL S, dN S) : DS) W2_3587 := hq
    have hpm_3598 : ([(o, .inl (G.2 5, 1, .inr (.inl of)))] ++ (W2_3587 ++ []) : va_W).Perm ([(o, .inl (G.2 5, 1, .inr (.inl of)))] ++ (W2_3587 ++ [])) := segs_perm2 [[(o, .inl (G.2 5, 1, .inr (.inl of)))]] [W2_3587] [0, 1] rfl
    have hP : va_P G.1 CL ([(o, .inl (G.2 5, 1, .inr (.inl of)))] ++ (W2_3587 ++ [])) H := P_perm hpm_3598 hP
    have hD : va_D A ([(o, .inl (G.2 5, 1, .inr (.inl of)))] ++ (W2_3587 ++ [])) := D_perm hpm_3598 hD
    refine W.eq (g2 := F0 m 8 ls [.int rr_3585, .int (nI 0), .ref o]) rfl ?_
    refine lv_i2l (v := (rr_3585).toInt64) hx hb dX0_addTest_8 rfl ?_
    refine r_last hx hb hK hP hD hS 0 5 rfl rfl (i := 0) (by omega) (by omega) dX0_addTest_9 (fun H locs (hP : va_P G.1 CL ([(o, .inl (G.2 5, 1, .inr (.inl (vp_updL of 0 ((rr_3585).toInt64)))))] ++ (W2_3587 ++ [])) H) (hD : va_D A ([(o, .inl (G.2 5, 1, .inr (.inl (vp_updL of 0 ((rr_3585).toInt64)))))] ++ (W2_3587 ++ []))) hS => ?_)
    refine lv_goto (tgt := 21) hx hb dX0_addTest_10 (by decide) ?_
    refine lv_iconst (v := nI 0) hx hb dX0_addTest_21 (by decide) ?_
    refine vx_ret ?_
    have hpm_3599 : (([(o, .inl (G.2 5, 1, .inr (.inl (vp_updL of 0 ((rr_3585).toInt64)))))] ++ (W2_3587 ++ [])) : va_W).Perm (([(o, .inl (G.2 5, 1, .inr (.inl (vp_updL of 0 ((rr_3585).toInt64)))))] ++ (W2_3587 ++ [])) ++ []) := segs_perm [[(o, .inl (G.2 5, 1, .inr (.inl (vp_updL of 0 ((rr_3585).toInt64)))))], W2_3587] [0, 1] [] rfl
    have hP9 : va_P G.1 CL ([(o, .inl (G.2 5, 1, .inr (.inl (vp_updL of 0 ((rr_3585).toInt64)))))] ++ (W2_3587 ++ [])) H := P_left (P_perm hpm_3599 hP)
    have hD9 : va_D A ([(o, .inl (G.2 5, 1, .inr (.inl (vp_updL of 0 ((rr_3585).toInt64)))))] ++ (W2_3587 ++ [])) := D_left (D_perm hpm_3599 hD)
    exact end_i hx hb hr hlk (rfl) (qc_of (vp_updL of 0 ((rr_3585).toInt64), ((B2_3586, dS S, min 6 (dK S + 1), hsR (dH S) (dK S) (dC S), dL S, dN S) : DS), W2_3587) (v := some (.int (nI 0))) (by rw [hq_3594]) (⟨fun _ => by rw [← hq_3595]; exact pk_uLs, NxS.yes hq_3594 hq_3596, by rw [hq_3594]; decide, hq_3597⟩) hP9 hD9 (trivial) hS) hS dX0_addTest_22 (show 0 + (95 + 101) ≤ 95 + 101 from by first | exact Nat.le_refl _ | decide | omega) (show 0 + (300 + 5800) ≤ 300 + 5800 from by first | exact Nat.le_refl _ | decide | omega)

set_option maxHeartbeats 4000000 in
theorem wX0_removeTest (l : Launch) (G : Gt) (d : Nat) (S : DS) (WA : va_W) (o : Nat) (of : Nat → Int64) (v : Int32) (h : DyW G d S WA) (hfl : l.stackTraces = false) : CTW l G yX0_removeTest cX0_removeTest 4 (some .int) [(0, 9, 12, 24)] ({ frames := 10, cells := 3 + 101, slots := 12 + 5800, locals := 232 } : Room) [.ref d, .int v, .ref o] ([(o, .inl (G.2 5, 1, .inr (.inl of)))] ++ (WA ++ [])) RH0 (S := (Nat → Int64) × DS × va_W) (fun (u_ : (Nat → Int64) × DS × va_W) => some (.int (nI ((o_remTest (dC S) v).1)))) (fun (u_ : (Nat → Int64) × DS × va_W) => ((o_remTest (dC S) v).1 = 0 → u_.1 0 = ((o_remTest (dC S) v).2.1).toInt64) ∧ NxS S (o_remTest (dC S) v) u_.2.1 ∧ (o_remTest (dC S) v).1 < 10 ∧ DyW G d u_.2.1 u_.2.2) (fun (u_ : (Nat → Int64) × DS × va_W) => ([(o, .inl (G.2 5, 1, .inr (.inl u_.1)))] ++ (u_.2.2 ++ []))) (fun (u_ : (Nat → Int64) × DS × va_W) (H : Heap) => True) := by
  refine CTW.of (by decide) (Nat.le_of_ble_eq_true rfl) ?_
  intro p e s m below meth c ls A H locs h9 hH0 hP hS hNc htab
  obtain ⟨cf, hr, hlk, hnm, hKB, hE, -, hD, -, hA, hAw, hRH, hl⟩ := h9
  have hx := cf.1
  have hb := cf.2.1
  have hml := cf.2.2.1
  have hown : s.vm.findClass RX0 = some m.cls := cf.2.2.2.1
  have hts := cf.2.2.2.2
  have hK := hKB.1
  have hl : lv_has ls 4 [(0, .ref d), (1, .int v), (2, .ref o)] := hl
  refine lv_aload_n hx hb dX0_removeTest_0 rfl (lv_at hl 2 rfl) ?_
  refine lv_iconst (v := nI 0) hx hb dX0_removeTest_1 (by decide) ?_
  refine lv_aload_n hx hb dX0_removeTest_2 rfl (lv_at hl 0 rfl) ?_
  refine lv_iload_n hx hb dX0_removeTest_3 rfl (lv_at hl 1 rfl) ?_
  have hpm_3600 : (([(o, .inl (G.2 5, 1, .inr (.inl of)))] ++ (WA ++ [])) : va_W).Perm ((WA ++ []) ++ [(o, .inl (G.2 5, 1, .inr (.inl of)))]) := segs_perm [[(o, .inl (G.2 5, 1, .inr (.inl of)))], WA] [1] [0] rfl
  have hF := hF_ofP (wc := (WA ++ [])) hD hS hA hpm_3600
  refine go_cxP hS hP hD hpm_3600 hF
      (vx_runV (As := [.int v]) (rest := [.int (nI 0), .ref o]) cf (dX1_removeTest l G d S WA v (show DyW G d S WA from by first | assumption | omega) hfl H.size) (cwV 1 hts (lw_V q1014 q1015 q1016 q47 q1017) rfl rfl rfl (by decide +kernel) ⟨Nat.le_of_ble_eq_true rfl, Nat.le_of_ble_eq_true rfl⟩) (preV_of hKB hE hS hF (DyW.recv hK h (seg_at [[(o, .inl (G.2 5, 1, .inr (.inl of)))], WA] 1 rfl hP)) (P_left (P_perm hpm_3600 hP)) ((D_left (D_perm hpm_3600 hD)).weaken (fun _ _ _ _ => trivial)) trivial) rfl rfl hl.1 rfl (lv_room (Nat.le_of_ble_eq_true rfl)) dX0_removeTest_4 ⟨show 0 + (3 + 101) ≤ 3 + 101 from by first | decide | omega, show 0 + (12 + 5800) ≤ 12 + 5800 from by first | decide | omega⟩)
      (fun u_ H locs ce q9 hq hph (hP : va_P G.1 CL ([(o, .inl (G.2 5, 1, .inr (.inl of)))] ++ (WA ++ [])) H) (hD : va_D A ([(o, .inl (G.2 5, 1, .inr (.inl of)))] ++ (WA ++ []))) hS hfz hfk hce hcv hcl => ?_) (fun u_ H locs hq hph (hP : va_P G.1 CL ([(o, .inl (G.2 5, 1, .inr (.inl of)))] ++ (u_.2.2 ++ [])) H) (hD : va_D A ([(o, .inl (G.2 5, 1, .inr (.inl of)))] ++ (u_.2.2 ++ []))) hS hfz hfk => ?_)
  · obtain ⟨kx_3604, rfl⟩ : ∃ z, z = u_ := ⟨_, rfl⟩
    obtain ⟨hq_3605, hq_3606⟩ : (o_remTest (dC S) v).1 = kx_3604 ∧ 1 ≤ kx_3604 ∧ kx_3604 ≤ 1 := hq
    have hpm_3607 : ([(o, .inl (G.2 5, 1, .inr (.inl of)))] ++ (WA ++ []) : va_W).Perm ([(o, .inl (G.2 5, 1, .inr (.inl of)))] ++ (WA ++ [])) := segs_perm2 [[(o, .inl (G.2 5, 1, .inr (.inl of)))]] [WA] [0, 1] rfl
    have hP : va_P G.1 CL ([(o, .inl (G.2 5, 1, .inr (.inl of)))] ++ (WA ++ [])) H := P_perm hpm_3607 hP
    have hD : va_D A ([(o, .inl (G.2 5, 1, .inr (.inl of)))] ++ (WA ++ [])) := D_perm hpm_3607 hD
    obtain rfl : kx_3604 = 1 := by omega
    have hcl9 : s.vm.findClass eN = some ce.cls := hcl
    refine vx_catch (name := eN) (E := eN) hown [] (⟨0, 9, 12, 24⟩ : ExceptionTableEntry) [] (by rw [htab]; rfl) (fun z hz => absurd hz List.not_mem_nil) (by decide) (by decide) (hts _ q1013) (va_Nw.use rfl (hKB.nest q334 rfl)) hce hcv hcl9 ?_
    refine W.eq (g2 := F0 m 12 ls [.ref q9]) rfl ?_
    refine lv_astore_n (lv' := [(3, .ref q9), (0, .ref d), (1, .int v), (2, .ref o)]) hx hb dX0_removeTest_12 rfl hl (by decide) rfl (fun ls hl => ?_)
    refine lv_iconst (v := nI 1) hx hb dX0_removeTest_13 (by decide) ?_
    refine vx_ret ?_
    have hpm_3608 : (([(o, .inl (G.2 5, 1, .inr (.inl of)))] ++ (WA ++ [])) : va_W).Perm (([(o, .inl (G.2 5, 1, .inr (.inl of)))] ++ (WA ++ [])) ++ []) := segs_perm [[(o, .inl (G.2 5, 1, .inr (.inl of)))], WA] [0, 1] [] rfl
    have hP9 : va_P G.1 CL ([(o, .inl (G.2 5, 1, .inr (.inl of)))] ++ (WA ++ [])) H := P_left (P_perm hpm_3608 hP)
    have hD9 : va_D A ([(o, .inl (G.2 5, 1, .inr (.inl of)))] ++ (WA ++ [])) := D_left (D_perm hpm_3608 hD)
    exact end_i hx hb hr hlk (rfl) (qc_of (of, S, WA) (v := some (.int (nI 1))) (by rw [hq_3605]) (⟨fun z9 => absurd (hq_3605.symm.trans z9) (by decide), NxS.no (fun z9 => absurd (hq_3605.symm.trans z9) (by decide)), by rw [hq_3605]; decide, h⟩) hP9 hD9 (trivial) hS) hS dX0_removeTest_14 (show 0 + (3 + 101) ≤ 3 + 101 from by first | exact Nat.le_refl _ | decide | omega) (show 0 + (12 + 5800) ≤ 12 + 5800 from by first | exact Nat.le_refl _ | decide | omega)
  · obtain ⟨rr_3601, B2_3602, W2_3603⟩ := u_
    obtain ⟨hq_3609, hq_3610, hq_3611, hq_3612⟩ : (o_remTest (dC S) v).1 = 0 ∧ rr_3601 = (o_remTest (dC S) v).2.1 ∧ Sim (o_remTest (dC S) v).2.2 B2_3602 ∧ DyW G d ((B2_3602, dS S, min 6 (dK S + 1), hsR (dH S) (dK S) (dC S), dL S, dN S) : DS) W2_3603 := hq
    have hpm_3613 : ([(o, .inl (G.2 5, 1, .inr (.inl of)))] ++ (W2_3603 ++ []) : va_W).Perm ([(o, .inl (G.2 5, 1, .inr (.inl of)))] ++ (W2_3603 ++ [])) := segs_perm2 [[(o, .inl (G.2 5, 1, .inr (.inl of)))]] [W2_3603] [0, 1] rfl
    have hP : va_P G.1 CL ([(o, .inl (G.2 5, 1, .inr (.inl of)))] ++ (W2_3603 ++ [])) H := P_perm hpm_3613 hP
    have hD : va_D A ([(o, .inl (G.2 5, 1, .inr (.inl of)))] ++ (W2_3603 ++ [])) := D_perm hpm_3613 hD
    refine W.eq (g2 := F0 m 7 ls [.int rr_3601, .int (nI 0), .ref o]) rfl ?_
    refine lv_i2l (v := (rr_3601).toInt64) hx hb dX0_removeTest_7 rfl ?_
    refine r_last hx hb hK hP hD hS 0 5 rfl rfl (i := 0) (by omega) (by omega) dX0_removeTest_8 (fun H locs (hP : va_P G.1 CL ([(o, .inl (G.2 5, 1, .inr (.inl (vp_updL of 0 ((rr_3601).toInt64)))))] ++ (W2_3603 ++ [])) H) (hD : va_D A ([(o, .inl (G.2 5, 1, .inr (.inl (vp_updL of 0 ((rr_3601).toInt64)))))] ++ (W2_3603 ++ []))) hS => ?_)
    refine lv_goto (tgt := 15) hx hb dX0_removeTest_9 (by decide) ?_
    refine lv_iconst (v := nI 0) hx hb dX0_removeTest_15 (by decide) ?_
    refine vx_ret ?_
    have hpm_3614 : (([(o, .inl (G.2 5, 1, .inr (.inl (vp_updL of 0 ((rr_3601).toInt64)))))] ++ (W2_3603 ++ [])) : va_W).Perm (([(o, .inl (G.2 5, 1, .inr (.inl (vp_updL of 0 ((rr_3601).toInt64)))))] ++ (W2_3603 ++ [])) ++ []) := segs_perm [[(o, .inl (G.2 5, 1, .inr (.inl (vp_updL of 0 ((rr_3601).toInt64)))))], W2_3603] [0, 1] [] rfl
    have hP9 : va_P G.1 CL ([(o, .inl (G.2 5, 1, .inr (.inl (vp_updL of 0 ((rr_3601).toInt64)))))] ++ (W2_3603 ++ [])) H := P_left (P_perm hpm_3614 hP)
    have hD9 : va_D A ([(o, .inl (G.2 5, 1, .inr (.inl (vp_updL of 0 ((rr_3601).toInt64)))))] ++ (W2_3603 ++ [])) := D_left (D_perm hpm_3614 hD)
    exact end_i hx hb hr hlk (rfl) (qc_of (vp_updL of 0 ((rr_3601).toInt64), ((B2_3602, dS S, min 6 (dK S + 1), hsR (dH S) (dK S) (dC S), dL S, dN S) : DS), W2_3603) (v := some (.int (nI 0))) (by rw [hq_3609]) (⟨fun _ => by rw [← hq_3610]; exact pk_uLs, NxS.yes hq_3609 hq_3611, by rw [hq_3609]; decide, hq_3612⟩) hP9 hD9 (trivial) hS) hS dX0_removeTest_16 (show 0 + (3 + 101) ≤ 3 + 101 from by first | exact Nat.le_refl _ | decide | omega) (show 0 + (12 + 5800) ≤ 12 + 5800 from by first | exact Nat.le_refl _ | decide | omega)

set_option maxHeartbeats 4000000 in
theorem wX0_setBound (l : Launch) (G : Gt) (d : Nat) (S : DS) (WA : va_W) (o : Nat) (of : Nat → Int64) (z : Int32) (w : Int32) (h : DyW G d S WA) (hfl : l.stackTraces = false) : CTW l G yX0_setBound cX0_setBound 5 (some .int) [(0, 10, 13, 13), (0, 10, 17, 15)] ({ frames := 10, cells := 1 + 101, slots := 6 + 5800, locals := 233 } : Room) [.ref d, .int z, .int w, .ref o] ([(o, .inl (G.2 5, 1, .inr (.inl of)))] ++ (WA ++ [])) RH0 (S := (Nat → Int64) × DS × va_W) (fun (u_ : (Nat → Int64) × DS × va_W) => some (.int (nI ((o_setBound (dC S) z w).1)))) (fun (u_ : (Nat → Int64) × DS × va_W) => ((o_setBound (dC S) z w).1 = 0 → u_.1 0 = ((o_setBound (dC S) z w).2.1).toInt64) ∧ NxS S (o_setBound (dC S) z w) u_.2.1 ∧ (o_setBound (dC S) z w).1 < 10 ∧ DyW G d u_.2.1 u_.2.2) (fun (u_ : (Nat → Int64) × DS × va_W) => ([(o, .inl (G.2 5, 1, .inr (.inl u_.1)))] ++ (u_.2.2 ++ []))) (fun (u_ : (Nat → Int64) × DS × va_W) (H : Heap) => True) := by
  refine CTW.of (by decide) (Nat.le_of_ble_eq_true rfl) ?_
  intro p e s m below meth c ls A H locs h9 hH0 hP hS hNc htab
  obtain ⟨cf, hr, hlk, hnm, hKB, hE, -, hD, -, hA, hAw, hRH, hl⟩ := h9
  have hx := cf.1
  have hb := cf.2.1
  have hml := cf.2.2.1
  have hown : s.vm.findClass RX0 = some m.cls := cf.2.2.2.1
  have hts := cf.2.2.2.2
  have hK := hKB.1
  have hl : lv_has ls 5 [(0, .ref d), (1, .int z), (2, .int w), (3, .ref o)] := hl
  refine lv_aload_n hx hb dX0_setBound_0 rfl (lv_at hl 3 rfl) ?_
  refine lv_iconst (v := nI 0) hx hb dX0_setBound_1 (by decide) ?_
  refine lv_aload_n hx hb dX0_setBound_2 rfl (lv_at hl 0 rfl) ?_
  refine lv_iload_n hx hb dX0_setBound_3 rfl (lv_at hl 1 rfl) ?_
  refine lv_iload_n hx hb dX0_setBound_4 rfl (lv_at hl 2 rfl) ?_
  have hpm_3615 : (([(o, .inl (G.2 5, 1, .inr (.inl of)))] ++ (WA ++ [])) : va_W).Perm ((WA ++ []) ++ [(o, .inl (G.2 5, 1, .inr (.inl of)))]) := segs_perm [[(o, .inl (G.2 5, 1, .inr (.inl of)))], WA] [1] [0] rfl
  have hF := hF_ofP (wc := (WA ++ [])) hD hS hA hpm_3615
  refine go_cxP hS hP hD hpm_3615 hF
      (vx_runV (As := [.int z, .int w]) (rest := [.int (nI 0), .ref o]) cf (dX1_setBound l G d S WA z w (show DyW G d S WA from by first | assumption | omega) hfl H.size) (cwV 2 hts (lw_V q1048 q1049 q1050 q47 q1051) rfl rfl rfl (by decide +kernel) ⟨Nat.le_of_ble_eq_true rfl, Nat.le_of_ble_eq_true rfl⟩) (preV_of hKB hE hS hF (DyW.recv hK h (seg_at [[(o, .inl (G.2 5, 1, .inr (.inl of)))], WA] 1 rfl hP)) (P_left (P_perm hpm_3615 hP)) ((D_left (D_perm hpm_3615 hD)).weaken (fun _ _ _ _ => trivial)) trivial) rfl rfl hl.1 rfl (lv_room (Nat.le_of_ble_eq_true rfl)) dX0_setBound_5 ⟨show 0 + (1 + 101) ≤ 1 + 101 from by first | decide | omega, show 0 + (6 + 5800) ≤ 6 + 5800 from by first | decide | omega⟩)
      (fun u_ H locs ce q9 hq hph (hP : va_P G.1 CL ([(o, .inl (G.2 5, 1, .inr (.inl of)))] ++ (WA ++ [])) H) (hD : va_D A ([(o, .inl (G.2 5, 1, .inr (.inl of)))] ++ (WA ++ []))) hS hfz hfk hce hcv hcl => ?_) (fun u_ H locs hq hph (hP : va_P G.1 CL ([(o, .inl (G.2 5, 1, .inr (.inl of)))] ++ (u_.2.2 ++ [])) H) (hD : va_D A ([(o, .inl (G.2 5, 1, .inr (.inl of)))] ++ (u_.2.2 ++ []))) hS hfz hfk => ?_)
  · obtain ⟨kx_3619, rfl⟩ : ∃ z, z = u_ := ⟨_, rfl⟩
    obtain ⟨hq_3620, hq_3621⟩ : (o_setBound (dC S) z w).1 = kx_3619 ∧ 1 ≤ kx_3619 ∧ kx_3619 ≤ 2 := hq
    have hpm_3622 : ([(o, .inl (G.2 5, 1, .inr (.inl of)))] ++ (WA ++ []) : va_W).Perm ([(o, .inl (G.2 5, 1, .inr (.inl of)))] ++ (WA ++ [])) := segs_perm2 [[(o, .inl (G.2 5, 1, .inr (.inl of)))]] [WA] [0, 1] rfl
    have hP : va_P G.1 CL ([(o, .inl (G.2 5, 1, .inr (.inl of)))] ++ (WA ++ [])) H := P_perm hpm_3622 hP
    have hD : va_D A ([(o, .inl (G.2 5, 1, .inr (.inl of)))] ++ (WA ++ [])) := D_perm hpm_3622 hD
    rcases (show kx_3619 = 1 ∨ kx_3619 = 2 by omega) with rfl | rfl
    · have hcl9 : s.vm.findClass eA = some ce.cls := hcl
      refine vx_catch (name := eA) (E := eA) hown [] (⟨0, 10, 13, 13⟩ : ExceptionTableEntry) [(⟨0, 10, 17, 15⟩ : ExceptionTableEntry)] (by rw [htab]; rfl) (fun z hz => absurd hz List.not_mem_nil) (by decide) (by decide) (hts _ q680) (va_Nw.use rfl (hKB.nest q698 rfl)) hce hcv hcl9 ?_
      refine W.eq (g2 := F0 m 13 ls [.ref q9]) rfl ?_
      refine lv_astore (lv' := [(4, .ref q9), (0, .ref d), (1, .int z), (2, .int w), (3, .ref o)]) hx hb dX0_setBound_13 hl (by decide) rfl (fun ls hl => ?_)
      refine lv_iconst (v := nI 1) hx hb dX0_setBound_15 (by decide) ?_
      refine vx_ret ?_
      have hpm_3623 : (([(o, .inl (G.2 5, 1, .inr (.inl of)))] ++ (WA ++ [])) : va_W).Perm (([(o, .inl (G.2 5, 1, .inr (.inl of)))] ++ (WA ++ [])) ++ []) := segs_perm [[(o, .inl (G.2 5, 1, .inr (.inl of)))], WA] [0, 1] [] rfl
      have hP9 : va_P G.1 CL ([(o, .inl (G.2 5, 1, .inr (.inl of)))] ++ (WA ++ [])) H := P_left (P_perm hpm_3623 hP)
      have hD9 : va_D A ([(o, .inl (G.2 5, 1, .inr (.inl of)))] ++ (WA ++ [])) := D_left (D_perm hpm_3623 hD)
      exact end_i hx hb hr hlk (rfl) (qc_of (of, S, WA) (v := some (.int (nI 1))) (by rw [hq_3620]) (⟨fun z9 => absurd (hq_3620.symm.trans z9) (by decide), NxS.no (fun z9 => absurd (hq_3620.symm.trans z9) (by decide)), by rw [hq_3620]; decide, h⟩) hP9 hD9 (trivial) hS) hS dX0_setBound_16 (show 0 + (1 + 101) ≤ 1 + 101 from by first | exact Nat.le_refl _ | decide | omega) (show 0 + (6 + 5800) ≤ 6 + 5800 from by first | exact Nat.le_refl _ | decide | omega)
    · have hcl9 : s.vm.findClass eS9 = some ce.cls := hcl
      refine vx_catch (name := eS9) (E := eS9) hown [(⟨0, 10, 13, 13⟩ : ExceptionTableEntry)] (⟨0, 10, 17, 15⟩ : ExceptionTableEntry) [] (by rw [htab]; rfl) (fun z hz => by rcases List.mem_singleton.mp hz with rfl; exact Or.inr ⟨by decide, _, hts _ q680, hNc _ (List.mem_of_getElem? (i := 0) rfl)⟩) (by decide) (by decide) (hts _ q681) (va_Nw.use rfl (hKB.nest q577 rfl)) hce hcv hcl9 ?_
      refine W.eq (g2 := F0 m 17 ls [.ref q9]) rfl ?_
      refine lv_astore (lv' := [(4, .ref q9), (0, .ref d), (1, .int z), (2, .int w), (3, .ref o)]) hx hb dX0_setBound_17 hl (by decide) rfl (fun ls hl => ?_)
      refine lv_iconst (v := nI 2) hx hb dX0_setBound_19 (by decide) ?_
      refine vx_ret ?_
      have hpm_3624 : (([(o, .inl (G.2 5, 1, .inr (.inl of)))] ++ (WA ++ [])) : va_W).Perm (([(o, .inl (G.2 5, 1, .inr (.inl of)))] ++ (WA ++ [])) ++ []) := segs_perm [[(o, .inl (G.2 5, 1, .inr (.inl of)))], WA] [0, 1] [] rfl
      have hP9 : va_P G.1 CL ([(o, .inl (G.2 5, 1, .inr (.inl of)))] ++ (WA ++ [])) H := P_left (P_perm hpm_3624 hP)
      have hD9 : va_D A ([(o, .inl (G.2 5, 1, .inr (.inl of)))] ++ (WA ++ [])) := D_left (D_perm hpm_3624 hD)
      exact end_i hx hb hr hlk (rfl) (qc_of (of, S, WA) (v := some (.int (nI 2))) (by rw [hq_3620]) (⟨fun z9 => absurd (hq_3620.symm.trans z9) (by decide), NxS.no (fun z9 => absurd (hq_3620.symm.trans z9) (by decide)), by rw [hq_3620]; decide, h⟩) hP9 hD9 (trivial) hS) hS dX0_setBound_20 (show 0 + (1 + 101) ≤ 1 + 101 from by first | exact Nat.le_refl _ | decide | omega) (show 0 + (6 + 5800) ≤ 6 + 5800 from by first | exact Nat.le_refl _ | decide | omega)
  · obtain ⟨rr_3616, B2_3617, W2_3618⟩ := u_
    obtain ⟨hq_3625, hq_3626, hq_3627, hq_3628⟩ : (o_setBound (dC S) z w).1 = 0 ∧ rr_3616 = (o_setBound (dC S) z w).2.1 ∧ Sim (o_setBound (dC S) z w).2.2 B2_3617 ∧ DyW G d ((B2_3617, dS S, min 6 (dK S + 1), hsR (dH S) (dK S) (dC S), dL S, dN S) : DS) W2_3618 := hq
    have hpm_3629 : ([(o, .inl (G.2 5, 1, .inr (.inl of)))] ++ (W2_3618 ++ []) : va_W).Perm ([(o, .inl (G.2 5, 1, .inr (.inl of)))] ++ (W2_3618 ++ [])) := segs_perm2 [[(o, .inl (G.2 5, 1, .inr (.inl of)))]] [W2_3618] [0, 1] rfl
    have hP : va_P G.1 CL ([(o, .inl (G.2 5, 1, .inr (.inl of)))] ++ (W2_3618 ++ [])) H := P_perm hpm_3629 hP
    have hD : va_D A ([(o, .inl (G.2 5, 1, .inr (.inl of)))] ++ (W2_3618 ++ [])) := D_perm hpm_3629 hD
    refine W.eq (g2 := F0 m 8 ls [.int rr_3616, .int (nI 0), .ref o]) rfl ?_
    refine lv_i2l (v := (rr_3616).toInt64) hx hb dX0_setBound_8 rfl ?_
    refine r_last hx hb hK hP hD hS 0 5 rfl rfl (i := 0) (by omega) (by omega) dX0_setBound_9 (fun H locs (hP : va_P G.1 CL ([(o, .inl (G.2 5, 1, .inr (.inl (vp_updL of 0 ((rr_3616).toInt64)))))] ++ (W2_3618 ++ [])) H) (hD : va_D A ([(o, .inl (G.2 5, 1, .inr (.inl (vp_updL of 0 ((rr_3616).toInt64)))))] ++ (W2_3618 ++ []))) hS => ?_)
    refine lv_goto (tgt := 21) hx hb dX0_setBound_10 (by decide) ?_
    refine lv_iconst (v := nI 0) hx hb dX0_setBound_21 (by decide) ?_
    refine vx_ret ?_
    have hpm_3630 : (([(o, .inl (G.2 5, 1, .inr (.inl (vp_updL of 0 ((rr_3616).toInt64)))))] ++ (W2_3618 ++ [])) : va_W).Perm (([(o, .inl (G.2 5, 1, .inr (.inl (vp_updL of 0 ((rr_3616).toInt64)))))] ++ (W2_3618 ++ [])) ++ []) := segs_perm [[(o, .inl (G.2 5, 1, .inr (.inl (vp_updL of 0 ((rr_3616).toInt64)))))], W2_3618] [0, 1] [] rfl
    have hP9 : va_P G.1 CL ([(o, .inl (G.2 5, 1, .inr (.inl (vp_updL of 0 ((rr_3616).toInt64)))))] ++ (W2_3618 ++ [])) H := P_left (P_perm hpm_3630 hP)
    have hD9 : va_D A ([(o, .inl (G.2 5, 1, .inr (.inl (vp_updL of 0 ((rr_3616).toInt64)))))] ++ (W2_3618 ++ [])) := D_left (D_perm hpm_3630 hD)
    exact end_i hx hb hr hlk (rfl) (qc_of (vp_updL of 0 ((rr_3616).toInt64), ((B2_3617, dS S, min 6 (dK S + 1), hsR (dH S) (dK S) (dC S), dL S, dN S) : DS), W2_3618) (v := some (.int (nI 0))) (by rw [hq_3625]) (⟨fun _ => by rw [← hq_3626]; exact pk_uLs, NxS.yes hq_3625 hq_3627, by rw [hq_3625]; decide, hq_3628⟩) hP9 hD9 (trivial) hS) hS dX0_setBound_22 (show 0 + (1 + 101) ≤ 1 + 101 from by first | exact Nat.le_refl _ | decide | omega) (show 0 + (6 + 5800) ≤ 6 + 5800 from by first | exact Nat.le_refl _ | decide | omega)

set_option maxHeartbeats 4000000 in
theorem wX0_setWeight (l : Launch) (G : Gt) (d : Nat) (S : DS) (WA : va_W) (o : Nat) (of : Nat → Int64) (z : Int32) (w : Int32) (h : DyW G d S WA) (hfl : l.stackTraces = false) : CTW l G yX0_setWeight cX0_setWeight 5 (some .int) [(0, 10, 13, 13)] ({ frames := 10, cells := 1 + 101, slots := 6 + 5800, locals := 233 } : Room) [.ref d, .int z, .int w, .ref o] ([(o, .inl (G.2 5, 1, .inr (.inl of)))] ++ (WA ++ [])) RH0 (S := (Nat → Int64) × DS × va_W) (fun (u_ : (Nat → Int64) × DS × va_W) => some (.int (nI ((o_setWeight (dC S) z w).1)))) (fun (u_ : (Nat → Int64) × DS × va_W) => ((o_setWeight (dC S) z w).1 = 0 → u_.1 0 = ((o_setWeight (dC S) z w).2.1).toInt64) ∧ NxS S (o_setWeight (dC S) z w) u_.2.1 ∧ (o_setWeight (dC S) z w).1 < 10 ∧ DyW G d u_.2.1 u_.2.2) (fun (u_ : (Nat → Int64) × DS × va_W) => ([(o, .inl (G.2 5, 1, .inr (.inl u_.1)))] ++ (u_.2.2 ++ []))) (fun (u_ : (Nat → Int64) × DS × va_W) (H : Heap) => True) := by
  refine CTW.of (by decide) (Nat.le_of_ble_eq_true rfl) ?_
  intro p e s m below meth c ls A H locs h9 hH0 hP hS hNc htab
  obtain ⟨cf, hr, hlk, hnm, hKB, hE, -, hD, -, hA, hAw, hRH, hl⟩ := h9
  have hx := cf.1
  have hb := cf.2.1
  have hml := cf.2.2.1
  have hown : s.vm.findClass RX0 = some m.cls := cf.2.2.2.1
  have hts := cf.2.2.2.2
  have hK := hKB.1
  have hl : lv_has ls 5 [(0, .ref d), (1, .int z), (2, .int w), (3, .ref o)] := hl
  refine lv_aload_n hx hb dX0_setWeight_0 rfl (lv_at hl 3 rfl) ?_
  refine lv_iconst (v := nI 0) hx hb dX0_setWeight_1 (by decide) ?_
  refine lv_aload_n hx hb dX0_setWeight_2 rfl (lv_at hl 0 rfl) ?_
  refine lv_iload_n hx hb dX0_setWeight_3 rfl (lv_at hl 1 rfl) ?_
  refine lv_iload_n hx hb dX0_setWeight_4 rfl (lv_at hl 2 rfl) ?_
  have hpm_3631 : (([(o, .inl (G.2 5, 1, .inr (.inl of)))] ++ (WA ++ [])) : va_W).Perm ((WA ++ []) ++ [(o, .inl (G.2 5, 1, .inr (.inl of)))]) := segs_perm [[(o, .inl (G.2 5, 1, .inr (.inl of)))], WA] [1] [0] rfl
  have hF := hF_ofP (wc := (WA ++ [])) hD hS hA hpm_3631
  refine go_cxP hS hP hD hpm_3631 hF
      (vx_runV (As := [.int z, .int w]) (rest := [.int (nI 0), .ref o]) cf (dX1_setWeight l G d S WA z w (show DyW G d S WA from by first | assumption | omega) hfl H.size) (cwV 2 hts (lw_V q1066 q1067 q1068 q47 q1069) rfl rfl rfl (by decide +kernel) ⟨Nat.le_of_ble_eq_true rfl, Nat.le_of_ble_eq_true rfl⟩) (preV_of hKB hE hS hF (DyW.recv hK h (seg_at [[(o, .inl (G.2 5, 1, .inr (.inl of)))], WA] 1 rfl hP)) (P_left (P_perm hpm_3631 hP)) ((D_left (D_perm hpm_3631 hD)).weaken (fun _ _ _ _ => trivial)) trivial) rfl rfl hl.1 rfl (lv_room (Nat.le_of_ble_eq_true rfl)) dX0_setWeight_5 ⟨show 0 + (1 + 101) ≤ 1 + 101 from by first | decide | omega, show 0 + (6 + 5800) ≤ 6 + 5800 from by first | decide | omega⟩)
      (fun u_ H locs ce q9 hq hph (hP : va_P G.1 CL ([(o, .inl (G.2 5, 1, .inr (.inl of)))] ++ (WA ++ [])) H) (hD : va_D A ([(o, .inl (G.2 5, 1, .inr (.inl of)))] ++ (WA ++ []))) hS hfz hfk hce hcv hcl => ?_) (fun u_ H locs hq hph (hP : va_P G.1 CL ([(o, .inl (G.2 5, 1, .inr (.inl of)))] ++ (u_.2.2 ++ [])) H) (hD : va_D A ([(o, .inl (G.2 5, 1, .inr (.inl of)))] ++ (u_.2.2 ++ []))) hS hfz hfk => ?_)
  · obtain ⟨kx_3635, rfl⟩ : ∃ z, z = u_ := ⟨_, rfl⟩
    obtain ⟨hq_3636, hq_3637⟩ : (o_setWeight (dC S) z w).1 = kx_3635 ∧ 1 ≤ kx_3635 ∧ kx_3635 ≤ 1 := hq
    have hpm_3638 : ([(o, .inl (G.2 5, 1, .inr (.inl of)))] ++ (WA ++ []) : va_W).Perm ([(o, .inl (G.2 5, 1, .inr (.inl of)))] ++ (WA ++ [])) := segs_perm2 [[(o, .inl (G.2 5, 1, .inr (.inl of)))]] [WA] [0, 1] rfl
    have hP : va_P G.1 CL ([(o, .inl (G.2 5, 1, .inr (.inl of)))] ++ (WA ++ [])) H := P_perm hpm_3638 hP
    have hD : va_D A ([(o, .inl (G.2 5, 1, .inr (.inl of)))] ++ (WA ++ [])) := D_perm hpm_3638 hD
    obtain rfl : kx_3635 = 1 := by omega
    have hcl9 : s.vm.findClass eA = some ce.cls := hcl
    refine vx_catch (name := eA) (E := eA) hown [] (⟨0, 10, 13, 13⟩ : ExceptionTableEntry) [] (by rw [htab]; rfl) (fun z hz => absurd hz List.not_mem_nil) (by decide) (by decide) (hts _ q680) (va_Nw.use rfl (hKB.nest q698 rfl)) hce hcv hcl9 ?_
    refine W.eq (g2 := F0 m 13 ls [.ref q9]) rfl ?_
    refine lv_astore (lv' := [(4, .ref q9), (0, .ref d), (1, .int z), (2, .int w), (3, .ref o)]) hx hb dX0_setWeight_13 hl (by decide) rfl (fun ls hl => ?_)
    refine lv_iconst (v := nI 1) hx hb dX0_setWeight_15 (by decide) ?_
    refine vx_ret ?_
    have hpm_3639 : (([(o, .inl (G.2 5, 1, .inr (.inl of)))] ++ (WA ++ [])) : va_W).Perm (([(o, .inl (G.2 5, 1, .inr (.inl of)))] ++ (WA ++ [])) ++ []) := segs_perm [[(o, .inl (G.2 5, 1, .inr (.inl of)))], WA] [0, 1] [] rfl
    have hP9 : va_P G.1 CL ([(o, .inl (G.2 5, 1, .inr (.inl of)))] ++ (WA ++ [])) H := P_left (P_perm hpm_3639 hP)
    have hD9 : va_D A ([(o, .inl (G.2 5, 1, .inr (.inl of)))] ++ (WA ++ [])) := D_left (D_perm hpm_3639 hD)
    exact end_i hx hb hr hlk (rfl) (qc_of (of, S, WA) (v := some (.int (nI 1))) (by rw [hq_3636]) (⟨fun z9 => absurd (hq_3636.symm.trans z9) (by decide), NxS.no (fun z9 => absurd (hq_3636.symm.trans z9) (by decide)), by rw [hq_3636]; decide, h⟩) hP9 hD9 (trivial) hS) hS dX0_setWeight_16 (show 0 + (1 + 101) ≤ 1 + 101 from by first | exact Nat.le_refl _ | decide | omega) (show 0 + (6 + 5800) ≤ 6 + 5800 from by first | exact Nat.le_refl _ | decide | omega)
  · obtain ⟨rr_3632, B2_3633, W2_3634⟩ := u_
    obtain ⟨hq_3640, hq_3641, hq_3642, hq_3643⟩ : (o_setWeight (dC S) z w).1 = 0 ∧ rr_3632 = (o_setWeight (dC S) z w).2.1 ∧ Sim (o_setWeight (dC S) z w).2.2 B2_3633 ∧ DyW G d ((B2_3633, dS S, min 6 (dK S + 1), hsR (dH S) (dK S) (dC S), dL S, dN S) : DS) W2_3634 := hq
    have hpm_3644 : ([(o, .inl (G.2 5, 1, .inr (.inl of)))] ++ (W2_3634 ++ []) : va_W).Perm ([(o, .inl (G.2 5, 1, .inr (.inl of)))] ++ (W2_3634 ++ [])) := segs_perm2 [[(o, .inl (G.2 5, 1, .inr (.inl of)))]] [W2_3634] [0, 1] rfl
    have hP : va_P G.1 CL ([(o, .inl (G.2 5, 1, .inr (.inl of)))] ++ (W2_3634 ++ [])) H := P_perm hpm_3644 hP
    have hD : va_D A ([(o, .inl (G.2 5, 1, .inr (.inl of)))] ++ (W2_3634 ++ [])) := D_perm hpm_3644 hD
    refine W.eq (g2 := F0 m 8 ls [.int rr_3632, .int (nI 0), .ref o]) rfl ?_
    refine lv_i2l (v := (rr_3632).toInt64) hx hb dX0_setWeight_8 rfl ?_
    refine r_last hx hb hK hP hD hS 0 5 rfl rfl (i := 0) (by omega) (by omega) dX0_setWeight_9 (fun H locs (hP : va_P G.1 CL ([(o, .inl (G.2 5, 1, .inr (.inl (vp_updL of 0 ((rr_3632).toInt64)))))] ++ (W2_3634 ++ [])) H) (hD : va_D A ([(o, .inl (G.2 5, 1, .inr (.inl (vp_updL of 0 ((rr_3632).toInt64)))))] ++ (W2_3634 ++ []))) hS => ?_)
    refine lv_goto (tgt := 17) hx hb dX0_setWeight_10 (by decide) ?_
    refine lv_iconst (v := nI 0) hx hb dX0_setWeight_17 (by decide) ?_
    refine vx_ret ?_
    have hpm_3645 : (([(o, .inl (G.2 5, 1, .inr (.inl (vp_updL of 0 ((rr_3632).toInt64)))))] ++ (W2_3634 ++ [])) : va_W).Perm (([(o, .inl (G.2 5, 1, .inr (.inl (vp_updL of 0 ((rr_3632).toInt64)))))] ++ (W2_3634 ++ [])) ++ []) := segs_perm [[(o, .inl (G.2 5, 1, .inr (.inl (vp_updL of 0 ((rr_3632).toInt64)))))], W2_3634] [0, 1] [] rfl
    have hP9 : va_P G.1 CL ([(o, .inl (G.2 5, 1, .inr (.inl (vp_updL of 0 ((rr_3632).toInt64)))))] ++ (W2_3634 ++ [])) H := P_left (P_perm hpm_3645 hP)
    have hD9 : va_D A ([(o, .inl (G.2 5, 1, .inr (.inl (vp_updL of 0 ((rr_3632).toInt64)))))] ++ (W2_3634 ++ [])) := D_left (D_perm hpm_3645 hD)
    exact end_i hx hb hr hlk (rfl) (qc_of (vp_updL of 0 ((rr_3632).toInt64), ((B2_3633, dS S, min 6 (dK S + 1), hsR (dH S) (dK S) (dC S), dL S, dN S) : DS), W2_3634) (v := some (.int (nI 0))) (by rw [hq_3640]) (⟨fun _ => by rw [← hq_3641]; exact pk_uLs, NxS.yes hq_3640 hq_3642, by rw [hq_3640]; decide, hq_3643⟩) hP9 hD9 (trivial) hS) hS dX0_setWeight_18 (show 0 + (1 + 101) ≤ 1 + 101 from by first | exact Nat.le_refl _ | decide | omega) (show 0 + (6 + 5800) ≤ 6 + 5800 from by first | exact Nat.le_refl _ | decide | omega)

set_option maxHeartbeats 4000000 in
theorem wX0_addSession (l : Launch) (G : Gt) (d : Nat) (S : DS) (WA : va_W) (o : Nat) (of : Nat → Int64) (v : Int32) (h : DyW G d S WA) (hi9 : bI9 (dC S) < 1000000) (hfl : l.stackTraces = false) : CTW l G yX0_addSession cX0_addSession 4 (some .int) [(0, 9, 12, 13), (0, 9, 15, 15)] ({ frames := 10, cells := 4 + 101, slots := 64 + 5800, locals := 232 } : Room) [.ref d, .int v, .ref o] ([(o, .inl (G.2 5, 1, .inr (.inl of)))] ++ (WA ++ [])) RH0 (S := (Nat → Int64) × DS × va_W) (fun (u_ : (Nat → Int64) × DS × va_W) => some (.int (nI ((o_addSes (dC S) v).1)))) (fun (u_ : (Nat → Int64) × DS × va_W) => ((o_addSes (dC S) v).1 = 0 → u_.1 0 = ((o_addSes (dC S) v).2.1).toInt64) ∧ NxS S (o_addSes (dC S) v) u_.2.1 ∧ (o_addSes (dC S) v).1 < 10 ∧ DyW G d u_.2.1 u_.2.2) (fun (u_ : (Nat → Int64) × DS × va_W) => ([(o, .inl (G.2 5, 1, .inr (.inl u_.1)))] ++ (u_.2.2 ++ []))) (fun (u_ : (Nat → Int64) × DS × va_W) (H : Heap) => True) := by
  refine CTW.of (by decide) (Nat.le_of_ble_eq_true rfl) ?_
  intro p e s m below meth c ls A H locs h9 hH0 hP hS hNc htab
  obtain ⟨cf, hr, hlk, hnm, hKB, hE, -, hD, -, hA, hAw, hRH, hl⟩ := h9
  have hx := cf.1
  have hb := cf.2.1
  have hml := cf.2.2.1
  have hown : s.vm.findClass RX0 = some m.cls := cf.2.2.2.1
  have hts := cf.2.2.2.2
  have hK := hKB.1
  have hl : lv_has ls 4 [(0, .ref d), (1, .int v), (2, .ref o)] := hl
  refine lv_aload_n hx hb dX0_addSession_0 rfl (lv_at hl 2 rfl) ?_
  refine lv_iconst (v := nI 0) hx hb dX0_addSession_1 (by decide) ?_
  refine lv_aload_n hx hb dX0_addSession_2 rfl (lv_at hl 0 rfl) ?_
  refine lv_iload_n hx hb dX0_addSession_3 rfl (lv_at hl 1 rfl) ?_
  have hpm_3646 : (([(o, .inl (G.2 5, 1, .inr (.inl of)))] ++ (WA ++ [])) : va_W).Perm ((WA ++ []) ++ [(o, .inl (G.2 5, 1, .inr (.inl of)))]) := segs_perm [[(o, .inl (G.2 5, 1, .inr (.inl of)))], WA] [1] [0] rfl
  have hF := hF_ofP (wc := (WA ++ [])) hD hS hA hpm_3646
  refine go_cxP hS hP hD hpm_3646 hF
      (vx_runV (As := [.int v]) (rest := [.int (nI 0), .ref o]) cf (dX1_addSession l G d S WA v (show DyW G d S WA from by first | assumption | omega) (show bI9 (dC S) < 1000000 from by first | assumption | omega) hfl H.size) (cwV 1 hts (lw_V q1095 q1096 q1097 q47 q1098) rfl rfl rfl (by decide +kernel) ⟨Nat.le_of_ble_eq_true rfl, Nat.le_of_ble_eq_true rfl⟩) (preV_of hKB hE hS hF (DyW.recv hK h (seg_at [[(o, .inl (G.2 5, 1, .inr (.inl of)))], WA] 1 rfl hP)) (P_left (P_perm hpm_3646 hP)) ((D_left (D_perm hpm_3646 hD)).weaken (fun _ _ _ _ => trivial)) trivial) rfl rfl hl.1 rfl (lv_room (Nat.le_of_ble_eq_true rfl)) dX0_addSession_4 ⟨show 0 + (4 + 101) ≤ 4 + 101 from by first | decide | omega, show 0 + (64 + 5800) ≤ 64 + 5800 from by first | decide | omega⟩)
      (fun u_ H locs ce q9 hq hph (hP : va_P G.1 CL ([(o, .inl (G.2 5, 1, .inr (.inl of)))] ++ (WA ++ [])) H) (hD : va_D A ([(o, .inl (G.2 5, 1, .inr (.inl of)))] ++ (WA ++ []))) hS hfz hfk hce hcv hcl => ?_) (fun u_ H locs hq hph (hP : va_P G.1 CL ([(o, .inl (G.2 5, 1, .inr (.inl of)))] ++ (u_.2.2 ++ [])) H) (hD : va_D A ([(o, .inl (G.2 5, 1, .inr (.inl of)))] ++ (u_.2.2 ++ []))) hS hfz hfk => ?_)
  · obtain ⟨kx_3650, rfl⟩ : ∃ z, z = u_ := ⟨_, rfl⟩
    obtain ⟨hq_3651, hq_3652⟩ : (o_addSes (dC S) v).1 = kx_3650 ∧ 1 ≤ kx_3650 ∧ kx_3650 ≤ 2 := hq
    have hpm_3653 : ([(o, .inl (G.2 5, 1, .inr (.inl of)))] ++ (WA ++ []) : va_W).Perm ([(o, .inl (G.2 5, 1, .inr (.inl of)))] ++ (WA ++ [])) := segs_perm2 [[(o, .inl (G.2 5, 1, .inr (.inl of)))]] [WA] [0, 1] rfl
    have hP : va_P G.1 CL ([(o, .inl (G.2 5, 1, .inr (.inl of)))] ++ (WA ++ [])) H := P_perm hpm_3653 hP
    have hD : va_D A ([(o, .inl (G.2 5, 1, .inr (.inl of)))] ++ (WA ++ [])) := D_perm hpm_3653 hD
    rcases (show kx_3650 = 1 ∨ kx_3650 = 2 by omega) with rfl | rfl
    · have hcl9 : s.vm.findClass eA = some ce.cls := hcl
      refine vx_catch (name := eA) (E := eA) hown [] (⟨0, 9, 12, 13⟩ : ExceptionTableEntry) [(⟨0, 9, 15, 15⟩ : ExceptionTableEntry)] (by rw [htab]; rfl) (fun z hz => absurd hz List.not_mem_nil) (by decide) (by decide) (hts _ q680) (va_Nw.use rfl (hKB.nest q698 rfl)) hce hcv hcl9 ?_
      refine W.eq (g2 := F0 m 12 ls [.ref q9]) rfl ?_
      refine lv_astore_n (lv' := [(3, .ref q9), (0, .ref d), (1, .int v), (2, .ref o)]) hx hb dX0_addSession_12 rfl hl (by decide) rfl (fun ls hl => ?_)
      refine lv_iconst (v := nI 1) hx hb dX0_addSession_13 (by decide) ?_
      refine vx_ret ?_
      have hpm_3654 : (([(o, .inl (G.2 5, 1, .inr (.inl of)))] ++ (WA ++ [])) : va_W).Perm (([(o, .inl (G.2 5, 1, .inr (.inl of)))] ++ (WA ++ [])) ++ []) := segs_perm [[(o, .inl (G.2 5, 1, .inr (.inl of)))], WA] [0, 1] [] rfl
      have hP9 : va_P G.1 CL ([(o, .inl (G.2 5, 1, .inr (.inl of)))] ++ (WA ++ [])) H := P_left (P_perm hpm_3654 hP)
      have hD9 : va_D A ([(o, .inl (G.2 5, 1, .inr (.inl of)))] ++ (WA ++ [])) := D_left (D_perm hpm_3654 hD)
      exact end_i hx hb hr hlk (rfl) (qc_of (of, S, WA) (v := some (.int (nI 1))) (by rw [hq_3651]) (⟨fun z9 => absurd (hq_3651.symm.trans z9) (by decide), NxS.no (fun z9 => absurd (hq_3651.symm.trans z9) (by decide)), by rw [hq_3651]; decide, h⟩) hP9 hD9 (trivial) hS) hS dX0_addSession_14 (show 0 + (4 + 101) ≤ 4 + 101 from by first | exact Nat.le_refl _ | decide | omega) (show 0 + (64 + 5800) ≤ 64 + 5800 from by first | exact Nat.le_refl _ | decide | omega)
    · have hcl9 : s.vm.findClass eS9 = some ce.cls := hcl
      refine vx_catch (name := eS9) (E := eS9) hown [(⟨0, 9, 12, 13⟩ : ExceptionTableEntry)] (⟨0, 9, 15, 15⟩ : ExceptionTableEntry) [] (by rw [htab]; rfl) (fun z hz => by rcases List.mem_singleton.mp hz with rfl; exact Or.inr ⟨by decide, _, hts _ q680, hNc _ (List.mem_of_getElem? (i := 0) rfl)⟩) (by decide) (by decide) (hts _ q681) (va_Nw.use rfl (hKB.nest q577 rfl)) hce hcv hcl9 ?_
      refine W.eq (g2 := F0 m 15 ls [.ref q9]) rfl ?_
      refine lv_astore_n (lv' := [(3, .ref q9), (0, .ref d), (1, .int v), (2, .ref o)]) hx hb dX0_addSession_15 rfl hl (by decide) rfl (fun ls hl => ?_)
      refine lv_iconst (v := nI 2) hx hb dX0_addSession_16 (by decide) ?_
      refine vx_ret ?_
      have hpm_3655 : (([(o, .inl (G.2 5, 1, .inr (.inl of)))] ++ (WA ++ [])) : va_W).Perm (([(o, .inl (G.2 5, 1, .inr (.inl of)))] ++ (WA ++ [])) ++ []) := segs_perm [[(o, .inl (G.2 5, 1, .inr (.inl of)))], WA] [0, 1] [] rfl
      have hP9 : va_P G.1 CL ([(o, .inl (G.2 5, 1, .inr (.inl of)))] ++ (WA ++ [])) H := P_left (P_perm hpm_3655 hP)
      have hD9 : va_D A ([(o, .inl (G.2 5, 1, .inr (.inl of)))] ++ (WA ++ [])) := D_left (D_perm hpm_3655 hD)
      exact end_i hx hb hr hlk (rfl) (qc_of (of, S, WA) (v := some (.int (nI 2))) (by rw [hq_3651]) (⟨fun z9 => absurd (hq_3651.symm.trans z9) (by decide), NxS.no (fun z9 => absurd (hq_3651.symm.trans z9) (by decide)), by rw [hq_3651]; decide, h⟩) hP9 hD9 (trivial) hS) hS dX0_addSession_17 (show 0 + (4 + 101) ≤ 4 + 101 from by first | exact Nat.le_refl _ | decide | omega) (show 0 + (64 + 5800) ≤ 64 + 5800 from by first | exact Nat.le_refl _ | decide | omega)
  · obtain ⟨rr_3647, B2_3648, W2_3649⟩ := u_
    obtain ⟨hq_3656, hq_3657, hq_3658, hq_3659⟩ : (o_addSes (dC S) v).1 = 0 ∧ rr_3647 = (o_addSes (dC S) v).2.1 ∧ Sim (o_addSes (dC S) v).2.2 B2_3648 ∧ DyW G d ((B2_3648, dS S, min 6 (dK S + 1), hsR (dH S) (dK S) (dC S), dL S, dN S) : DS) W2_3649 := hq
    have hpm_3660 : ([(o, .inl (G.2 5, 1, .inr (.inl of)))] ++ (W2_3649 ++ []) : va_W).Perm ([(o, .inl (G.2 5, 1, .inr (.inl of)))] ++ (W2_3649 ++ [])) := segs_perm2 [[(o, .inl (G.2 5, 1, .inr (.inl of)))]] [W2_3649] [0, 1] rfl
    have hP : va_P G.1 CL ([(o, .inl (G.2 5, 1, .inr (.inl of)))] ++ (W2_3649 ++ [])) H := P_perm hpm_3660 hP
    have hD : va_D A ([(o, .inl (G.2 5, 1, .inr (.inl of)))] ++ (W2_3649 ++ [])) := D_perm hpm_3660 hD
    refine W.eq (g2 := F0 m 7 ls [.int rr_3647, .int (nI 0), .ref o]) rfl ?_
    refine lv_i2l (v := (rr_3647).toInt64) hx hb dX0_addSession_7 rfl ?_
    refine r_last hx hb hK hP hD hS 0 5 rfl rfl (i := 0) (by omega) (by omega) dX0_addSession_8 (fun H locs (hP : va_P G.1 CL ([(o, .inl (G.2 5, 1, .inr (.inl (vp_updL of 0 ((rr_3647).toInt64)))))] ++ (W2_3649 ++ [])) H) (hD : va_D A ([(o, .inl (G.2 5, 1, .inr (.inl (vp_updL of 0 ((rr_3647).toInt64)))))] ++ (W2_3649 ++ []))) hS => ?_)
    refine lv_goto (tgt := 18) hx hb dX0_addSession_9 (by decide) ?_
    refine lv_iconst (v := nI 0) hx hb dX0_addSession_18 (by decide) ?_
    refine vx_ret ?_
    have hpm_3661 : (([(o, .inl (G.2 5, 1, .inr (.inl (vp_updL of 0 ((rr_3647).toInt64)))))] ++ (W2_3649 ++ [])) : va_W).Perm (([(o, .inl (G.2 5, 1, .inr (.inl (vp_updL of 0 ((rr_3647).toInt64)))))] ++ (W2_3649 ++ [])) ++ []) := segs_perm [[(o, .inl (G.2 5, 1, .inr (.inl (vp_updL of 0 ((rr_3647).toInt64)))))], W2_3649] [0, 1] [] rfl
    have hP9 : va_P G.1 CL ([(o, .inl (G.2 5, 1, .inr (.inl (vp_updL of 0 ((rr_3647).toInt64)))))] ++ (W2_3649 ++ [])) H := P_left (P_perm hpm_3661 hP)
    have hD9 : va_D A ([(o, .inl (G.2 5, 1, .inr (.inl (vp_updL of 0 ((rr_3647).toInt64)))))] ++ (W2_3649 ++ [])) := D_left (D_perm hpm_3661 hD)
    exact end_i hx hb hr hlk (rfl) (qc_of (vp_updL of 0 ((rr_3647).toInt64), ((B2_3648, dS S, min 6 (dK S + 1), hsR (dH S) (dK S) (dC S), dL S, dN S) : DS), W2_3649) (v := some (.int (nI 0))) (by rw [hq_3656]) (⟨fun _ => by rw [← hq_3657]; exact pk_uLs, NxS.yes hq_3656 hq_3658, by rw [hq_3656]; decide, hq_3659⟩) hP9 hD9 (trivial) hS) hS dX0_addSession_19 (show 0 + (4 + 101) ≤ 4 + 101 from by first | exact Nat.le_refl _ | decide | omega) (show 0 + (64 + 5800) ≤ 64 + 5800 from by first | exact Nat.le_refl _ | decide | omega)

set_option maxHeartbeats 4000000 in
theorem wX0_addPart (l : Launch) (G : Gt) (d : Nat) (S : DS) (WA : va_W) (o : Nat) (of : Nat → Int64) (v : Int32) (z : Int32) (w : Int32) (h : DyW G d S WA) (hfl : l.stackTraces = false) : CTW l G yX0_addPart cX0_addPart 6 (some .int) [(0, 12, 15, 24), (0, 12, 19, 13), (0, 12, 23, 15)] ({ frames := 10, cells := 5 + 101, slots := 90 + 5800, locals := 238 } : Room) [.ref d, .int v, .int z, .int w, .ref o] ([(o, .inl (G.2 5, 1, .inr (.inl of)))] ++ (WA ++ [])) RH0 (S := (Nat → Int64) × DS × va_W) (fun (u_ : (Nat → Int64) × DS × va_W) => some (.int (nI ((o_addPart (dC S) v z w).1)))) (fun (u_ : (Nat → Int64) × DS × va_W) => ((o_addPart (dC S) v z w).1 = 0 → u_.1 0 = ((o_addPart (dC S) v z w).2.1).toInt64) ∧ NxS S (o_addPart (dC S) v z w) u_.2.1 ∧ (o_addPart (dC S) v z w).1 < 10 ∧ DyW G d u_.2.1 u_.2.2) (fun (u_ : (Nat → Int64) × DS × va_W) => ([(o, .inl (G.2 5, 1, .inr (.inl u_.1)))] ++ (u_.2.2 ++ []))) (fun (u_ : (Nat → Int64) × DS × va_W) (H : Heap) => True) := by
  refine CTW.of (by decide) (Nat.le_of_ble_eq_true rfl) ?_
  intro p e s m below meth c ls A H locs h9 hH0 hP hS hNc htab
  obtain ⟨cf, hr, hlk, hnm, hKB, hE, -, hD, -, hA, hAw, hRH, hl⟩ := h9
  have hx := cf.1
  have hb := cf.2.1
  have hml := cf.2.2.1
  have hown : s.vm.findClass RX0 = some m.cls := cf.2.2.2.1
  have hts := cf.2.2.2.2
  have hK := hKB.1
  have hl : lv_has ls 6 [(0, .ref d), (1, .int v), (2, .int z), (3, .int w), (4, .ref o)] := hl
  refine lv_aload hx hb dX0_addPart_0 (lv_at hl 4 rfl) ?_
  refine lv_iconst (v := nI 0) hx hb dX0_addPart_2 (by decide) ?_
  refine lv_aload_n hx hb dX0_addPart_3 rfl (lv_at hl 0 rfl) ?_
  refine lv_iload_n hx hb dX0_addPart_4 rfl (lv_at hl 1 rfl) ?_
  refine lv_iload_n hx hb dX0_addPart_5 rfl (lv_at hl 2 rfl) ?_
  refine lv_iload_n hx hb dX0_addPart_6 rfl (lv_at hl 3 rfl) ?_
  have hpm_3662 : (([(o, .inl (G.2 5, 1, .inr (.inl of)))] ++ (WA ++ [])) : va_W).Perm ((WA ++ []) ++ [(o, .inl (G.2 5, 1, .inr (.inl of)))]) := segs_perm [[(o, .inl (G.2 5, 1, .inr (.inl of)))], WA] [1] [0] rfl
  have hF := hF_ofP (wc := (WA ++ [])) hD hS hA hpm_3662
  refine go_cxP hS hP hD hpm_3662 hF
      (vx_runV (As := [.int v, .int z, .int w]) (rest := [.int (nI 0), .ref o]) cf (dX1_addPart l G d S WA v z w (show DyW G d S WA from by first | assumption | omega) hfl H.size) (cwV 3 hts (lw_V q1130 q1131 q1132 q47 q1133) rfl rfl rfl (by decide +kernel) ⟨Nat.le_of_ble_eq_true rfl, Nat.le_of_ble_eq_true rfl⟩) (preV_of hKB hE hS hF (DyW.recv hK h (seg_at [[(o, .inl (G.2 5, 1, .inr (.inl of)))], WA] 1 rfl hP)) (P_left (P_perm hpm_3662 hP)) ((D_left (D_perm hpm_3662 hD)).weaken (fun _ _ _ _ => trivial)) trivial) rfl rfl hl.1 rfl (lv_room (Nat.le_of_ble_eq_true rfl)) dX0_addPart_7 ⟨show 0 + (5 + 101) ≤ 5 + 101 from by first | decide | omega, show 0 + (90 + 5800) ≤ 90 + 5800 from by first | decide | omega⟩)
      (fun u_ H locs ce q9 hq hph (hP : va_P G.1 CL ([(o, .inl (G.2 5, 1, .inr (.inl of)))] ++ (WA ++ [])) H) (hD : va_D A ([(o, .inl (G.2 5, 1, .inr (.inl of)))] ++ (WA ++ []))) hS hfz hfk hce hcv hcl => ?_) (fun u_ H locs hq hph (hP : va_P G.1 CL ([(o, .inl (G.2 5, 1, .inr (.inl of)))] ++ (u_.2.2 ++ [])) H) (hD : va_D A ([(o, .inl (G.2 5, 1, .inr (.inl of)))] ++ (u_.2.2 ++ []))) hS hfz hfk => ?_)
  · obtain ⟨kx_3666, rfl⟩ : ∃ z, z = u_ := ⟨_, rfl⟩
    obtain ⟨hq_3667, hq_3668⟩ : (o_addPart (dC S) v z w).1 = kx_3666 ∧ 1 ≤ kx_3666 ∧ kx_3666 ≤ 3 := hq
    have hpm_3669 : ([(o, .inl (G.2 5, 1, .inr (.inl of)))] ++ (WA ++ []) : va_W).Perm ([(o, .inl (G.2 5, 1, .inr (.inl of)))] ++ (WA ++ [])) := segs_perm2 [[(o, .inl (G.2 5, 1, .inr (.inl of)))]] [WA] [0, 1] rfl
    have hP : va_P G.1 CL ([(o, .inl (G.2 5, 1, .inr (.inl of)))] ++ (WA ++ [])) H := P_perm hpm_3669 hP
    have hD : va_D A ([(o, .inl (G.2 5, 1, .inr (.inl of)))] ++ (WA ++ [])) := D_perm hpm_3669 hD
    rcases (show kx_3666 = 1 ∨ kx_3666 = 2 ∨ kx_3666 = 3 by omega) with rfl | rfl | rfl
    · have hcl9 : s.vm.findClass eN = some ce.cls := hcl
      refine vx_catch (name := eN) (E := eN) hown [] (⟨0, 12, 15, 24⟩ : ExceptionTableEntry) [(⟨0, 12, 19, 13⟩ : ExceptionTableEntry), (⟨0, 12, 23, 15⟩ : ExceptionTableEntry)] (by rw [htab]; rfl) (fun z hz => absurd hz List.not_mem_nil) (by decide) (by decide) (hts _ q1013) (va_Nw.use rfl (hKB.nest q334 rfl)) hce hcv hcl9 ?_
      refine W.eq (g2 := F0 m 15 ls [.ref q9]) rfl ?_
      refine lv_astore (lv' := [(5, .ref q9), (0, .ref d), (1, .int v), (2, .int z), (3, .int w), (4, .ref o)]) hx hb dX0_addPart_15 hl (by decide) rfl (fun ls hl => ?_)
      refine lv_iconst (v := nI 1) hx hb dX0_addPart_17 (by decide) ?_
      refine vx_ret ?_
      have hpm_3670 : (([(o, .inl (G.2 5, 1, .inr (.inl of)))] ++ (WA ++ [])) : va_W).Perm (([(o, .inl (G.2 5, 1, .inr (.inl of)))] ++ (WA ++ [])) ++ []) := segs_perm [[(o, .inl (G.2 5, 1, .inr (.inl of)))], WA] [0, 1] [] rfl
      have hP9 : va_P G.1 CL ([(o, .inl (G.2 5, 1, .inr (.inl of)))] ++ (WA ++ [])) H := P_left (P_perm hpm_3670 hP)
      have hD9 : va_D A ([(o, .inl (G.2 5, 1, .inr (.inl of)))] ++ (WA ++ [])) := D_left (D_perm hpm_3670 hD)
      exact end_i hx hb hr hlk (rfl) (qc_of (of, S, WA) (v := some (.int (nI 1))) (by rw [hq_3667]) (⟨fun z9 => absurd (hq_3667.symm.trans z9) (by decide), NxS.no (fun z9 => absurd (hq_3667.symm.trans z9) (by decide)), by rw [hq_3667]; decide, h⟩) hP9 hD9 (trivial) hS) hS dX0_addPart_18 (show 0 + (5 + 101) ≤ 5 + 101 from by first | exact Nat.le_refl _ | decide | omega) (show 0 + (90 + 5800) ≤ 90 + 5800 from by first | exact Nat.le_refl _ | decide | omega)
    · have hcl9 : s.vm.findClass eA = some ce.cls := hcl
      refine vx_catch (name := eA) (E := eA) hown [(⟨0, 12, 15, 24⟩ : ExceptionTableEntry)] (⟨0, 12, 19, 13⟩ : ExceptionTableEntry) [(⟨0, 12, 23, 15⟩ : ExceptionTableEntry)] (by rw [htab]; rfl) (fun z hz => by rcases List.mem_singleton.mp hz with rfl; exact Or.inr ⟨by decide, _, hts _ q1013, hNc _ (List.mem_of_getElem? (i := 1) rfl)⟩) (by decide) (by decide) (hts _ q680) (va_Nw.use rfl (hKB.nest q698 rfl)) hce hcv hcl9 ?_
      refine W.eq (g2 := F0 m 19 ls [.ref q9]) rfl ?_
      refine lv_astore (lv' := [(5, .ref q9), (0, .ref d), (1, .int v), (2, .int z), (3, .int w), (4, .ref o)]) hx hb dX0_addPart_19 hl (by decide) rfl (fun ls hl => ?_)
      refine lv_iconst (v := nI 2) hx hb dX0_addPart_21 (by decide) ?_
      refine vx_ret ?_
      have hpm_3671 : (([(o, .inl (G.2 5, 1, .inr (.inl of)))] ++ (WA ++ [])) : va_W).Perm (([(o, .inl (G.2 5, 1, .inr (.inl of)))] ++ (WA ++ [])) ++ []) := segs_perm [[(o, .inl (G.2 5, 1, .inr (.inl of)))], WA] [0, 1] [] rfl
      have hP9 : va_P G.1 CL ([(o, .inl (G.2 5, 1, .inr (.inl of)))] ++ (WA ++ [])) H := P_left (P_perm hpm_3671 hP)
      have hD9 : va_D A ([(o, .inl (G.2 5, 1, .inr (.inl of)))] ++ (WA ++ [])) := D_left (D_perm hpm_3671 hD)
      exact end_i hx hb hr hlk (rfl) (qc_of (of, S, WA) (v := some (.int (nI 2))) (by rw [hq_3667]) (⟨fun z9 => absurd (hq_3667.symm.trans z9) (by decide), NxS.no (fun z9 => absurd (hq_3667.symm.trans z9) (by decide)), by rw [hq_3667]; decide, h⟩) hP9 hD9 (trivial) hS) hS dX0_addPart_22 (show 0 + (5 + 101) ≤ 5 + 101 from by first | exact Nat.le_refl _ | decide | omega) (show 0 + (90 + 5800) ≤ 90 + 5800 from by first | exact Nat.le_refl _ | decide | omega)
    · have hcl9 : s.vm.findClass eS9 = some ce.cls := hcl
      refine vx_catch (name := eS9) (E := eS9) hown [(⟨0, 12, 15, 24⟩ : ExceptionTableEntry), (⟨0, 12, 19, 13⟩ : ExceptionTableEntry)] (⟨0, 12, 23, 15⟩ : ExceptionTableEntry) [] (by rw [htab]; rfl) (fun z hz => by rcases List.mem_cons.mp hz with rfl | hz; exact Or.inr ⟨by decide, _, hts _ q1013, hNc _ (List.mem_of_getElem? (i := 2) rfl)⟩; rcases List.mem_singleton.mp hz with rfl; exact Or.inr ⟨by decide, _, hts _ q680, hNc _ (List.mem_of_getElem? (i := 0) rfl)⟩) (by decide) (by decide) (hts _ q681) (va_Nw.use rfl (hKB.nest q577 rfl)) hce hcv hcl9 ?_
      refine W.eq (g2 := F0 m 23 ls [.ref q9]) rfl ?_
      refine lv_astore (lv' := [(5, .ref q9), (0, .ref d), (1, .int v), (2, .int z), (3, .int w), (4, .ref o)]) hx hb dX0_addPart_23 hl (by decide) rfl (fun ls hl => ?_)
      refine lv_iconst (v := nI 3) hx hb dX0_addPart_25 (by decide) ?_
      refine vx_ret ?_
      have hpm_3672 : (([(o, .inl (G.2 5, 1, .inr (.inl of)))] ++ (WA ++ [])) : va_W).Perm (([(o, .inl (G.2 5, 1, .inr (.inl of)))] ++ (WA ++ [])) ++ []) := segs_perm [[(o, .inl (G.2 5, 1, .inr (.inl of)))], WA] [0, 1] [] rfl
      have hP9 : va_P G.1 CL ([(o, .inl (G.2 5, 1, .inr (.inl of)))] ++ (WA ++ [])) H := P_left (P_perm hpm_3672 hP)
      have hD9 : va_D A ([(o, .inl (G.2 5, 1, .inr (.inl of)))] ++ (WA ++ [])) := D_left (D_perm hpm_3672 hD)
      exact end_i hx hb hr hlk (rfl) (qc_of (of, S, WA) (v := some (.int (nI 3))) (by rw [hq_3667]) (⟨fun z9 => absurd (hq_3667.symm.trans z9) (by decide), NxS.no (fun z9 => absurd (hq_3667.symm.trans z9) (by decide)), by rw [hq_3667]; decide, h⟩) hP9 hD9 (trivial) hS) hS dX0_addPart_26 (show 0 + (5 + 101) ≤ 5 + 101 from by first | exact Nat.le_refl _ | decide | omega) (show 0 + (90 + 5800) ≤ 90 + 5800 from by first | exact Nat.le_refl _ | decide | omega)
  · obtain ⟨rr_3663, B2_3664, W2_3665⟩ := u_
    obtain ⟨hq_3673, hq_3674, hq_3675, hq_3676⟩ : (o_addPart (dC S) v z w).1 = 0 ∧ rr_3663 = (o_addPart (dC S) v z w).2.1 ∧ Sim (o_addPart (dC S) v z w).2.2 B2_3664 ∧ DyW G d ((B2_3664, dS S, min 6 (dK S + 1), hsR (dH S) (dK S) (dC S), dL S, dN S) : DS) W2_3665 := hq
    have hpm_3677 : ([(o, .inl (G.2 5, 1, .inr (.inl of)))] ++ (W2_3665 ++ []) : va_W).Perm ([(o, .inl (G.2 5, 1, .inr (.inl of)))] ++ (W2_3665 ++ [])) := segs_perm2 [[(o, .inl (G.2 5, 1, .inr (.inl of)))]] [W2_3665] [0, 1] rfl
    have hP : va_P G.1 CL ([(o, .inl (G.2 5, 1, .inr (.inl of)))] ++ (W2_3665 ++ [])) H := P_perm hpm_3677 hP
    have hD : va_D A ([(o, .inl (G.2 5, 1, .inr (.inl of)))] ++ (W2_3665 ++ [])) := D_perm hpm_3677 hD
    refine W.eq (g2 := F0 m 10 ls [.int rr_3663, .int (nI 0), .ref o]) rfl ?_
    refine lv_i2l (v := (rr_3663).toInt64) hx hb dX0_addPart_10 rfl ?_
    refine r_last hx hb hK hP hD hS 0 5 rfl rfl (i := 0) (by omega) (by omega) dX0_addPart_11 (fun H locs (hP : va_P G.1 CL ([(o, .inl (G.2 5, 1, .inr (.inl (vp_updL of 0 ((rr_3663).toInt64)))))] ++ (W2_3665 ++ [])) H) (hD : va_D A ([(o, .inl (G.2 5, 1, .inr (.inl (vp_updL of 0 ((rr_3663).toInt64)))))] ++ (W2_3665 ++ []))) hS => ?_)
    refine lv_goto (tgt := 27) hx hb dX0_addPart_12 (by decide) ?_
    refine lv_iconst (v := nI 0) hx hb dX0_addPart_27 (by decide) ?_
    refine vx_ret ?_
    have hpm_3678 : (([(o, .inl (G.2 5, 1, .inr (.inl (vp_updL of 0 ((rr_3663).toInt64)))))] ++ (W2_3665 ++ [])) : va_W).Perm (([(o, .inl (G.2 5, 1, .inr (.inl (vp_updL of 0 ((rr_3663).toInt64)))))] ++ (W2_3665 ++ [])) ++ []) := segs_perm [[(o, .inl (G.2 5, 1, .inr (.inl (vp_updL of 0 ((rr_3663).toInt64)))))], W2_3665] [0, 1] [] rfl
    have hP9 : va_P G.1 CL ([(o, .inl (G.2 5, 1, .inr (.inl (vp_updL of 0 ((rr_3663).toInt64)))))] ++ (W2_3665 ++ [])) H := P_left (P_perm hpm_3678 hP)
    have hD9 : va_D A ([(o, .inl (G.2 5, 1, .inr (.inl (vp_updL of 0 ((rr_3663).toInt64)))))] ++ (W2_3665 ++ [])) := D_left (D_perm hpm_3678 hD)
    exact end_i hx hb hr hlk (rfl) (qc_of (vp_updL of 0 ((rr_3663).toInt64), ((B2_3664, dS S, min 6 (dK S + 1), hsR (dH S) (dK S) (dC S), dL S, dN S) : DS), W2_3665) (v := some (.int (nI 0))) (by rw [hq_3673]) (⟨fun _ => by rw [← hq_3674]; exact pk_uLs, NxS.yes hq_3673 hq_3675, by rw [hq_3673]; decide, hq_3676⟩) hP9 hD9 (trivial) hS) hS dX0_addPart_28 (show 0 + (5 + 101) ≤ 5 + 101 from by first | exact Nat.le_refl _ | decide | omega) (show 0 + (90 + 5800) ≤ 90 + 5800 from by first | exact Nat.le_refl _ | decide | omega)

set_option maxHeartbeats 4000000 in
theorem wX0_clearParts (l : Launch) (G : Gt) (d : Nat) (S : DS) (WA : va_W) (o : Nat) (of : Nat → Int64) (v : Int32) (h : DyW G d S WA) (hfl : l.stackTraces = false) : CTW l G yX0_clearParts cX0_clearParts 4 (some .int) [(0, 9, 12, 24)] ({ frames := 10, cells := 5 + 101, slots := 70 + 5800, locals := 234 } : Room) [.ref d, .int v, .ref o] ([(o, .inl (G.2 5, 1, .inr (.inl of)))] ++ (WA ++ [])) RH0 (S := (Nat → Int64) × DS × va_W) (fun (u_ : (Nat → Int64) × DS × va_W) => some (.int (nI ((o_clear (dC S) v).1)))) (fun (u_ : (Nat → Int64) × DS × va_W) => ((o_clear (dC S) v).1 = 0 → u_.1 0 = ((o_clear (dC S) v).2.1).toInt64) ∧ NxS S (o_clear (dC S) v) u_.2.1 ∧ (o_clear (dC S) v).1 < 10 ∧ DyW G d u_.2.1 u_.2.2) (fun (u_ : (Nat → Int64) × DS × va_W) => ([(o, .inl (G.2 5, 1, .inr (.inl u_.1)))] ++ (u_.2.2 ++ []))) (fun (u_ : (Nat → Int64) × DS × va_W) (H : Heap) => True) := by
  refine CTW.of (by decide) (Nat.le_of_ble_eq_true rfl) ?_
  intro p e s m below meth c ls A H locs h9 hH0 hP hS hNc htab
  obtain ⟨cf, hr, hlk, hnm, hKB, hE, -, hD, -, hA, hAw, hRH, hl⟩ := h9
  have hx := cf.1
  have hb := cf.2.1
  have hml := cf.2.2.1
  have hown : s.vm.findClass RX0 = some m.cls := cf.2.2.2.1
  have hts := cf.2.2.2.2
  have hK := hKB.1
  have hl : lv_has ls 4 [(0, .ref d), (1, .int v), (2, .ref o)] := hl
  refine lv_aload_n hx hb dX0_clearParts_0 rfl (lv_at hl 2 rfl) ?_
  refine lv_iconst (v := nI 0) hx hb dX0_clearParts_1 (by decide) ?_
  refine lv_aload_n hx hb dX0_clearParts_2 rfl (lv_at hl 0 rfl) ?_
  refine lv_iload_n hx hb dX0_clearParts_3 rfl (lv_at hl 1 rfl) ?_
  have hpm_3679 : (([(o, .inl (G.2 5, 1, .inr (.inl of)))] ++ (WA ++ [])) : va_W).Perm ((WA ++ []) ++ [(o, .inl (G.2 5, 1, .inr (.inl of)))]) := segs_perm [[(o, .inl (G.2 5, 1, .inr (.inl of)))], WA] [1] [0] rfl
  have hF := hF_ofP (wc := (WA ++ [])) hD hS hA hpm_3679
  refine go_cxP hS hP hD hpm_3679 hF
      (vx_runV (As := [.int v]) (rest := [.int (nI 0), .ref o]) cf (dX1_clearParts l G d S WA v (show DyW G d S WA from by first | assumption | omega) hfl H.size) (cwV 1 hts (lw_V q1160 q1161 q1162 q47 q1163) rfl rfl rfl (by decide +kernel) ⟨Nat.le_of_ble_eq_true rfl, Nat.le_of_ble_eq_true rfl⟩) (preV_of hKB hE hS hF (DyW.recv hK h (seg_at [[(o, .inl (G.2 5, 1, .inr (.inl of)))], WA] 1 rfl hP)) (P_left (P_perm hpm_3679 hP)) ((D_left (D_perm hpm_3679 hD)).weaken (fun _ _ _ _ => trivial)) trivial) rfl rfl hl.1 rfl (lv_room (Nat.le_of_ble_eq_true rfl)) dX0_clearParts_4 ⟨show 0 + (5 + 101) ≤ 5 + 101 from by first | decide | omega, show 0 + (70 + 5800) ≤ 70 + 5800 from by first | decide | omega⟩)
      (fun u_ H locs ce q9 hq hph (hP : va_P G.1 CL ([(o, .inl (G.2 5, 1, .inr (.inl of)))] ++ (WA ++ [])) H) (hD : va_D A ([(o, .inl (G.2 5, 1, .inr (.inl of)))] ++ (WA ++ []))) hS hfz hfk hce hcv hcl => ?_) (fun u_ H locs hq hph (hP : va_P G.1 CL ([(o, .inl (G.2 5, 1, .inr (.inl of)))] ++ (u_.2.2 ++ [])) H) (hD : va_D A ([(o, .inl (G.2 5, 1, .inr (.inl of)))] ++ (u_.2.2 ++ []))) hS hfz hfk => ?_)
  · obtain ⟨kx_3683, rfl⟩ : ∃ z, z = u_ := ⟨_, rfl⟩
    obtain ⟨hq_3684, hq_3685⟩ : (o_clear (dC S) v).1 = kx_3683 ∧ 1 ≤ kx_3683 ∧ kx_3683 ≤ 1 := hq
    have hpm_3686 : ([(o, .inl (G.2 5, 1, .inr (.inl of)))] ++ (WA ++ []) : va_W).Perm ([(o, .inl (G.2 5, 1, .inr (.inl of)))] ++ (WA ++ [])) := segs_perm2 [[(o, .inl (G.2 5, 1, .inr (.inl of)))]] [WA] [0, 1] rfl
    have hP : va_P G.1 CL ([(o, .inl (G.2 5, 1, .inr (.inl of)))] ++ (WA ++ [])) H := P_perm hpm_3686 hP
    have hD : va_D A ([(o, .inl (G.2 5, 1, .inr (.inl of)))] ++ (WA ++ [])) := D_perm hpm_3686 hD
    obtain rfl : kx_3683 = 1 := by omega
    have hcl9 : s.vm.findClass eN = some ce.cls := hcl
    refine vx_catch (name := eN) (E := eN) hown [] (⟨0, 9, 12, 24⟩ : ExceptionTableEntry) [] (by rw [htab]; rfl) (fun z hz => absurd hz List.not_mem_nil) (by decide) (by decide) (hts _ q1013) (va_Nw.use rfl (hKB.nest q334 rfl)) hce hcv hcl9 ?_
    refine W.eq (g2 := F0 m 12 ls [.ref q9]) rfl ?_
    refine lv_astore_n (lv' := [(3, .ref q9), (0, .ref d), (1, .int v), (2, .ref o)]) hx hb dX0_clearParts_12 rfl hl (by decide) rfl (fun ls hl => ?_)
    refine lv_iconst (v := nI 1) hx hb dX0_clearParts_13 (by decide) ?_
    refine vx_ret ?_
    have hpm_3687 : (([(o, .inl (G.2 5, 1, .inr (.inl of)))] ++ (WA ++ [])) : va_W).Perm (([(o, .inl (G.2 5, 1, .inr (.inl of)))] ++ (WA ++ [])) ++ []) := segs_perm [[(o, .inl (G.2 5, 1, .inr (.inl of)))], WA] [0, 1] [] rfl
    have hP9 : va_P G.1 CL ([(o, .inl (G.2 5, 1, .inr (.inl of)))] ++ (WA ++ [])) H := P_left (P_perm hpm_3687 hP)
    have hD9 : va_D A ([(o, .inl (G.2 5, 1, .inr (.inl of)))] ++ (WA ++ [])) := D_left (D_perm hpm_3687 hD)
    exact end_i hx hb hr hlk (rfl) (qc_of (of, S, WA) (v := some (.int (nI 1))) (by rw [hq_3684]) (⟨fun z9 => absurd (hq_3684.symm.trans z9) (by decide), NxS.no (fun z9 => absurd (hq_3684.symm.trans z9) (by decide)), by rw [hq_3684]; decide, h⟩) hP9 hD9 (trivial) hS) hS dX0_clearParts_14 (show 0 + (5 + 101) ≤ 5 + 101 from by first | exact Nat.le_refl _ | decide | omega) (show 0 + (70 + 5800) ≤ 70 + 5800 from by first | exact Nat.le_refl _ | decide | omega)
  · obtain ⟨rr_3680, B2_3681, W2_3682⟩ := u_
    obtain ⟨hq_3688, hq_3689, hq_3690, hq_3691⟩ : (o_clear (dC S) v).1 = 0 ∧ rr_3680 = (o_clear (dC S) v).2.1 ∧ Sim (o_clear (dC S) v).2.2 B2_3681 ∧ DyW G d ((B2_3681, dS S, min 6 (dK S + 1), hsR (dH S) (dK S) (dC S), dL S, dN S) : DS) W2_3682 := hq
    have hpm_3692 : ([(o, .inl (G.2 5, 1, .inr (.inl of)))] ++ (W2_3682 ++ []) : va_W).Perm ([(o, .inl (G.2 5, 1, .inr (.inl of)))] ++ (W2_3682 ++ [])) := segs_perm2 [[(o, .inl (G.2 5, 1, .inr (.inl of)))]] [W2_3682] [0, 1] rfl
    have hP : va_P G.1 CL ([(o, .inl (G.2 5, 1, .inr (.inl of)))] ++ (W2_3682 ++ [])) H := P_perm hpm_3692 hP
    have hD : va_D A ([(o, .inl (G.2 5, 1, .inr (.inl of)))] ++ (W2_3682 ++ [])) := D_perm hpm_3692 hD
    refine W.eq (g2 := F0 m 7 ls [.int rr_3680, .int (nI 0), .ref o]) rfl ?_
    refine lv_i2l (v := (rr_3680).toInt64) hx hb dX0_clearParts_7 rfl ?_
    refine r_last hx hb hK hP hD hS 0 5 rfl rfl (i := 0) (by omega) (by omega) dX0_clearParts_8 (fun H locs (hP : va_P G.1 CL ([(o, .inl (G.2 5, 1, .inr (.inl (vp_updL of 0 ((rr_3680).toInt64)))))] ++ (W2_3682 ++ [])) H) (hD : va_D A ([(o, .inl (G.2 5, 1, .inr (.inl (vp_updL of 0 ((rr_3680).toInt64)))))] ++ (W2_3682 ++ []))) hS => ?_)
    refine lv_goto (tgt := 15) hx hb dX0_clearParts_9 (by decide) ?_
    refine lv_iconst (v := nI 0) hx hb dX0_clearParts_15 (by decide) ?_
    refine vx_ret ?_
    have hpm_3693 : (([(o, .inl (G.2 5, 1, .inr (.inl (vp_updL of 0 ((rr_3680).toInt64)))))] ++ (W2_3682 ++ [])) : va_W).Perm (([(o, .inl (G.2 5, 1, .inr (.inl (vp_updL of 0 ((rr_3680).toInt64)))))] ++ (W2_3682 ++ [])) ++ []) := segs_perm [[(o, .inl (G.2 5, 1, .inr (.inl (vp_updL of 0 ((rr_3680).toInt64)))))], W2_3682] [0, 1] [] rfl
    have hP9 : va_P G.1 CL ([(o, .inl (G.2 5, 1, .inr (.inl (vp_updL of 0 ((rr_3680).toInt64)))))] ++ (W2_3682 ++ [])) H := P_left (P_perm hpm_3693 hP)
    have hD9 : va_D A ([(o, .inl (G.2 5, 1, .inr (.inl (vp_updL of 0 ((rr_3680).toInt64)))))] ++ (W2_3682 ++ [])) := D_left (D_perm hpm_3693 hD)
    exact end_i hx hb hr hlk (rfl) (qc_of (vp_updL of 0 ((rr_3680).toInt64), ((B2_3681, dS S, min 6 (dK S + 1), hsR (dH S) (dK S) (dC S), dL S, dN S) : DS), W2_3682) (v := some (.int (nI 0))) (by rw [hq_3688]) (⟨fun _ => by rw [← hq_3689]; exact pk_uLs, NxS.yes hq_3688 hq_3690, by rw [hq_3688]; decide, hq_3691⟩) hP9 hD9 (trivial) hS) hS dX0_clearParts_16 (show 0 + (5 + 101) ≤ 5 + 101 from by first | exact Nat.le_refl _ | decide | omega) (show 0 + (70 + 5800) ≤ 70 + 5800 from by first | exact Nat.le_refl _ | decide | omega)

set_option maxHeartbeats 4000000 in
theorem wX0_moveSession (l : Launch) (G : Gt) (d : Nat) (S : DS) (WA : va_W) (o : Nat) (of : Nat → Int64) (v : Int32) (w : Int32) (h : DyW G d S WA) (hfl : l.stackTraces = false) : CTW l G yX0_moveSession cX0_moveSession 5 (some .int) [(0, 10, 13, 24), (0, 10, 17, 13)] ({ frames := 10, cells := 3 + 101, slots := 70 + 5800, locals := 236 } : Room) [.ref d, .int v, .int w, .ref o] ([(o, .inl (G.2 5, 1, .inr (.inl of)))] ++ (WA ++ [])) RH0 (S := (Nat → Int64) × DS × va_W) (fun (u_ : (Nat → Int64) × DS × va_W) => some (.int (nI ((o_move (dC S) v w).1)))) (fun (u_ : (Nat → Int64) × DS × va_W) => ((o_move (dC S) v w).1 = 0 → u_.1 0 = ((o_move (dC S) v w).2.1).toInt64) ∧ NxS S (o_move (dC S) v w) u_.2.1 ∧ (o_move (dC S) v w).1 < 10 ∧ DyW G d u_.2.1 u_.2.2) (fun (u_ : (Nat → Int64) × DS × va_W) => ([(o, .inl (G.2 5, 1, .inr (.inl u_.1)))] ++ (u_.2.2 ++ []))) (fun (u_ : (Nat → Int64) × DS × va_W) (H : Heap) => True) := by
  refine CTW.of (by decide) (Nat.le_of_ble_eq_true rfl) ?_
  intro p e s m below meth c ls A H locs h9 hH0 hP hS hNc htab
  obtain ⟨cf, hr, hlk, hnm, hKB, hE, -, hD, -, hA, hAw, hRH, hl⟩ := h9
  have hx := cf.1
  have hb := cf.2.1
  have hml := cf.2.2.1
  have hown : s.vm.findClass RX0 = some m.cls := cf.2.2.2.1
  have hts := cf.2.2.2.2
  have hK := hKB.1
  have hl : lv_has ls 5 [(0, .ref d), (1, .int v), (2, .int w), (3, .ref o)] := hl
  refine lv_aload_n hx hb dX0_moveSession_0 rfl (lv_at hl 3 rfl) ?_
  refine lv_iconst (v := nI 0) hx hb dX0_moveSession_1 (by decide) ?_
  refine lv_aload_n hx hb dX0_moveSession_2 rfl (lv_at hl 0 rfl) ?_
  refine lv_iload_n hx hb dX0_moveSession_3 rfl (lv_at hl 1 rfl) ?_
  refine lv_iload_n hx hb dX0_moveSession_4 rfl (lv_at hl 2 rfl) ?_
  have hpm_3694 : (([(o, .inl (G.2 5, 1, .inr (.inl of)))] ++ (WA ++ [])) : va_W).Perm ((WA ++ []) ++ [(o, .inl (G.2 5, 1, .inr (.inl of)))]) := segs_perm [[(o, .inl (G.2 5, 1, .inr (.inl of)))], WA] [1] [0] rfl
  have hF := hF_ofP (wc := (WA ++ [])) hD hS hA hpm_3694
  refine go_cxP hS hP hD hpm_3694 hF
      (vx_runV (As := [.int v, .int w]) (rest := [.int (nI 0), .ref o]) cf (dX1_moveSession l G d S WA v w (show DyW G d S WA from by first | assumption | omega) hfl H.size) (cwV 2 hts (lw_V q1171 q1172 q1173 q47 q1174) rfl rfl rfl (by decide +kernel) ⟨Nat.le_of_ble_eq_true rfl, Nat.le_of_ble_eq_true rfl⟩) (preV_of hKB hE hS hF (DyW.recv hK h (seg_at [[(o, .inl (G.2 5, 1, .inr (.inl of)))], WA] 1 rfl hP)) (P_left (P_perm hpm_3694 hP)) ((D_left (D_perm hpm_3694 hD)).weaken (fun _ _ _ _ => trivial)) trivial) rfl rfl hl.1 rfl (lv_room (Nat.le_of_ble_eq_true rfl)) dX0_moveSession_5 ⟨show 0 + (3 + 101) ≤ 3 + 101 from by first | decide | omega, show 0 + (70 + 5800) ≤ 70 + 5800 from by first | decide | omega⟩)
      (fun u_ H locs ce q9 hq hph (hP : va_P G.1 CL ([(o, .inl (G.2 5, 1, .inr (.inl of)))] ++ (WA ++ [])) H) (hD : va_D A ([(o, .inl (G.2 5, 1, .inr (.inl of)))] ++ (WA ++ []))) hS hfz hfk hce hcv hcl => ?_) (fun u_ H locs hq hph (hP : va_P G.1 CL ([(o, .inl (G.2 5, 1, .inr (.inl of)))] ++ (u_.2.2 ++ [])) H) (hD : va_D A ([(o, .inl (G.2 5, 1, .inr (.inl of)))] ++ (u_.2.2 ++ []))) hS hfz hfk => ?_)
  · obtain ⟨kx_3698, rfl⟩ : ∃ z, z = u_ := ⟨_, rfl⟩
    obtain ⟨hq_3699, hq_3700⟩ : (o_move (dC S) v w).1 = kx_3698 ∧ 1 ≤ kx_3698 ∧ kx_3698 ≤ 2 := hq
    have hpm_3701 : ([(o, .inl (G.2 5, 1, .inr (.inl of)))] ++ (WA ++ []) : va_W).Perm ([(o, .inl (G.2 5, 1, .inr (.inl of)))] ++ (WA ++ [])) := segs_perm2 [[(o, .inl (G.2 5, 1, .inr (.inl of)))]] [WA] [0, 1] rfl
    have hP : va_P G.1 CL ([(o, .inl (G.2 5, 1, .inr (.inl of)))] ++ (WA ++ [])) H := P_perm hpm_3701 hP
    have hD : va_D A ([(o, .inl (G.2 5, 1, .inr (.inl of)))] ++ (WA ++ [])) := D_perm hpm_3701 hD
    rcases (show kx_3698 = 1 ∨ kx_3698 = 2 by omega) with rfl | rfl
    · have hcl9 : s.vm.findClass eN = some ce.cls := hcl
      refine vx_catch (name := eN) (E := eN) hown [] (⟨0, 10, 13, 24⟩ : ExceptionTableEntry) [(⟨0, 10, 17, 13⟩ : ExceptionTableEntry)] (by rw [htab]; rfl) (fun z hz => absurd hz List.not_mem_nil) (by decide) (by decide) (hts _ q1013) (va_Nw.use rfl (hKB.nest q334 rfl)) hce hcv hcl9 ?_
      refine W.eq (g2 := F0 m 13 ls [.ref q9]) rfl ?_
      refine lv_astore (lv' := [(4, .ref q9), (0, .ref d), (1, .int v), (2, .int w), (3, .ref o)]) hx hb dX0_moveSession_13 hl (by decide) rfl (fun ls hl => ?_)
      refine lv_iconst (v := nI 1) hx hb dX0_moveSession_15 (by decide) ?_
      refine vx_ret ?_
      have hpm_3702 : (([(o, .inl (G.2 5, 1, .inr (.inl of)))] ++ (WA ++ [])) : va_W).Perm (([(o, .inl (G.2 5, 1, .inr (.inl of)))] ++ (WA ++ [])) ++ []) := segs_perm [[(o, .inl (G.2 5, 1, .inr (.inl of)))], WA] [0, 1] [] rfl
      have hP9 : va_P G.1 CL ([(o, .inl (G.2 5, 1, .inr (.inl of)))] ++ (WA ++ [])) H := P_left (P_perm hpm_3702 hP)
      have hD9 : va_D A ([(o, .inl (G.2 5, 1, .inr (.inl of)))] ++ (WA ++ [])) := D_left (D_perm hpm_3702 hD)
      exact end_i hx hb hr hlk (rfl) (qc_of (of, S, WA) (v := some (.int (nI 1))) (by rw [hq_3699]) (⟨fun z9 => absurd (hq_3699.symm.trans z9) (by decide), NxS.no (fun z9 => absurd (hq_3699.symm.trans z9) (by decide)), by rw [hq_3699]; decide, h⟩) hP9 hD9 (trivial) hS) hS dX0_moveSession_16 (show 0 + (3 + 101) ≤ 3 + 101 from by first | exact Nat.le_refl _ | decide | omega) (show 0 + (70 + 5800) ≤ 70 + 5800 from by first | exact Nat.le_refl _ | decide | omega)
    · have hcl9 : s.vm.findClass eA = some ce.cls := hcl
      refine vx_catch (name := eA) (E := eA) hown [(⟨0, 10, 13, 24⟩ : ExceptionTableEntry)] (⟨0, 10, 17, 13⟩ : ExceptionTableEntry) [] (by rw [htab]; rfl) (fun z hz => by rcases List.mem_singleton.mp hz with rfl; exact Or.inr ⟨by decide, _, hts _ q1013, hNc _ (List.mem_of_getElem? (i := 1) rfl)⟩) (by decide) (by decide) (hts _ q680) (va_Nw.use rfl (hKB.nest q698 rfl)) hce hcv hcl9 ?_
      refine W.eq (g2 := F0 m 17 ls [.ref q9]) rfl ?_
      refine lv_astore (lv' := [(4, .ref q9), (0, .ref d), (1, .int v), (2, .int w), (3, .ref o)]) hx hb dX0_moveSession_17 hl (by decide) rfl (fun ls hl => ?_)
      refine lv_iconst (v := nI 2) hx hb dX0_moveSession_19 (by decide) ?_
      refine vx_ret ?_
      have hpm_3703 : (([(o, .inl (G.2 5, 1, .inr (.inl of)))] ++ (WA ++ [])) : va_W).Perm (([(o, .inl (G.2 5, 1, .inr (.inl of)))] ++ (WA ++ [])) ++ []) := segs_perm [[(o, .inl (G.2 5, 1, .inr (.inl of)))], WA] [0, 1] [] rfl
      have hP9 : va_P G.1 CL ([(o, .inl (G.2 5, 1, .inr (.inl of)))] ++ (WA ++ [])) H := P_left (P_perm hpm_3703 hP)
      have hD9 : va_D A ([(o, .inl (G.2 5, 1, .inr (.inl of)))] ++ (WA ++ [])) := D_left (D_perm hpm_3703 hD)
      exact end_i hx hb hr hlk (rfl) (qc_of (of, S, WA) (v := some (.int (nI 2))) (by rw [hq_3699]) (⟨fun z9 => absurd (hq_3699.symm.trans z9) (by decide), NxS.no (fun z9 => absurd (hq_3699.symm.trans z9) (by decide)), by rw [hq_3699]; decide, h⟩) hP9 hD9 (trivial) hS) hS dX0_moveSession_20 (show 0 + (3 + 101) ≤ 3 + 101 from by first | exact Nat.le_refl _ | decide | omega) (show 0 + (70 + 5800) ≤ 70 + 5800 from by first | exact Nat.le_refl _ | decide | omega)
  · obtain ⟨rr_3695, B2_3696, W2_3697⟩ := u_
    obtain ⟨hq_3704, hq_3705, hq_3706, hq_3707⟩ : (o_move (dC S) v w).1 = 0 ∧ rr_3695 = (o_move (dC S) v w).2.1 ∧ Sim (o_move (dC S) v w).2.2 B2_3696 ∧ DyW G d ((B2_3696, dS S, min 6 (dK S + 1), hsR (dH S) (dK S) (dC S), dL S, dN S) : DS) W2_3697 := hq
    have hpm_3708 : ([(o, .inl (G.2 5, 1, .inr (.inl of)))] ++ (W2_3697 ++ []) : va_W).Perm ([(o, .inl (G.2 5, 1, .inr (.inl of)))] ++ (W2_3697 ++ [])) := segs_perm2 [[(o, .inl (G.2 5, 1, .inr (.inl of)))]] [W2_3697] [0, 1] rfl
    have hP : va_P G.1 CL ([(o, .inl (G.2 5, 1, .inr (.inl of)))] ++ (W2_3697 ++ [])) H := P_perm hpm_3708 hP
    have hD : va_D A ([(o, .inl (G.2 5, 1, .inr (.inl of)))] ++ (W2_3697 ++ [])) := D_perm hpm_3708 hD
    refine W.eq (g2 := F0 m 8 ls [.int rr_3695, .int (nI 0), .ref o]) rfl ?_
    refine lv_i2l (v := (rr_3695).toInt64) hx hb dX0_moveSession_8 rfl ?_
    refine r_last hx hb hK hP hD hS 0 5 rfl rfl (i := 0) (by omega) (by omega) dX0_moveSession_9 (fun H locs (hP : va_P G.1 CL ([(o, .inl (G.2 5, 1, .inr (.inl (vp_updL of 0 ((rr_3695).toInt64)))))] ++ (W2_3697 ++ [])) H) (hD : va_D A ([(o, .inl (G.2 5, 1, .inr (.inl (vp_updL of 0 ((rr_3695).toInt64)))))] ++ (W2_3697 ++ []))) hS => ?_)
    refine lv_goto (tgt := 21) hx hb dX0_moveSession_10 (by decide) ?_
    refine lv_iconst (v := nI 0) hx hb dX0_moveSession_21 (by decide) ?_
    refine vx_ret ?_
    have hpm_3709 : (([(o, .inl (G.2 5, 1, .inr (.inl (vp_updL of 0 ((rr_3695).toInt64)))))] ++ (W2_3697 ++ [])) : va_W).Perm (([(o, .inl (G.2 5, 1, .inr (.inl (vp_updL of 0 ((rr_3695).toInt64)))))] ++ (W2_3697 ++ [])) ++ []) := segs_perm [[(o, .inl (G.2 5, 1, .inr (.inl (vp_updL of 0 ((rr_3695).toInt64)))))], W2_3697] [0, 1] [] rfl
    have hP9 : va_P G.1 CL ([(o, .inl (G.2 5, 1, .inr (.inl (vp_updL of 0 ((rr_3695).toInt64)))))] ++ (W2_3697 ++ [])) H := P_left (P_perm hpm_3709 hP)
    have hD9 : va_D A ([(o, .inl (G.2 5, 1, .inr (.inl (vp_updL of 0 ((rr_3695).toInt64)))))] ++ (W2_3697 ++ [])) := D_left (D_perm hpm_3709 hD)
    exact end_i hx hb hr hlk (rfl) (qc_of (vp_updL of 0 ((rr_3695).toInt64), ((B2_3696, dS S, min 6 (dK S + 1), hsR (dH S) (dK S) (dC S), dL S, dN S) : DS), W2_3697) (v := some (.int (nI 0))) (by rw [hq_3704]) (⟨fun _ => by rw [← hq_3705]; exact pk_uLs, NxS.yes hq_3704 hq_3706, by rw [hq_3704]; decide, hq_3707⟩) hP9 hD9 (trivial) hS) hS dX0_moveSession_22 (show 0 + (3 + 101) ≤ 3 + 101 from by first | exact Nat.le_refl _ | decide | omega) (show 0 + (70 + 5800) ≤ 70 + 5800 from by first | exact Nat.le_refl _ | decide | omega)

set_option maxHeartbeats 4000000 in
theorem wX0_removeSession (l : Launch) (G : Gt) (d : Nat) (S : DS) (WA : va_W) (o : Nat) (of : Nat → Int64) (v : Int32) (h : DyW G d S WA) (hfl : l.stackTraces = false) : CTW l G yX0_removeSession cX0_removeSession 4 (some .int) [(0, 9, 12, 24)] ({ frames := 10, cells := 1 + 101, slots := 6 + 5800, locals := 232 } : Room) [.ref d, .int v, .ref o] ([(o, .inl (G.2 5, 1, .inr (.inl of)))] ++ (WA ++ [])) RH0 (S := (Nat → Int64) × DS × va_W) (fun (u_ : (Nat → Int64) × DS × va_W) => some (.int (nI ((o_remSes (dC S) v).1)))) (fun (u_ : (Nat → Int64) × DS × va_W) => ((o_remSes (dC S) v).1 = 0 → u_.1 0 = ((o_remSes (dC S) v).2.1).toInt64) ∧ NxS S (o_remSes (dC S) v) u_.2.1 ∧ (o_remSes (dC S) v).1 < 10 ∧ DyW G d u_.2.1 u_.2.2) (fun (u_ : (Nat → Int64) × DS × va_W) => ([(o, .inl (G.2 5, 1, .inr (.inl u_.1)))] ++ (u_.2.2 ++ []))) (fun (u_ : (Nat → Int64) × DS × va_W) (H : Heap) => True) := by
  refine CTW.of (by decide) (Nat.le_of_ble_eq_true rfl) ?_
  intro p e s m below meth c ls A H locs h9 hH0 hP hS hNc htab
  obtain ⟨cf, hr, hlk, hnm, hKB, hE, -, hD, -, hA, hAw, hRH, hl⟩ := h9
  have hx := cf.1
  have hb := cf.2.1
  have hml := cf.2.2.1
  have hown : s.vm.findClass RX0 = some m.cls := cf.2.2.2.1
  have hts := cf.2.2.2.2
  have hK := hKB.1
  have hl : lv_has ls 4 [(0, .ref d), (1, .int v), (2, .ref o)] := hl
  refine lv_aload_n hx hb dX0_removeSession_0 rfl (lv_at hl 2 rfl) ?_
  refine lv_iconst (v := nI 0) hx hb dX0_removeSession_1 (by decide) ?_
  refine lv_aload_n hx hb dX0_removeSession_2 rfl (lv_at hl 0 rfl) ?_
  refine lv_iload_n hx hb dX0_removeSession_3 rfl (lv_at hl 1 rfl) ?_
  have hpm_3710 : (([(o, .inl (G.2 5, 1, .inr (.inl of)))] ++ (WA ++ [])) : va_W).Perm ((WA ++ []) ++ [(o, .inl (G.2 5, 1, .inr (.inl of)))]) := segs_perm [[(o, .inl (G.2 5, 1, .inr (.inl of)))], WA] [1] [0] rfl
  have hF := hF_ofP (wc := (WA ++ [])) hD hS hA hpm_3710
  refine go_cxP hS hP hD hpm_3710 hF
      (vx_runV (As := [.int v]) (rest := [.int (nI 0), .ref o]) cf (dX1_removeSession l G d S WA v (show DyW G d S WA from by first | assumption | omega) hfl H.size) (cwV 1 hts (lw_V q1186 q1187 q1188 q47 q1189) rfl rfl rfl (by decide +kernel) ⟨Nat.le_of_ble_eq_true rfl, Nat.le_of_ble_eq_true rfl⟩) (preV_of hKB hE hS hF (DyW.recv hK h (seg_at [[(o, .inl (G.2 5, 1, .inr (.inl of)))], WA] 1 rfl hP)) (P_left (P_perm hpm_3710 hP)) ((D_left (D_perm hpm_3710 hD)).weaken (fun _ _ _ _ => trivial)) trivial) rfl rfl hl.1 rfl (lv_room (Nat.le_of_ble_eq_true rfl)) dX0_removeSession_4 ⟨show 0 + (1 + 101) ≤ 1 + 101 from by first | decide | omega, show 0 + (6 + 5800) ≤ 6 + 5800 from by first | decide | omega⟩)
      (fun u_ H locs ce q9 hq hph (hP : va_P G.1 CL ([(o, .inl (G.2 5, 1, .inr (.inl of)))] ++ (WA ++ [])) H) (hD : va_D A ([(o, .inl (G.2 5, 1, .inr (.inl of)))] ++ (WA ++ []))) hS hfz hfk hce hcv hcl => ?_) (fun u_ H locs hq hph (hP : va_P G.1 CL ([(o, .inl (G.2 5, 1, .inr (.inl of)))] ++ (u_.2.2 ++ [])) H) (hD : va_D A ([(o, .inl (G.2 5, 1, .inr (.inl of)))] ++ (u_.2.2 ++ []))) hS hfz hfk => ?_)
  · obtain ⟨kx_3714, rfl⟩ : ∃ z, z = u_ := ⟨_, rfl⟩
    obtain ⟨hq_3715, hq_3716⟩ : (o_remSes (dC S) v).1 = kx_3714 ∧ 1 ≤ kx_3714 ∧ kx_3714 ≤ 1 := hq
    have hpm_3717 : ([(o, .inl (G.2 5, 1, .inr (.inl of)))] ++ (WA ++ []) : va_W).Perm ([(o, .inl (G.2 5, 1, .inr (.inl of)))] ++ (WA ++ [])) := segs_perm2 [[(o, .inl (G.2 5, 1, .inr (.inl of)))]] [WA] [0, 1] rfl
    have hP : va_P G.1 CL ([(o, .inl (G.2 5, 1, .inr (.inl of)))] ++ (WA ++ [])) H := P_perm hpm_3717 hP
    have hD : va_D A ([(o, .inl (G.2 5, 1, .inr (.inl of)))] ++ (WA ++ [])) := D_perm hpm_3717 hD
    obtain rfl : kx_3714 = 1 := by omega
    have hcl9 : s.vm.findClass eN = some ce.cls := hcl
    refine vx_catch (name := eN) (E := eN) hown [] (⟨0, 9, 12, 24⟩ : ExceptionTableEntry) [] (by rw [htab]; rfl) (fun z hz => absurd hz List.not_mem_nil) (by decide) (by decide) (hts _ q1013) (va_Nw.use rfl (hKB.nest q334 rfl)) hce hcv hcl9 ?_
    refine W.eq (g2 := F0 m 12 ls [.ref q9]) rfl ?_
    refine lv_astore_n (lv' := [(3, .ref q9), (0, .ref d), (1, .int v), (2, .ref o)]) hx hb dX0_removeSession_12 rfl hl (by decide) rfl (fun ls hl => ?_)
    refine lv_iconst (v := nI 1) hx hb dX0_removeSession_13 (by decide) ?_
    refine vx_ret ?_
    have hpm_3718 : (([(o, .inl (G.2 5, 1, .inr (.inl of)))] ++ (WA ++ [])) : va_W).Perm (([(o, .inl (G.2 5, 1, .inr (.inl of)))] ++ (WA ++ [])) ++ []) := segs_perm [[(o, .inl (G.2 5, 1, .inr (.inl of)))], WA] [0, 1] [] rfl
    have hP9 : va_P G.1 CL ([(o, .inl (G.2 5, 1, .inr (.inl of)))] ++ (WA ++ [])) H := P_left (P_perm hpm_3718 hP)
    have hD9 : va_D A ([(o, .inl (G.2 5, 1, .inr (.inl of)))] ++ (WA ++ [])) := D_left (D_perm hpm_3718 hD)
    exact end_i hx hb hr hlk (rfl) (qc_of (of, S, WA) (v := some (.int (nI 1))) (by rw [hq_3715]) (⟨fun z9 => absurd (hq_3715.symm.trans z9) (by decide), NxS.no (fun z9 => absurd (hq_3715.symm.trans z9) (by decide)), by rw [hq_3715]; decide, h⟩) hP9 hD9 (trivial) hS) hS dX0_removeSession_14 (show 0 + (1 + 101) ≤ 1 + 101 from by first | exact Nat.le_refl _ | decide | omega) (show 0 + (6 + 5800) ≤ 6 + 5800 from by first | exact Nat.le_refl _ | decide | omega)
  · obtain ⟨rr_3711, B2_3712, W2_3713⟩ := u_
    obtain ⟨hq_3719, hq_3720, hq_3721, hq_3722⟩ : (o_remSes (dC S) v).1 = 0 ∧ rr_3711 = (o_remSes (dC S) v).2.1 ∧ Sim (o_remSes (dC S) v).2.2 B2_3712 ∧ DyW G d ((B2_3712, dS S, min 6 (dK S + 1), hsR (dH S) (dK S) (dC S), dL S, dN S) : DS) W2_3713 := hq
    have hpm_3723 : ([(o, .inl (G.2 5, 1, .inr (.inl of)))] ++ (W2_3713 ++ []) : va_W).Perm ([(o, .inl (G.2 5, 1, .inr (.inl of)))] ++ (W2_3713 ++ [])) := segs_perm2 [[(o, .inl (G.2 5, 1, .inr (.inl of)))]] [W2_3713] [0, 1] rfl
    have hP : va_P G.1 CL ([(o, .inl (G.2 5, 1, .inr (.inl of)))] ++ (W2_3713 ++ [])) H := P_perm hpm_3723 hP
    have hD : va_D A ([(o, .inl (G.2 5, 1, .inr (.inl of)))] ++ (W2_3713 ++ [])) := D_perm hpm_3723 hD
    refine W.eq (g2 := F0 m 7 ls [.int rr_3711, .int (nI 0), .ref o]) rfl ?_
    refine lv_i2l (v := (rr_3711).toInt64) hx hb dX0_removeSession_7 rfl ?_
    refine r_last hx hb hK hP hD hS 0 5 rfl rfl (i := 0) (by omega) (by omega) dX0_removeSession_8 (fun H locs (hP : va_P G.1 CL ([(o, .inl (G.2 5, 1, .inr (.inl (vp_updL of 0 ((rr_3711).toInt64)))))] ++ (W2_3713 ++ [])) H) (hD : va_D A ([(o, .inl (G.2 5, 1, .inr (.inl (vp_updL of 0 ((rr_3711).toInt64)))))] ++ (W2_3713 ++ []))) hS => ?_)
    refine lv_goto (tgt := 15) hx hb dX0_removeSession_9 (by decide) ?_
    refine lv_iconst (v := nI 0) hx hb dX0_removeSession_15 (by decide) ?_
    refine vx_ret ?_
    have hpm_3724 : (([(o, .inl (G.2 5, 1, .inr (.inl (vp_updL of 0 ((rr_3711).toInt64)))))] ++ (W2_3713 ++ [])) : va_W).Perm (([(o, .inl (G.2 5, 1, .inr (.inl (vp_updL of 0 ((rr_3711).toInt64)))))] ++ (W2_3713 ++ [])) ++ []) := segs_perm [[(o, .inl (G.2 5, 1, .inr (.inl (vp_updL of 0 ((rr_3711).toInt64)))))], W2_3713] [0, 1] [] rfl
    have hP9 : va_P G.1 CL ([(o, .inl (G.2 5, 1, .inr (.inl (vp_updL of 0 ((rr_3711).toInt64)))))] ++ (W2_3713 ++ [])) H := P_left (P_perm hpm_3724 hP)
    have hD9 : va_D A ([(o, .inl (G.2 5, 1, .inr (.inl (vp_updL of 0 ((rr_3711).toInt64)))))] ++ (W2_3713 ++ [])) := D_left (D_perm hpm_3724 hD)
    exact end_i hx hb hr hlk (rfl) (qc_of (vp_updL of 0 ((rr_3711).toInt64), ((B2_3712, dS S, min 6 (dK S + 1), hsR (dH S) (dK S) (dC S), dL S, dN S) : DS), W2_3713) (v := some (.int (nI 0))) (by rw [hq_3719]) (⟨fun _ => by rw [← hq_3720]; exact pk_uLs, NxS.yes hq_3719 hq_3721, by rw [hq_3719]; decide, hq_3722⟩) hP9 hD9 (trivial) hS) hS dX0_removeSession_16 (show 0 + (1 + 101) ≤ 1 + 101 from by first | exact Nat.le_refl _ | decide | omega) (show 0 + (6 + 5800) ≤ 6 + 5800 from by first | exact Nat.le_refl _ | decide | omega)

set_option maxHeartbeats 4000000 in
theorem wX0_addTarget (l : Launch) (G : Gt) (d : Nat) (S : DS) (WA : va_W) (o : Nat) (of : Nat → Int64) (v : Int32) (h : DyW G d S WA) (hfl : l.stackTraces = false) : CTW l G yX0_addTarget cX0_addTarget 4 (some .int) [(0, 9, 12, 13), (0, 9, 15, 15)] ({ frames := 10, cells := 1 + 101, slots := 6 + 5800, locals := 232 } : Room) [.ref d, .int v, .ref o] ([(o, .inl (G.2 5, 1, .inr (.inl of)))] ++ (WA ++ [])) RH0 (S := (Nat → Int64) × DS × va_W) (fun (u_ : (Nat → Int64) × DS × va_W) => some (.int (nI ((o_addTarget (dC S) v).1)))) (fun (u_ : (Nat → Int64) × DS × va_W) => ((o_addTarget (dC S) v).1 = 0 → u_.1 0 = ((o_addTarget (dC S) v).2.1).toInt64) ∧ NxS S (o_addTarget (dC S) v) u_.2.1 ∧ (o_addTarget (dC S) v).1 < 10 ∧ DyW G d u_.2.1 u_.2.2) (fun (u_ : (Nat → Int64) × DS × va_W) => ([(o, .inl (G.2 5, 1, .inr (.inl u_.1)))] ++ (u_.2.2 ++ []))) (fun (u_ : (Nat → Int64) × DS × va_W) (H : Heap) => True) := by
  refine CTW.of (by decide) (Nat.le_of_ble_eq_true rfl) ?_
  intro p e s m below meth c ls A H locs h9 hH0 hP hS hNc htab
  obtain ⟨cf, hr, hlk, hnm, hKB, hE, -, hD, -, hA, hAw, hRH, hl⟩ := h9
  have hx := cf.1
  have hb := cf.2.1
  have hml := cf.2.2.1
  have hown : s.vm.findClass RX0 = some m.cls := cf.2.2.2.1
  have hts := cf.2.2.2.2
  have hK := hKB.1
  have hl : lv_has ls 4 [(0, .ref d), (1, .int v), (2, .ref o)] := hl
  refine lv_aload_n hx hb dX0_addTarget_0 rfl (lv_at hl 2 rfl) ?_
  refine lv_iconst (v := nI 0) hx hb dX0_addTarget_1 (by decide) ?_
  refine lv_aload_n hx hb dX0_addTarget_2 rfl (lv_at hl 0 rfl) ?_
  refine lv_iload_n hx hb dX0_addTarget_3 rfl (lv_at hl 1 rfl) ?_
  have hpm_3725 : (([(o, .inl (G.2 5, 1, .inr (.inl of)))] ++ (WA ++ [])) : va_W).Perm ((WA ++ []) ++ [(o, .inl (G.2 5, 1, .inr (.inl of)))]) := segs_perm [[(o, .inl (G.2 5, 1, .inr (.inl of)))], WA] [1] [0] rfl
  have hF := hF_ofP (wc := (WA ++ [])) hD hS hA hpm_3725
  refine go_cxP hS hP hD hpm_3725 hF
      (vx_runV (As := [.int v]) (rest := [.int (nI 0), .ref o]) cf (dX1_addTarget l G d S WA v (show DyW G d S WA from by first | assumption | omega) hfl H.size) (cwV 1 hts (lw_V q1416 q1417 q1418 q47 q1419) rfl rfl rfl (by decide +kernel) ⟨Nat.le_of_ble_eq_true rfl, Nat.le_of_ble_eq_true rfl⟩) (preV_of hKB hE hS hF (DyW.recv hK h (seg_at [[(o, .inl (G.2 5, 1, .inr (.inl of)))], WA] 1 rfl hP)) (P_left (P_perm hpm_3725 hP)) ((D_left (D_perm hpm_3725 hD)).weaken (fun _ _ _ _ => trivial)) trivial) rfl rfl hl.1 rfl (lv_room (Nat.le_of_ble_eq_true rfl)) dX0_addTarget_4 ⟨show 0 + (1 + 101) ≤ 1 + 101 from by first | decide | omega, show 0 + (6 + 5800) ≤ 6 + 5800 from by first | decide | omega⟩)
      (fun u_ H locs ce q9 hq hph (hP : va_P G.1 CL ([(o, .inl (G.2 5, 1, .inr (.inl of)))] ++ (WA ++ [])) H) (hD : va_D A ([(o, .inl (G.2 5, 1, .inr (.inl of)))] ++ (WA ++ []))) hS hfz hfk hce hcv hcl => ?_) (fun u_ H locs hq hph (hP : va_P G.1 CL ([(o, .inl (G.2 5, 1, .inr (.inl of)))] ++ (u_.2.2 ++ [])) H) (hD : va_D A ([(o, .inl (G.2 5, 1, .inr (.inl of)))] ++ (u_.2.2 ++ []))) hS hfz hfk => ?_)
  · obtain ⟨kx_3729, rfl⟩ : ∃ z, z = u_ := ⟨_, rfl⟩
    obtain ⟨hq_3730, hq_3731⟩ : (o_addTarget (dC S) v).1 = kx_3729 ∧ 1 ≤ kx_3729 ∧ kx_3729 ≤ 2 := hq
    have hpm_3732 : ([(o, .inl (G.2 5, 1, .inr (.inl of)))] ++ (WA ++ []) : va_W).Perm ([(o, .inl (G.2 5, 1, .inr (.inl of)))] ++ (WA ++ [])) := segs_perm2 [[(o, .inl (G.2 5, 1, .inr (.inl of)))]] [WA] [0, 1] rfl
    have hP : va_P G.1 CL ([(o, .inl (G.2 5, 1, .inr (.inl of)))] ++ (WA ++ [])) H := P_perm hpm_3732 hP
    have hD : va_D A ([(o, .inl (G.2 5, 1, .inr (.inl of)))] ++ (WA ++ [])) := D_perm hpm_3732 hD
    rcases (show kx_3729 = 1 ∨ kx_3729 = 2 by omega) with rfl | rfl
    · have hcl9 : s.vm.findClass eA = some ce.cls := hcl
      refine vx_catch (name := eA) (E := eA) hown [] (⟨0, 9, 12, 13⟩ : ExceptionTableEntry) [(⟨0, 9, 15, 15⟩ : ExceptionTableEntry)] (by rw [htab]; rfl) (fun z hz => absurd hz List.not_mem_nil) (by decide) (by decide) (hts _ q680) (va_Nw.use rfl (hKB.nest q698 rfl)) hce hcv hcl9 ?_
      refine W.eq (g2 := F0 m 12 ls [.ref q9]) rfl ?_
      refine lv_astore_n (lv' := [(3, .ref q9), (0, .ref d), (1, .int v), (2, .ref o)]) hx hb dX0_addTarget_12 rfl hl (by decide) rfl (fun ls hl => ?_)
      refine lv_iconst (v := nI 1) hx hb dX0_addTarget_13 (by decide) ?_
      refine vx_ret ?_
      have hpm_3733 : (([(o, .inl (G.2 5, 1, .inr (.inl of)))] ++ (WA ++ [])) : va_W).Perm (([(o, .inl (G.2 5, 1, .inr (.inl of)))] ++ (WA ++ [])) ++ []) := segs_perm [[(o, .inl (G.2 5, 1, .inr (.inl of)))], WA] [0, 1] [] rfl
      have hP9 : va_P G.1 CL ([(o, .inl (G.2 5, 1, .inr (.inl of)))] ++ (WA ++ [])) H := P_left (P_perm hpm_3733 hP)
      have hD9 : va_D A ([(o, .inl (G.2 5, 1, .inr (.inl of)))] ++ (WA ++ [])) := D_left (D_perm hpm_3733 hD)
      exact end_i hx hb hr hlk (rfl) (qc_of (of, S, WA) (v := some (.int (nI 1))) (by rw [hq_3730]) (⟨fun z9 => absurd (hq_3730.symm.trans z9) (by decide), NxS.no (fun z9 => absurd (hq_3730.symm.trans z9) (by decide)), by rw [hq_3730]; decide, h⟩) hP9 hD9 (trivial) hS) hS dX0_addTarget_14 (show 0 + (1 + 101) ≤ 1 + 101 from by first | exact Nat.le_refl _ | decide | omega) (show 0 + (6 + 5800) ≤ 6 + 5800 from by first | exact Nat.le_refl _ | decide | omega)
    · have hcl9 : s.vm.findClass eS9 = some ce.cls := hcl
      refine vx_catch (name := eS9) (E := eS9) hown [(⟨0, 9, 12, 13⟩ : ExceptionTableEntry)] (⟨0, 9, 15, 15⟩ : ExceptionTableEntry) [] (by rw [htab]; rfl) (fun z hz => by rcases List.mem_singleton.mp hz with rfl; exact Or.inr ⟨by decide, _, hts _ q680, hNc _ (List.mem_of_getElem? (i := 0) rfl)⟩) (by decide) (by decide) (hts _ q681) (va_Nw.use rfl (hKB.nest q577 rfl)) hce hcv hcl9 ?_
      refine W.eq (g2 := F0 m 15 ls [.ref q9]) rfl ?_
      refine lv_astore_n (lv' := [(3, .ref q9), (0, .ref d), (1, .int v), (2, .ref o)]) hx hb dX0_addTarget_15 rfl hl (by decide) rfl (fun ls hl => ?_)
      refine lv_iconst (v := nI 2) hx hb dX0_addTarget_16 (by decide) ?_
      refine vx_ret ?_
      have hpm_3734 : (([(o, .inl (G.2 5, 1, .inr (.inl of)))] ++ (WA ++ [])) : va_W).Perm (([(o, .inl (G.2 5, 1, .inr (.inl of)))] ++ (WA ++ [])) ++ []) := segs_perm [[(o, .inl (G.2 5, 1, .inr (.inl of)))], WA] [0, 1] [] rfl
      have hP9 : va_P G.1 CL ([(o, .inl (G.2 5, 1, .inr (.inl of)))] ++ (WA ++ [])) H := P_left (P_perm hpm_3734 hP)
      have hD9 : va_D A ([(o, .inl (G.2 5, 1, .inr (.inl of)))] ++ (WA ++ [])) := D_left (D_perm hpm_3734 hD)
      exact end_i hx hb hr hlk (rfl) (qc_of (of, S, WA) (v := some (.int (nI 2))) (by rw [hq_3730]) (⟨fun z9 => absurd (hq_3730.symm.trans z9) (by decide), NxS.no (fun z9 => absurd (hq_3730.symm.trans z9) (by decide)), by rw [hq_3730]; decide, h⟩) hP9 hD9 (trivial) hS) hS dX0_addTarget_17 (show 0 + (1 + 101) ≤ 1 + 101 from by first | exact Nat.le_refl _ | decide | omega) (show 0 + (6 + 5800) ≤ 6 + 5800 from by first | exact Nat.le_refl _ | decide | omega)
  · obtain ⟨rr_3726, B2_3727, W2_3728⟩ := u_
    obtain ⟨hq_3735, hq_3736, hq_3737, hq_3738⟩ : (o_addTarget (dC S) v).1 = 0 ∧ rr_3726 = (o_addTarget (dC S) v).2.1 ∧ Sim (o_addTarget (dC S) v).2.2 B2_3727 ∧ DyW G d ((B2_3727, dS S, min 6 (dK S + 1), hsR (dH S) (dK S) (dC S), dL S, dN S) : DS) W2_3728 := hq
    have hpm_3739 : ([(o, .inl (G.2 5, 1, .inr (.inl of)))] ++ (W2_3728 ++ []) : va_W).Perm ([(o, .inl (G.2 5, 1, .inr (.inl of)))] ++ (W2_3728 ++ [])) := segs_perm2 [[(o, .inl (G.2 5, 1, .inr (.inl of)))]] [W2_3728] [0, 1] rfl
    have hP : va_P G.1 CL ([(o, .inl (G.2 5, 1, .inr (.inl of)))] ++ (W2_3728 ++ [])) H := P_perm hpm_3739 hP
    have hD : va_D A ([(o, .inl (G.2 5, 1, .inr (.inl of)))] ++ (W2_3728 ++ [])) := D_perm hpm_3739 hD
    refine W.eq (g2 := F0 m 7 ls [.int rr_3726, .int (nI 0), .ref o]) rfl ?_
    refine lv_i2l (v := (rr_3726).toInt64) hx hb dX0_addTarget_7 rfl ?_
    refine r_last hx hb hK hP hD hS 0 5 rfl rfl (i := 0) (by omega) (by omega) dX0_addTarget_8 (fun H locs (hP : va_P G.1 CL ([(o, .inl (G.2 5, 1, .inr (.inl (vp_updL of 0 ((rr_3726).toInt64)))))] ++ (W2_3728 ++ [])) H) (hD : va_D A ([(o, .inl (G.2 5, 1, .inr (.inl (vp_updL of 0 ((rr_3726).toInt64)))))] ++ (W2_3728 ++ []))) hS => ?_)
    refine lv_goto (tgt := 18) hx hb dX0_addTarget_9 (by decide) ?_
    refine lv_iconst (v := nI 0) hx hb dX0_addTarget_18 (by decide) ?_
    refine vx_ret ?_
    have hpm_3740 : (([(o, .inl (G.2 5, 1, .inr (.inl (vp_updL of 0 ((rr_3726).toInt64)))))] ++ (W2_3728 ++ [])) : va_W).Perm (([(o, .inl (G.2 5, 1, .inr (.inl (vp_updL of 0 ((rr_3726).toInt64)))))] ++ (W2_3728 ++ [])) ++ []) := segs_perm [[(o, .inl (G.2 5, 1, .inr (.inl (vp_updL of 0 ((rr_3726).toInt64)))))], W2_3728] [0, 1] [] rfl
    have hP9 : va_P G.1 CL ([(o, .inl (G.2 5, 1, .inr (.inl (vp_updL of 0 ((rr_3726).toInt64)))))] ++ (W2_3728 ++ [])) H := P_left (P_perm hpm_3740 hP)
    have hD9 : va_D A ([(o, .inl (G.2 5, 1, .inr (.inl (vp_updL of 0 ((rr_3726).toInt64)))))] ++ (W2_3728 ++ [])) := D_left (D_perm hpm_3740 hD)
    exact end_i hx hb hr hlk (rfl) (qc_of (vp_updL of 0 ((rr_3726).toInt64), ((B2_3727, dS S, min 6 (dK S + 1), hsR (dH S) (dK S) (dC S), dL S, dN S) : DS), W2_3728) (v := some (.int (nI 0))) (by rw [hq_3735]) (⟨fun _ => by rw [← hq_3736]; exact pk_uLs, NxS.yes hq_3735 hq_3737, by rw [hq_3735]; decide, hq_3738⟩) hP9 hD9 (trivial) hS) hS dX0_addTarget_19 (show 0 + (1 + 101) ≤ 1 + 101 from by first | exact Nat.le_refl _ | decide | omega) (show 0 + (6 + 5800) ≤ 6 + 5800 from by first | exact Nat.le_refl _ | decide | omega)

set_option maxHeartbeats 4000000 in
theorem wX0_writeWeek (l : Launch) (G : Gt) (d : Nat) (S : DS) (WA : va_W) (o : Nat) (of : Nat → Int64) (v : Int32) (h : DyW G d S WA) (hfl : l.stackTraces = false) : CTW l G yX0_writeWeek cX0_writeWeek 4 (some .int) [(0, 9, 12, 13)] ({ frames := 11, cells := 1500, slots := 3000, locals := 236 } : Room) [.ref d, .int v, .ref o] ([(o, .inl (G.2 5, 1, .inr (.inl of)))] ++ (WA ++ [])) RH0 (S := (Nat → Int64) × Nat × va_W) (fun (u_ : (Nat → Int64) × Nat × va_W) => some (.int (nI u_.2.1))) (fun (u_ : (Nat → Int64) × Nat × va_W) => (∀ z, inR v 0 (bD (dC S)) = some z → u_.2.1 = 0 ∧ u_.1 0 = (nI 13).toInt64 ∧ DyW G d ((dC S, dS S, dK S, dH S, wkF (dC S) z, 13) : DS) u_.2.2) ∧ (inR v 0 (bD (dC S)) = none → u_.2.1 = 1 ∧ DyW G d S u_.2.2)) (fun (u_ : (Nat → Int64) × Nat × va_W) => ([(o, .inl (G.2 5, 1, .inr (.inl u_.1)))] ++ (u_.2.2 ++ []))) (fun (u_ : (Nat → Int64) × Nat × va_W) (H : Heap) => True) := by
  refine CTW.of (by decide) (Nat.le_of_ble_eq_true rfl) ?_
  intro p e s m below meth c ls A H locs h9 hH0 hP hS hNc htab
  obtain ⟨cf, hr, hlk, hnm, hKB, hE, -, hD, -, hA, hAw, hRH, hl⟩ := h9
  have hx := cf.1
  have hb := cf.2.1
  have hml := cf.2.2.1
  have hown : s.vm.findClass RX0 = some m.cls := cf.2.2.2.1
  have hts := cf.2.2.2.2
  have hK := hKB.1
  have hl : lv_has ls 4 [(0, .ref d), (1, .int v), (2, .ref o)] := hl
  refine lv_aload_n hx hb dX0_writeWeek_0 rfl (lv_at hl 2 rfl) ?_
  refine lv_iconst (v := nI 0) hx hb dX0_writeWeek_1 (by decide) ?_
  refine lv_aload_n hx hb dX0_writeWeek_2 rfl (lv_at hl 0 rfl) ?_
  refine lv_iload_n hx hb dX0_writeWeek_3 rfl (lv_at hl 1 rfl) ?_
  have hpm_3741 : (([(o, .inl (G.2 5, 1, .inr (.inl of)))] ++ (WA ++ [])) : va_W).Perm ((WA ++ []) ++ [(o, .inl (G.2 5, 1, .inr (.inl of)))]) := segs_perm [[(o, .inl (G.2 5, 1, .inr (.inl of)))], WA] [1] [0] rfl
  have hF := hF_ofP (wc := (WA ++ [])) hD hS hA hpm_3741
  refine go_cxP hS hP hD hpm_3741 hF
      (vx_runV (As := [.int v]) (rest := [.int (nI 0), .ref o]) cf (dX1_writeWeek l G d S WA v (show DyW G d S WA from by first | assumption | omega) hfl H.size) (cwV 1 hts (lw_V q1448 q1449 q1450 q47 q1451) rfl rfl rfl (by decide +kernel) ⟨Nat.le_of_ble_eq_true rfl, Nat.le_of_ble_eq_true rfl⟩) (preV_of hKB hE hS hF (DyW.recv hK h (seg_at [[(o, .inl (G.2 5, 1, .inr (.inl of)))], WA] 1 rfl hP)) (P_left (P_perm hpm_3741 hP)) ((D_left (D_perm hpm_3741 hD)).weaken (fun _ _ _ _ => trivial)) trivial) rfl rfl hl.1 rfl (lv_room (Nat.le_of_ble_eq_true rfl)) dX0_writeWeek_4 ⟨show 0 + 1500 ≤ 1500 from by first | decide | omega, show 0 + 3000 ≤ 3000 from by first | decide | omega⟩)
      (fun u_ H locs ce q9 hq hph (hP : va_P G.1 CL ([(o, .inl (G.2 5, 1, .inr (.inl of)))] ++ (WA ++ [])) H) (hD : va_D A ([(o, .inl (G.2 5, 1, .inr (.inl of)))] ++ (WA ++ []))) hS hfz hfk hce hcv hcl => ?_) (fun u_ H locs hq hph (hP : va_P G.1 CL ([(o, .inl (G.2 5, 1, .inr (.inl of)))] ++ (u_.2 ++ [])) H) (hD : va_D A ([(o, .inl (G.2 5, 1, .inr (.inl of)))] ++ (u_.2 ++ []))) hS hfz hfk => ?_)
  · have hq_3744 : inR v 0 (bD (dC S)) = none := hq
    have hpm_3745 : ([(o, .inl (G.2 5, 1, .inr (.inl of)))] ++ (WA ++ []) : va_W).Perm ([(o, .inl (G.2 5, 1, .inr (.inl of)))] ++ (WA ++ [])) := segs_perm2 [[(o, .inl (G.2 5, 1, .inr (.inl of)))]] [WA] [0, 1] rfl
    have hP : va_P G.1 CL ([(o, .inl (G.2 5, 1, .inr (.inl of)))] ++ (WA ++ [])) H := P_perm hpm_3745 hP
    have hD : va_D A ([(o, .inl (G.2 5, 1, .inr (.inl of)))] ++ (WA ++ [])) := D_perm hpm_3745 hD
    have hcl9 : s.vm.findClass eA = some ce.cls := hcl
    refine vx_catch (name := eA) (E := eA) hown [] (⟨0, 9, 12, 13⟩ : ExceptionTableEntry) [] (by rw [htab]; rfl) (fun z hz => absurd hz List.not_mem_nil) (by decide) (by decide) (hts _ q680) (va_Nw.use rfl (hKB.nest q698 rfl)) hce hcv hcl9 ?_
    refine W.eq (g2 := F0 m 12 ls [.ref q9]) rfl ?_
    refine lv_astore_n (lv' := [(3, .ref q9), (0, .ref d), (1, .int v), (2, .ref o)]) hx hb dX0_writeWeek_12 rfl hl (by decide) rfl (fun ls hl => ?_)
    refine lv_iconst (v := nI 1) hx hb dX0_writeWeek_13 (by decide) ?_
    refine vx_ret ?_
    have hpm_3746 : (([(o, .inl (G.2 5, 1, .inr (.inl of)))] ++ (WA ++ [])) : va_W).Perm (([(o, .inl (G.2 5, 1, .inr (.inl of)))] ++ (WA ++ [])) ++ []) := segs_perm [[(o, .inl (G.2 5, 1, .inr (.inl of)))], WA] [0, 1] [] rfl
    have hP9 : va_P G.1 CL ([(o, .inl (G.2 5, 1, .inr (.inl of)))] ++ (WA ++ [])) H := P_left (P_perm hpm_3746 hP)
    have hD9 : va_D A ([(o, .inl (G.2 5, 1, .inr (.inl of)))] ++ (WA ++ [])) := D_left (D_perm hpm_3746 hD)
    exact end_i hx hb hr hlk (rfl) (qc_of (of, 1, WA) (v := some (.int (nI 1))) (by rfl) (⟨fun z9 e9 => by rw [hq_3744] at e9; exact nomatch e9, fun _ => ⟨rfl, h⟩⟩) hP9 hD9 (trivial) hS) hS dX0_writeWeek_14 (show 0 + 1500 ≤ 1500 from by first | exact Nat.le_refl _ | decide | omega) (show 0 + 3000 ≤ 3000 from by first | exact Nat.le_refl _ | decide | omega)
  · obtain ⟨z_3742, W2_3743⟩ := u_
    obtain ⟨hq_3747, hq_3748⟩ : inR v 0 (bD (dC S)) = some z_3742 ∧ DyW G d ((dC S, dS S, dK S, dH S, wkF (dC S) z_3742, 13) : DS) W2_3743 := hq
    have hpm_3749 : ([(o, .inl (G.2 5, 1, .inr (.inl of)))] ++ (W2_3743 ++ []) : va_W).Perm ([(o, .inl (G.2 5, 1, .inr (.inl of)))] ++ (W2_3743 ++ [])) := segs_perm2 [[(o, .inl (G.2 5, 1, .inr (.inl of)))]] [W2_3743] [0, 1] rfl
    have hP : va_P G.1 CL ([(o, .inl (G.2 5, 1, .inr (.inl of)))] ++ (W2_3743 ++ [])) H := P_perm hpm_3749 hP
    have hD : va_D A ([(o, .inl (G.2 5, 1, .inr (.inl of)))] ++ (W2_3743 ++ [])) := D_perm hpm_3749 hD
    refine W.eq (g2 := F0 m 7 ls [.int (nI 13), .int (nI 0), .ref o]) rfl ?_
    refine lv_i2l (v := (nI 13).toInt64) hx hb dX0_writeWeek_7 rfl ?_
    refine r_last hx hb hK hP hD hS 0 5 rfl rfl (i := 0) (by omega) (by omega) dX0_writeWeek_8 (fun H locs (hP : va_P G.1 CL ([(o, .inl (G.2 5, 1, .inr (.inl (vp_updL of 0 ((nI 13).toInt64)))))] ++ (W2_3743 ++ [])) H) (hD : va_D A ([(o, .inl (G.2 5, 1, .inr (.inl (vp_updL of 0 ((nI 13).toInt64)))))] ++ (W2_3743 ++ []))) hS => ?_)
    refine lv_goto (tgt := 15) hx hb dX0_writeWeek_9 (by decide) ?_
    refine lv_iconst (v := nI 0) hx hb dX0_writeWeek_15 (by decide) ?_
    refine vx_ret ?_
    have hpm_3750 : (([(o, .inl (G.2 5, 1, .inr (.inl (vp_updL of 0 ((nI 13).toInt64)))))] ++ (W2_3743 ++ [])) : va_W).Perm (([(o, .inl (G.2 5, 1, .inr (.inl (vp_updL of 0 ((nI 13).toInt64)))))] ++ (W2_3743 ++ [])) ++ []) := segs_perm [[(o, .inl (G.2 5, 1, .inr (.inl (vp_updL of 0 ((nI 13).toInt64)))))], W2_3743] [0, 1] [] rfl
    have hP9 : va_P G.1 CL ([(o, .inl (G.2 5, 1, .inr (.inl (vp_updL of 0 ((nI 13).toInt64)))))] ++ (W2_3743 ++ [])) H := P_left (P_perm hpm_3750 hP)
    have hD9 : va_D A ([(o, .inl (G.2 5, 1, .inr (.inl (vp_updL of 0 ((nI 13).toInt64)))))] ++ (W2_3743 ++ [])) := D_left (D_perm hpm_3750 hD)
    exact end_i hx hb hr hlk (rfl) (qc_of (vp_updL of 0 ((nI 13).toInt64), 0, W2_3743) (v := some (.int (nI 0))) (by rfl) (⟨fun z9 e9 => by cases hq_3747.symm.trans e9; exact ⟨rfl, pk_uLs, hq_3748⟩, fun e9 => by rw [e9] at hq_3747; exact nomatch hq_3747⟩) hP9 hD9 (trivial) hS) hS dX0_writeWeek_16 (show 0 + 1500 ≤ 1500 from by first | exact Nat.le_refl _ | decide | omega) (show 0 + 3000 ≤ 3000 from by first | exact Nat.le_refl _ | decide | omega)

set_option maxHeartbeats 4000000 in
theorem wX0_lineAt (l : Launch) (G : Gt) (d : Nat) (S : DS) (WA : va_W) (o : Nat) (of : Nat → Int64) (v : Int32) (h : DyW G d S WA) (hfl : l.stackTraces = false) : CTW l G yX0_lineAt cX0_lineAt 4 (some .int) [(0, 9, 12, 63)] ({ frames := 8, cells := 2, slots := 8, locals := 123 } : Room) [.ref d, .int v, .ref o] ([(o, .inl (G.2 5, 1, .inr (.inl of)))] ++ (WA ++ [])) RH0 (S := (Nat → Int64) × va_W) (fun (u_ : (Nat → Int64) × va_W) => some (.int (nI (((q_line (dL S) (dN S) v)).1)))) (fun (u_ : (Nat → Int64) × va_W) => ((q_line (dL S) (dN S) v).1 = 0 → u_.1 0 = ((q_line (dL S) (dN S) v).2).toInt64) ∧ (q_line (dL S) (dN S) v).1 < 10 ∧ DyW G d S u_.2) (fun (u_ : (Nat → Int64) × va_W) => ([(o, .inl (G.2 5, 1, .inr (.inl u_.1)))] ++ (u_.2 ++ []))) (fun (u_ : (Nat → Int64) × va_W) (H : Heap) => True) := by
  refine CTW.of (by decide) (Nat.le_of_ble_eq_true rfl) ?_
  intro p e s m below meth c ls A H locs h9 hH0 hP hS hNc htab
  obtain ⟨cf, hr, hlk, hnm, hKB, hE, -, hD, -, hA, hAw, hRH, hl⟩ := h9
  have hx := cf.1
  have hb := cf.2.1
  have hml := cf.2.2.1
  have hown : s.vm.findClass RX0 = some m.cls := cf.2.2.2.1
  have hts := cf.2.2.2.2
  have hK := hKB.1
  have hl : lv_has ls 4 [(0, .ref d), (1, .int v), (2, .ref o)] := hl
  refine lv_aload_n hx hb dX0_lineAt_0 rfl (lv_at hl 2 rfl) ?_
  refine lv_iconst (v := nI 0) hx hb dX0_lineAt_1 (by decide) ?_
  refine lv_aload_n hx hb dX0_lineAt_2 rfl (lv_at hl 0 rfl) ?_
  refine lv_iload_n hx hb dX0_lineAt_3 rfl (lv_at hl 1 rfl) ?_
  have hpm_3751 : (([(o, .inl (G.2 5, 1, .inr (.inl of)))] ++ (WA ++ [])) : va_W).Perm ([] ++ ([(o, .inl (G.2 5, 1, .inr (.inl of)))] ++ (WA ++ []))) := segs_perm [[(o, .inl (G.2 5, 1, .inr (.inl of)))], WA] [] [0, 1] rfl
  have hF := hF_ofP (wc := []) hD hS hA hpm_3751
  refine go_cxP hS hP hD hpm_3751 hF
      (vx_runV (As := [.int v]) (rest := [.int (nI 0), .ref o]) cf (dX1_lineAt l G d S WA v (show DyW G d S WA from by first | assumption | omega) hfl H.size) (cwV 1 hts (lw_V q1537 q1538 q1539 q47 q1540) rfl rfl rfl (by decide +kernel) ⟨Nat.le_of_ble_eq_true rfl, Nat.le_of_ble_eq_true rfl⟩) (preV_of hKB hE hS hF (DyW.recv hK h (seg_at [[(o, .inl (G.2 5, 1, .inr (.inl of)))], WA] 1 rfl hP)) (P_left (P_perm hpm_3751 hP)) ((D_left (D_perm hpm_3751 hD)).weaken (fun _ _ _ _ => trivial)) (roW.nil (seg_at [[(o, .inl (G.2 5, 1, .inr (.inl of)))], WA] 1 rfl hP))) rfl rfl hl.1 rfl (lv_room (Nat.le_of_ble_eq_true rfl)) dX0_lineAt_4 ⟨show 0 + 2 ≤ 2 from by first | decide | omega, show 0 + 8 ≤ 8 from by first | decide | omega⟩)
      (fun u_ H locs ce q9 hq hph (hP : va_P G.1 CL (([(o, .inl (G.2 5, 1, .inr (.inl of)))] ++ (WA ++ [])) ++ []) H) (hD : va_D A (([(o, .inl (G.2 5, 1, .inr (.inl of)))] ++ (WA ++ [])) ++ [])) hS hfz hfk hce hcv hcl => ?_) (fun u_ H locs hq hph (hP : va_P G.1 CL (([(o, .inl (G.2 5, 1, .inr (.inl of)))] ++ (WA ++ [])) ++ []) H) (hD : va_D A (([(o, .inl (G.2 5, 1, .inr (.inl of)))] ++ (WA ++ [])) ++ [])) hS hfz hfk => ?_)
  · have hq_3753 : (q_line (dL S) (dN S) v).1 = 1 := hq
    have hpm_3754 : (([(o, .inl (G.2 5, 1, .inr (.inl of)))] ++ (WA ++ [])) ++ [] : va_W).Perm ([(o, .inl (G.2 5, 1, .inr (.inl of)))] ++ (WA ++ [])) := segs_perm2 [[(o, .inl (G.2 5, 1, .inr (.inl of)))], WA] [] [0, 1] rfl
    have hP : va_P G.1 CL ([(o, .inl (G.2 5, 1, .inr (.inl of)))] ++ (WA ++ [])) H := P_perm hpm_3754 hP
    have hD : va_D A ([(o, .inl (G.2 5, 1, .inr (.inl of)))] ++ (WA ++ [])) := D_perm hpm_3754 hD
    have hcl9 : s.vm.findClass eI = some ce.cls := hcl
    refine vx_catch (name := eI) (E := eI) hown [] (⟨0, 9, 12, 63⟩ : ExceptionTableEntry) [] (by rw [htab]; rfl) (fun z hz => absurd hz List.not_mem_nil) (by decide) (by decide) (hts _ q1197) (va_Nw.use rfl (hKB.nest q785 rfl)) hce hcv hcl9 ?_
    refine W.eq (g2 := F0 m 12 ls [.ref q9]) rfl ?_
    refine lv_astore_n (lv' := [(3, .ref q9), (0, .ref d), (1, .int v), (2, .ref o)]) hx hb dX0_lineAt_12 rfl hl (by decide) rfl (fun ls hl => ?_)
    refine lv_iconst (v := nI 1) hx hb dX0_lineAt_13 (by decide) ?_
    refine vx_ret ?_
    have hpm_3755 : (([(o, .inl (G.2 5, 1, .inr (.inl of)))] ++ (WA ++ [])) : va_W).Perm (([(o, .inl (G.2 5, 1, .inr (.inl of)))] ++ (WA ++ [])) ++ []) := segs_perm [[(o, .inl (G.2 5, 1, .inr (.inl of)))], WA] [0, 1] [] rfl
    have hP9 : va_P G.1 CL ([(o, .inl (G.2 5, 1, .inr (.inl of)))] ++ (WA ++ [])) H := P_left (P_perm hpm_3755 hP)
    have hD9 : va_D A ([(o, .inl (G.2 5, 1, .inr (.inl of)))] ++ (WA ++ [])) := D_left (D_perm hpm_3755 hD)
    exact end_i hx hb hr hlk (rfl) (qc_of (of, WA) (v := some (.int (nI 1))) (by rw [hq_3753]) (⟨fun z9 => absurd (hq_3753.symm.trans z9) (by decide), by rw [hq_3753]; decide, h⟩) hP9 hD9 (trivial) hS) hS dX0_lineAt_14 (show 0 + 2 ≤ 2 from by first | exact Nat.le_refl _ | decide | omega) (show 0 + 8 ≤ 8 from by first | exact Nat.le_refl _ | decide | omega)
  · obtain ⟨rr_3752, rfl⟩ : ∃ z, z = u_ := ⟨_, rfl⟩
    have hq_3756 : q_line (dL S) (dN S) v = (0, rr_3752) := hq
    have hpm_3757 : (([(o, .inl (G.2 5, 1, .inr (.inl of)))] ++ (WA ++ [])) ++ [] : va_W).Perm ([(o, .inl (G.2 5, 1, .inr (.inl of)))] ++ (WA ++ [])) := segs_perm2 [[(o, .inl (G.2 5, 1, .inr (.inl of)))], WA] [] [0, 1] rfl
    have hP : va_P G.1 CL ([(o, .inl (G.2 5, 1, .inr (.inl of)))] ++ (WA ++ [])) H := P_perm hpm_3757 hP
    have hD : va_D A ([(o, .inl (G.2 5, 1, .inr (.inl of)))] ++ (WA ++ [])) := D_perm hpm_3757 hD
    refine W.eq (g2 := F0 m 7 ls [.int rr_3752, .int (nI 0), .ref o]) rfl ?_
    refine lv_i2l (v := (rr_3752).toInt64) hx hb dX0_lineAt_7 rfl ?_
    refine r_last hx hb hK hP hD hS 0 5 rfl rfl (i := 0) (by omega) (by omega) dX0_lineAt_8 (fun H locs (hP : va_P G.1 CL ([(o, .inl (G.2 5, 1, .inr (.inl (vp_updL of 0 ((rr_3752).toInt64)))))] ++ (WA ++ [])) H) (hD : va_D A ([(o, .inl (G.2 5, 1, .inr (.inl (vp_updL of 0 ((rr_3752).toInt64)))))] ++ (WA ++ []))) hS => ?_)
    refine lv_goto (tgt := 15) hx hb dX0_lineAt_9 (by decide) ?_
    refine lv_iconst (v := nI 0) hx hb dX0_lineAt_15 (by decide) ?_
    refine vx_ret ?_
    have hpm_3758 : (([(o, .inl (G.2 5, 1, .inr (.inl (vp_updL of 0 ((rr_3752).toInt64)))))] ++ (WA ++ [])) : va_W).Perm (([(o, .inl (G.2 5, 1, .inr (.inl (vp_updL of 0 ((rr_3752).toInt64)))))] ++ (WA ++ [])) ++ []) := segs_perm [[(o, .inl (G.2 5, 1, .inr (.inl (vp_updL of 0 ((rr_3752).toInt64)))))], WA] [0, 1] [] rfl
    have hP9 : va_P G.1 CL ([(o, .inl (G.2 5, 1, .inr (.inl (vp_updL of 0 ((rr_3752).toInt64)))))] ++ (WA ++ [])) H := P_left (P_perm hpm_3758 hP)
    have hD9 : va_D A ([(o, .inl (G.2 5, 1, .inr (.inl (vp_updL of 0 ((rr_3752).toInt64)))))] ++ (WA ++ [])) := D_left (D_perm hpm_3758 hD)
    exact end_i hx hb hr hlk (rfl) (qc_of (vp_updL of 0 ((rr_3752).toInt64), WA) (v := some (.int (nI 0))) (by rw [hq_3756]) (⟨fun _ => by rw [hq_3756]; exact pk_uLs, by rw [hq_3756]; exact (by decide : (0 : Nat) < 10), h⟩) hP9 hD9 (trivial) hS) hS dX0_lineAt_16 (show 0 + 2 ≤ 2 from by first | exact Nat.le_refl _ | decide | omega) (show 0 + 8 ≤ 8 from by first | exact Nat.le_refl _ | decide | omega)

set_option maxHeartbeats 4000000 in
theorem wX0_undo (l : Launch) (G : Gt) (d : Nat) (S : DS) (WA : va_W) (o : Nat) (of : Nat → Int64) (h : DyW G d S WA) (hfl : l.stackTraces = false) : CTW l G yX0_undo cX0_undo 3 (some .int) [(0, 8, 11, 15)] ({ frames := 8, cells := 2, slots := 8, locals := 122 } : Room) [.ref d, .ref o] ([(o, .inl (G.2 5, 1, .inr (.inl of)))] ++ (WA ++ [])) RH0 (S := (Nat → Int64) × Nat × va_W) (fun (u_ : (Nat → Int64) × Nat × va_W) => some (.int (nI u_.2.1))) (fun (u_ : (Nat → Int64) × Nat × va_W) => (0 < dK S → u_.2.1 = 0 ∧ u_.1 0 = (nI (dK S - 1)).toInt64 ∧ DyW G d ((dH S (dK S - 1), dS S, dK S - 1, dH S, dL S, dN S) : DS) u_.2.2) ∧ (dK S = 0 → u_.2.1 = 1 ∧ DyW G d S u_.2.2)) (fun (u_ : (Nat → Int64) × Nat × va_W) => ([(o, .inl (G.2 5, 1, .inr (.inl u_.1)))] ++ (u_.2.2 ++ []))) (fun (u_ : (Nat → Int64) × Nat × va_W) (H : Heap) => True) := by
  refine CTW.of (by decide) (Nat.le_of_ble_eq_true rfl) ?_
  intro p e s m below meth c ls A H locs h9 hH0 hP hS hNc htab
  obtain ⟨cf, hr, hlk, hnm, hKB, hE, -, hD, -, hA, hAw, hRH, hl⟩ := h9
  have hx := cf.1
  have hb := cf.2.1
  have hml := cf.2.2.1
  have hown : s.vm.findClass RX0 = some m.cls := cf.2.2.2.1
  have hts := cf.2.2.2.2
  have hK := hKB.1
  have hl : lv_has ls 3 [(0, .ref d), (1, .ref o)] := hl
  refine lv_aload_n hx hb dX0_undo_0 rfl (lv_at hl 1 rfl) ?_
  refine lv_iconst (v := nI 0) hx hb dX0_undo_1 (by decide) ?_
  refine lv_aload_n hx hb dX0_undo_2 rfl (lv_at hl 0 rfl) ?_
  have hpm_3759 : (([(o, .inl (G.2 5, 1, .inr (.inl of)))] ++ (WA ++ [])) : va_W).Perm ((WA ++ []) ++ [(o, .inl (G.2 5, 1, .inr (.inl of)))]) := segs_perm [[(o, .inl (G.2 5, 1, .inr (.inl of)))], WA] [1] [0] rfl
  have hF := hF_ofP (wc := (WA ++ [])) hD hS hA hpm_3759
  refine go_cxP hS hP hD hpm_3759 hF
      (vx_runV (As := []) (rest := [.int (nI 0), .ref o]) cf (dX1_undo l G d S WA (show DyW G d S WA from by first | assumption | omega) hfl H.size) (cwV 0 hts (lw_V q1554 q1555 q1556 q47 q1557) rfl rfl rfl (by decide +kernel) ⟨Nat.le_of_ble_eq_true rfl, Nat.le_of_ble_eq_true rfl⟩) (preV_of hKB hE hS hF (DyW.recv hK h (seg_at [[(o, .inl (G.2 5, 1, .inr (.inl of)))], WA] 1 rfl hP)) (P_left (P_perm hpm_3759 hP)) ((D_left (D_perm hpm_3759 hD)).weaken (fun _ _ _ _ => trivial)) trivial) rfl rfl hl.1 rfl (lv_room (Nat.le_of_ble_eq_true rfl)) dX0_undo_3 ⟨show 0 + 2 ≤ 2 from by first | decide | omega, show 0 + 8 ≤ 8 from by first | decide | omega⟩)
      (fun u_ H locs ce q9 hq hph (hP : va_P G.1 CL ([(o, .inl (G.2 5, 1, .inr (.inl of)))] ++ (WA ++ [])) H) (hD : va_D A ([(o, .inl (G.2 5, 1, .inr (.inl of)))] ++ (WA ++ []))) hS hfz hfk hce hcv hcl => ?_) (fun u_ H locs hq hph (hP : va_P G.1 CL ([(o, .inl (G.2 5, 1, .inr (.inl of)))] ++ (u_ ++ [])) H) (hD : va_D A ([(o, .inl (G.2 5, 1, .inr (.inl of)))] ++ (u_ ++ []))) hS hfz hfk => ?_)
  · have hq_3761 : dK S = 0 := hq
    have hpm_3762 : ([(o, .inl (G.2 5, 1, .inr (.inl of)))] ++ (WA ++ []) : va_W).Perm ([(o, .inl (G.2 5, 1, .inr (.inl of)))] ++ (WA ++ [])) := segs_perm2 [[(o, .inl (G.2 5, 1, .inr (.inl of)))]] [WA] [0, 1] rfl
    have hP : va_P G.1 CL ([(o, .inl (G.2 5, 1, .inr (.inl of)))] ++ (WA ++ [])) H := P_perm hpm_3762 hP
    have hD : va_D A ([(o, .inl (G.2 5, 1, .inr (.inl of)))] ++ (WA ++ [])) := D_perm hpm_3762 hD
    have hcl9 : s.vm.findClass eS9 = some ce.cls := hcl
    refine vx_catch (name := eS9) (E := eS9) hown [] (⟨0, 8, 11, 15⟩ : ExceptionTableEntry) [] (by rw [htab]; rfl) (fun z hz => absurd hz List.not_mem_nil) (by decide) (by decide) (hts _ q681) (va_Nw.use rfl (hKB.nest q577 rfl)) hce hcv hcl9 ?_
    refine W.eq (g2 := F0 m 11 ls [.ref q9]) rfl ?_
    refine lv_astore_n (lv' := [(2, .ref q9), (0, .ref d), (1, .ref o)]) hx hb dX0_undo_11 rfl hl (by decide) rfl (fun ls hl => ?_)
    refine lv_iconst (v := nI 1) hx hb dX0_undo_12 (by decide) ?_
    refine vx_ret ?_
    have hpm_3763 : (([(o, .inl (G.2 5, 1, .inr (.inl of)))] ++ (WA ++ [])) : va_W).Perm (([(o, .inl (G.2 5, 1, .inr (.inl of)))] ++ (WA ++ [])) ++ []) := segs_perm [[(o, .inl (G.2 5, 1, .inr (.inl of)))], WA] [0, 1] [] rfl
    have hP9 : va_P G.1 CL ([(o, .inl (G.2 5, 1, .inr (.inl of)))] ++ (WA ++ [])) H := P_left (P_perm hpm_3763 hP)
    have hD9 : va_D A ([(o, .inl (G.2 5, 1, .inr (.inl of)))] ++ (WA ++ [])) := D_left (D_perm hpm_3763 hD)
    exact end_i hx hb hr hlk (rfl) (qc_of (of, 1, WA) (v := some (.int (nI 1))) (by rfl) (⟨fun e9 => absurd e9 (by omega), fun _ => ⟨rfl, h⟩⟩) hP9 hD9 (trivial) hS) hS dX0_undo_13 (show 0 + 2 ≤ 2 from by first | exact Nat.le_refl _ | decide | omega) (show 0 + 8 ≤ 8 from by first | exact Nat.le_refl _ | decide | omega)
  · obtain ⟨W2_3760, rfl⟩ : ∃ z, z = u_ := ⟨_, rfl⟩
    obtain ⟨hq_3764, hq_3765⟩ : 1 ≤ dK S ∧ DyW G d ((dH S (dK S - 1), dS S, dK S - 1, dH S, dL S, dN S) : DS) W2_3760 := hq
    have hpm_3766 : ([(o, .inl (G.2 5, 1, .inr (.inl of)))] ++ (W2_3760 ++ []) : va_W).Perm ([(o, .inl (G.2 5, 1, .inr (.inl of)))] ++ (W2_3760 ++ [])) := segs_perm2 [[(o, .inl (G.2 5, 1, .inr (.inl of)))]] [W2_3760] [0, 1] rfl
    have hP : va_P G.1 CL ([(o, .inl (G.2 5, 1, .inr (.inl of)))] ++ (W2_3760 ++ [])) H := P_perm hpm_3766 hP
    have hD : va_D A ([(o, .inl (G.2 5, 1, .inr (.inl of)))] ++ (W2_3760 ++ [])) := D_perm hpm_3766 hD
    refine W.eq (g2 := F0 m 6 ls [.int (nI (dK S - 1)), .int (nI 0), .ref o]) rfl ?_
    refine lv_i2l (v := (nI (dK S - 1)).toInt64) hx hb dX0_undo_6 rfl ?_
    refine r_last hx hb hK hP hD hS 0 5 rfl rfl (i := 0) (by omega) (by omega) dX0_undo_7 (fun H locs (hP : va_P G.1 CL ([(o, .inl (G.2 5, 1, .inr (.inl (vp_updL of 0 ((nI (dK S - 1)).toInt64)))))] ++ (W2_3760 ++ [])) H) (hD : va_D A ([(o, .inl (G.2 5, 1, .inr (.inl (vp_updL of 0 ((nI (dK S - 1)).toInt64)))))] ++ (W2_3760 ++ []))) hS => ?_)
    refine lv_goto (tgt := 14) hx hb dX0_undo_8 (by decide) ?_
    refine lv_iconst (v := nI 0) hx hb dX0_undo_14 (by decide) ?_
    refine vx_ret ?_
    have hpm_3767 : (([(o, .inl (G.2 5, 1, .inr (.inl (vp_updL of 0 ((nI (dK S - 1)).toInt64)))))] ++ (W2_3760 ++ [])) : va_W).Perm (([(o, .inl (G.2 5, 1, .inr (.inl (vp_updL of 0 ((nI (dK S - 1)).toInt64)))))] ++ (W2_3760 ++ [])) ++ []) := segs_perm [[(o, .inl (G.2 5, 1, .inr (.inl (vp_updL of 0 ((nI (dK S - 1)).toInt64)))))], W2_3760] [0, 1] [] rfl
    have hP9 : va_P G.1 CL ([(o, .inl (G.2 5, 1, .inr (.inl (vp_updL of 0 ((nI (dK S - 1)).toInt64)))))] ++ (W2_3760 ++ [])) H := P_left (P_perm hpm_3767 hP)
    have hD9 : va_D A ([(o, .inl (G.2 5, 1, .inr (.inl (vp_updL of 0 ((nI (dK S - 1)).toInt64)))))] ++ (W2_3760 ++ [])) := D_left (D_perm hpm_3767 hD)
    exact end_i hx hb hr hlk (rfl) (qc_of (vp_updL of 0 ((nI (dK S - 1)).toInt64), 0, W2_3760) (v := some (.int (nI 0))) (by rfl) (⟨fun _ => ⟨rfl, pk_uLs, hq_3765⟩, fun e9 => absurd e9 (by omega)⟩) hP9 hD9 (trivial) hS) hS dX0_undo_15 (show 0 + 2 ≤ 2 from by first | exact Nat.le_refl _ | decide | omega) (show 0 + 8 ≤ 8 from by first | exact Nat.le_refl _ | decide | omega)

set_option maxHeartbeats 4000000 in
theorem wX0_restore (l : Launch) (G : Gt) (d : Nat) (S : DS) (WA : va_W) (o : Nat) (of : Nat → Int64) (h : DyW G d S WA) (hfl : l.stackTraces = false) : CTW l G yX0_restore cX0_restore 3 (some .int) [(0, 8, 11, 15)] ({ frames := 10, cells := 103, slots := 5800, locals := 230 } : Room) [.ref d, .ref o] ([(o, .inl (G.2 5, 1, .inr (.inl of)))] ++ (WA ++ [])) RH0 (S := (Nat → Int64) × Nat × va_W) (fun (u_ : (Nat → Int64) × Nat × va_W) => some (.int (nI u_.2.1))) (fun (u_ : (Nat → Int64) × Nat × va_W) => (∀ P, dS S = some P → u_.2.1 = 0 ∧ u_.1 0 = (nI (sN P)).toInt64 ∧ DyW G d ((P, dS S, 0, dH S, dL S, dN S) : DS) u_.2.2) ∧ (dS S = none → u_.2.1 = 1 ∧ DyW G d S u_.2.2)) (fun (u_ : (Nat → Int64) × Nat × va_W) => ([(o, .inl (G.2 5, 1, .inr (.inl u_.1)))] ++ (u_.2.2 ++ []))) (fun (u_ : (Nat → Int64) × Nat × va_W) (H : Heap) => True) := by
  refine CTW.of (by decide) (Nat.le_of_ble_eq_true rfl) ?_
  intro p e s m below meth c ls A H locs h9 hH0 hP hS hNc htab
  obtain ⟨cf, hr, hlk, hnm, hKB, hE, -, hD, -, hA, hAw, hRH, hl⟩ := h9
  have hx := cf.1
  have hb := cf.2.1
  have hml := cf.2.2.1
  have hown : s.vm.findClass RX0 = some m.cls := cf.2.2.2.1
  have hts := cf.2.2.2.2
  have hK := hKB.1
  have hl : lv_has ls 3 [(0, .ref d), (1, .ref o)] := hl
  refine lv_aload_n hx hb dX0_restore_0 rfl (lv_at hl 1 rfl) ?_
  refine lv_iconst (v := nI 0) hx hb dX0_restore_1 (by decide) ?_
  refine lv_aload_n hx hb dX0_restore_2 rfl (lv_at hl 0 rfl) ?_
  have hpm_3768 : (([(o, .inl (G.2 5, 1, .inr (.inl of)))] ++ (WA ++ [])) : va_W).Perm ((WA ++ []) ++ [(o, .inl (G.2 5, 1, .inr (.inl of)))]) := segs_perm [[(o, .inl (G.2 5, 1, .inr (.inl of)))], WA] [1] [0] rfl
  have hF := hF_ofP (wc := (WA ++ [])) hD hS hA hpm_3768
  refine go_cxP hS hP hD hpm_3768 hF
      (vx_runV (As := []) (rest := [.int (nI 0), .ref o]) cf (dX1_restore l G d S WA (show DyW G d S WA from by first | assumption | omega) hfl H.size) (cwV 0 hts (lw_V q1577 q1578 q1579 q47 q1580) rfl rfl rfl (by decide +kernel) ⟨Nat.le_of_ble_eq_true rfl, Nat.le_of_ble_eq_true rfl⟩) (preV_of hKB hE hS hF (DyW.recv hK h (seg_at [[(o, .inl (G.2 5, 1, .inr (.inl of)))], WA] 1 rfl hP)) (P_left (P_perm hpm_3768 hP)) ((D_left (D_perm hpm_3768 hD)).weaken (fun _ _ _ _ => trivial)) trivial) rfl rfl hl.1 rfl (lv_room (Nat.le_of_ble_eq_true rfl)) dX0_restore_3 ⟨show 0 + 103 ≤ 103 from by first | decide | omega, show 0 + 5800 ≤ 5800 from by first | decide | omega⟩)
      (fun u_ H locs ce q9 hq hph (hP : va_P G.1 CL ([(o, .inl (G.2 5, 1, .inr (.inl of)))] ++ (WA ++ [])) H) (hD : va_D A ([(o, .inl (G.2 5, 1, .inr (.inl of)))] ++ (WA ++ []))) hS hfz hfk hce hcv hcl => ?_) (fun u_ H locs hq hph (hP : va_P G.1 CL ([(o, .inl (G.2 5, 1, .inr (.inl of)))] ++ (u_.2 ++ [])) H) (hD : va_D A ([(o, .inl (G.2 5, 1, .inr (.inl of)))] ++ (u_.2 ++ []))) hS hfz hfk => ?_)
  · have hq_3771 : dS S = none := hq
    have hpm_3772 : ([(o, .inl (G.2 5, 1, .inr (.inl of)))] ++ (WA ++ []) : va_W).Perm ([(o, .inl (G.2 5, 1, .inr (.inl of)))] ++ (WA ++ [])) := segs_perm2 [[(o, .inl (G.2 5, 1, .inr (.inl of)))]] [WA] [0, 1] rfl
    have hP : va_P G.1 CL ([(o, .inl (G.2 5, 1, .inr (.inl of)))] ++ (WA ++ [])) H := P_perm hpm_3772 hP
    have hD : va_D A ([(o, .inl (G.2 5, 1, .inr (.inl of)))] ++ (WA ++ [])) := D_perm hpm_3772 hD
    have hcl9 : s.vm.findClass eS9 = some ce.cls := hcl
    refine vx_catch (name := eS9) (E := eS9) hown [] (⟨0, 8, 11, 15⟩ : ExceptionTableEntry) [] (by rw [htab]; rfl) (fun z hz => absurd hz List.not_mem_nil) (by decide) (by decide) (hts _ q681) (va_Nw.use rfl (hKB.nest q577 rfl)) hce hcv hcl9 ?_
    refine W.eq (g2 := F0 m 11 ls [.ref q9]) rfl ?_
    refine lv_astore_n (lv' := [(2, .ref q9), (0, .ref d), (1, .ref o)]) hx hb dX0_restore_11 rfl hl (by decide) rfl (fun ls hl => ?_)
    refine lv_iconst (v := nI 1) hx hb dX0_restore_12 (by decide) ?_
    refine vx_ret ?_
    have hpm_3773 : (([(o, .inl (G.2 5, 1, .inr (.inl of)))] ++ (WA ++ [])) : va_W).Perm (([(o, .inl (G.2 5, 1, .inr (.inl of)))] ++ (WA ++ [])) ++ []) := segs_perm [[(o, .inl (G.2 5, 1, .inr (.inl of)))], WA] [0, 1] [] rfl
    have hP9 : va_P G.1 CL ([(o, .inl (G.2 5, 1, .inr (.inl of)))] ++ (WA ++ [])) H := P_left (P_perm hpm_3773 hP)
    have hD9 : va_D A ([(o, .inl (G.2 5, 1, .inr (.inl of)))] ++ (WA ++ [])) := D_left (D_perm hpm_3773 hD)
    exact end_i hx hb hr hlk (rfl) (qc_of (of, 1, WA) (v := some (.int (nI 1))) (by rfl) (⟨fun P e9 => by rw [hq_3771] at e9; exact nomatch e9, fun _ => ⟨rfl, h⟩⟩) hP9 hD9 (trivial) hS) hS dX0_restore_13 (show 0 + 103 ≤ 103 from by first | exact Nat.le_refl _ | decide | omega) (show 0 + 5800 ≤ 5800 from by first | exact Nat.le_refl _ | decide | omega)
  · obtain ⟨rr_3769, W2_3770⟩ := u_
    have hq_3774 : ∃ P, dS S = some P ∧ rr_3769 = nI (sN P) ∧ DyW G d ((P, dS S, 0, dH S, dL S, dN S) : DS) W2_3770 := hq
    have hpm_3775 : ([(o, .inl (G.2 5, 1, .inr (.inl of)))] ++ (W2_3770 ++ []) : va_W).Perm ([(o, .inl (G.2 5, 1, .inr (.inl of)))] ++ (W2_3770 ++ [])) := segs_perm2 [[(o, .inl (G.2 5, 1, .inr (.inl of)))]] [W2_3770] [0, 1] rfl
    have hP : va_P G.1 CL ([(o, .inl (G.2 5, 1, .inr (.inl of)))] ++ (W2_3770 ++ [])) H := P_perm hpm_3775 hP
    have hD : va_D A ([(o, .inl (G.2 5, 1, .inr (.inl of)))] ++ (W2_3770 ++ [])) := D_perm hpm_3775 hD
    refine W.eq (g2 := F0 m 6 ls [.int rr_3769, .int (nI 0), .ref o]) rfl ?_
    refine lv_i2l (v := (rr_3769).toInt64) hx hb dX0_restore_6 rfl ?_
    refine r_last hx hb hK hP hD hS 0 5 rfl rfl (i := 0) (by omega) (by omega) dX0_restore_7 (fun H locs (hP : va_P G.1 CL ([(o, .inl (G.2 5, 1, .inr (.inl (vp_updL of 0 ((rr_3769).toInt64)))))] ++ (W2_3770 ++ [])) H) (hD : va_D A ([(o, .inl (G.2 5, 1, .inr (.inl (vp_updL of 0 ((rr_3769).toInt64)))))] ++ (W2_3770 ++ []))) hS => ?_)
    refine lv_goto (tgt := 14) hx hb dX0_restore_8 (by decide) ?_
    refine lv_iconst (v := nI 0) hx hb dX0_restore_14 (by decide) ?_
    refine vx_ret ?_
    have hpm_3776 : (([(o, .inl (G.2 5, 1, .inr (.inl (vp_updL of 0 ((rr_3769).toInt64)))))] ++ (W2_3770 ++ [])) : va_W).Perm (([(o, .inl (G.2 5, 1, .inr (.inl (vp_updL of 0 ((rr_3769).toInt64)))))] ++ (W2_3770 ++ [])) ++ []) := segs_perm [[(o, .inl (G.2 5, 1, .inr (.inl (vp_updL of 0 ((rr_3769).toInt64)))))], W2_3770] [0, 1] [] rfl
    have hP9 : va_P G.1 CL ([(o, .inl (G.2 5, 1, .inr (.inl (vp_updL of 0 ((rr_3769).toInt64)))))] ++ (W2_3770 ++ [])) H := P_left (P_perm hpm_3776 hP)
    have hD9 : va_D A ([(o, .inl (G.2 5, 1, .inr (.inl (vp_updL of 0 ((rr_3769).toInt64)))))] ++ (W2_3770 ++ [])) := D_left (D_perm hpm_3776 hD)
    exact end_i hx hb hr hlk (rfl) (qc_of (vp_updL of 0 ((rr_3769).toInt64), 0, W2_3770) (v := some (.int (nI 0))) (by rfl) (by obtain ⟨P9, e8, e7, w9⟩ := hq_3774; exact ⟨fun P e9 => by cases e8.symm.trans e9; exact ⟨rfl, by rw [← e7]; exact pk_uLs, w9⟩, fun e9 => by rw [e9] at e8; exact nomatch e8⟩) hP9 hD9 (trivial) hS) hS dX0_restore_15 (show 0 + 103 ≤ 103 from by first | exact Nat.le_refl _ | decide | omega) (show 0 + 5800 ≤ 5800 from by first | exact Nat.le_refl _ | decide | omega)
