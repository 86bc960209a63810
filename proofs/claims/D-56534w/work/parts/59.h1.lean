/-! the law: its cases -/
set_option maxRecDepth 100000
set_option maxHeartbeats 4000000 in
theorem lawK_0 {p : Program} {l : Launch} {e : Env} {s : State} {m : MethodId} {below : List Frame} {meth : Method} {c : Code} {G : Gt} {A : Nat → Prop} {b L : Nat} {xs : Nat → Int32} {Q : State → Prop} {d m0 o oD i9 N cl sl : Nat} (hfl : l.stackTraces = false) (F : LwF G A p s m c b L xs) (hi9 : i9 + 4 ≤ L) (hN24 : N ≤ 24) (hcl : cl + 20000 ≤ 1200144) (hsl : sl + 45000 ≤ 5495674) (kk : ∀ (ls : Array Slot) (H : Heap) (locs : List Loc) (C M : DS) (th : Nat) (WD WM : va_W) (of : Nat → Int64) (og : Nat → UInt64), va_P G.1 CL ([(o, .inl (G.2 5, 1, .inr (.inl of))), (oD, .inl (G.2 6, 1, .inr (.inr (.inr (.inl og)))))] ++ (WD ++ (WM ++ []))) H → va_D A ([(o, .inl (G.2 5, 1, .inr (.inl of))), (oD, .inl (G.2 6, 1, .inr (.inr (.inr (.inl og)))))] ++ (WD ++ (WM ++ []))) → va_S A s.heap H locs → lv_has ls 10 [(0, .ref b), (1, .ref d), (2, .ref m0), (3, .ref o), (4, .ref oD), (5, .int (nI i9))] → DyW G d C WD → MdW G m0 M th WM → LawI C M (N + 1) → W p l e room_1 s m #[Value.ref b] below meth c H locs (cl + 20000) (sl + 45000) Q (F0 m 2788 ls [])) {ls : Array Slot} {H : Heap} {locs : List Loc} {C M : DS} {th : Nat} {WD WM : va_W} {of : Nat → Int64} {og : Nat → UInt64} (hP : va_P G.1 CL ([(o, .inl (G.2 5, 1, .inr (.inl of))), (oD, .inl (G.2 6, 1, .inr (.inr (.inr (.inl og)))))] ++ (WD ++ (WM ++ []))) H) (hD : va_D A ([(o, .inl (G.2 5, 1, .inr (.inl of))), (oD, .inl (G.2 6, 1, .inr (.inr (.inr (.inl og)))))] ++ (WD ++ (WM ++ [])))) (hS : va_S A s.heap H locs) (hl : lv_has ls 10 [(0, .ref b), (1, .ref d), (2, .ref m0), (3, .ref o), (4, .ref oD), (5, .int (nI i9))]) (hDy : DyW G d C WD) (hMd : MdW G m0 M th WM) (hLw : LawI C M N) : W p l e room_1 s m #[Value.ref b] below meth c H locs cl sl Q (F0 m 264 ls []) := by
  obtain ⟨cf, hKB, hE, hA, hX9, hbl, hbA, hNc, hL96⟩ := F
  have hx := cf.1
  have hb := cf.2.1
  have hml := cf.2.2.1
  have hown : s.vm.findClass RX0 = some m.cls := cf.2.2.2.1
  have hts := cf.2.2.2.2
  have hK := hKB.1
  have hIc := hDy.inv.1
  have hIm : Inv (dC M) := Inv_sim hLw.1 hIc
  have hRk : RkOk (dC M) := RkOk_sim hLw.1 (RkOk_srt hDy.inv.2.2)
  have hl := hl
  refine lv_aload_n hx hb dL_law_264 rfl (lv_at hl 1 rfl) ?_
  refine lv_aload_n hx hb dL_law_265 rfl (lv_at hl 0 rfl) ?_
  refine lv_iload hx hb dL_law_266 (lv_at hl 5 rfl) ?_
  refine lv_iconst (v := nI 1) hx hb dL_law_268 (by decide) ?_
  refine lv_iadd hx hb dL_law_269 ?_
  refine lv_ton (n := i9 + 1) (nadd (by omega)) ?_
  refine va_sld hx hb hX9 hbl hbA hS (i := nI (i9 + 1)) (vp9 (by omega) hL96) dL_law_270 ?_
  refine W.eq (g2 := F0 m 271 ls [.int (sx9 xs (i9 + 1)), .ref d]) rfl ?_
  refine lv_aload_n hx hb dL_law_271 rfl (lv_at hl 3 rfl) ?_
  have hpm_3777 : (([(o, .inl (G.2 5, 1, .inr (.inl of))), (oD, .inl (G.2 6, 1, .inr (.inr (.inr (.inl og)))))] ++ (WD ++ (WM ++ []))) : va_W).Perm (([(o, .inl (G.2 5, 1, .inr (.inl of)))] ++ (WD ++ [])) ++ ([(oD, .inl (G.2 6, 1, .inr (.inr (.inr (.inl og)))))] ++ (WM ++ []))) := segs_perm [[(o, .inl (G.2 5, 1, .inr (.inl of)))], [(oD, .inl (G.2 6, 1, .inr (.inr (.inr (.inl og)))))], WD, WM] [0, 2] [1, 3] rfl
  have hF := hF_ofP (wc := ([(o, .inl (G.2 5, 1, .inr (.inl of)))] ++ (WD ++ []))) hD hS hA hpm_3777
  refine go_ctP hS hP hD hpm_3777 hF
      (vx_runSW (As := [.ref d, .int (sx9 xs (i9 + 1)), .ref o]) (rest := []) cf (wX0_pass l G d C WD o of (sx9 xs (i9 + 1)) (hDy) hfl H.size) (vx_cwSW 3 hts (lw_SW q677 q678 q46 q679) rfl rfl rfl (by decide +kernel) ⟨Nat.le_of_ble_eq_true rfl, Nat.le_of_ble_eq_true rfl⟩) (preS_ofW hNc hKB hE hS hF (P_left (P_perm hpm_3777 hP)) ((D_left (D_perm hpm_3777 hD)).weaken (fun _ _ _ _ => trivial)) trivial) rfl rfl hl.1 rfl (lv_room (Nat.le_of_ble_eq_true rfl)) dL_law_272 ⟨show cl + (1 + 101) ≤ 1200144 from by first | decide | omega, show sl + (6 + 5800) ≤ 5495674 from by first | decide | omega⟩)
      (fun u_ H locs hq hph (hP : va_P G.1 CL (([(oD, .inl (G.2 6, 1, .inr (.inr (.inr (.inl og)))))] ++ (WM ++ [])) ++ ([(o, .inl (G.2 5, 1, .inr (.inl u_.1)))] ++ (u_.2.2 ++ []))) H) (hD : va_D A (([(oD, .inl (G.2 6, 1, .inr (.inr (.inr (.inl og)))))] ++ (WM ++ [])) ++ ([(o, .inl (G.2 5, 1, .inr (.inl u_.1)))] ++ (u_.2.2 ++ [])))) hS hfz hfk => ?_)
  obtain ⟨of2_3778, S2_3779, W2_3780⟩ := u_
  obtain ⟨hq_3781, hq_3782, hq_3783, hq_3784⟩ : ((o_pass (dC C) (sx9 xs (i9 + 1))).1 = 0 → of2_3778 0 = ((o_pass (dC C) (sx9 xs (i9 + 1))).2.1).toInt64) ∧ NxS C (o_pass (dC C) (sx9 xs (i9 + 1))) S2_3779 ∧ (o_pass (dC C) (sx9 xs (i9 + 1))).1 < 10 ∧ DyW G d S2_3779 W2_3780 := hq
  have hpm_3785 : (([(oD, .inl (G.2 6, 1, .inr (.inr (.inr (.inl og)))))] ++ (WM ++ [])) ++ ([(o, .inl (G.2 5, 1, .inr (.inl of2_3778)))] ++ (W2_3780 ++ [])) : va_W).Perm ([(oD, .inl (G.2 6, 1, .inr (.inr (.inr (.inl og))))), (o, .inl (G.2 5, 1, .inr (.inl of2_3778)))] ++ (WM ++ (W2_3780 ++ []))) := segs_perm2 [[(oD, .inl (G.2 6, 1, .inr (.inr (.inr (.inl og)))))], WM] [[(o, .inl (G.2 5, 1, .inr (.inl of2_3778)))], W2_3780] [0, 2, 1, 3] rfl
  have hP : va_P G.1 CL ([(oD, .inl (G.2 6, 1, .inr (.inr (.inr (.inl og))))), (o, .inl (G.2 5, 1, .inr (.inl of2_3778)))] ++ (WM ++ (W2_3780 ++ []))) H := P_perm hpm_3785 hP
  have hD : va_D A ([(oD, .inl (G.2 6, 1, .inr (.inr (.inr (.inl og))))), (o, .inl (G.2 5, 1, .inr (.inl of2_3778)))] ++ (WM ++ (W2_3780 ++ []))) := D_perm hpm_3785 hD
  refine W.eq (g2 := F0 m 275 ls [.int (nI ((o_pass (dC C) (sx9 xs (i9 + 1))).1))]) rfl ?_
  have hqs : SimR (o_pass (dC C) (sx9 xs (i9 + 1))) (o_pass (dC M) (sx9 xs (i9 + 1))) := o_pass_sim hLw.1 hIc (sx9 xs (i9 + 1))
  refine lv_istore (lv' := [(6, .int (nI ((o_pass (dC C) (sx9 xs (i9 + 1))).1))), (0, .ref b), (1, .ref d), (2, .ref m0), (3, .ref o), (4, .ref oD), (5, .int (nI i9))]) hx hb dL_law_275 hl (by decide) rfl (fun ls hl => ?_)
  refine lv_aload_n hx hb dL_law_277 rfl (lv_at hl 3 rfl) ?_
  refine lv_aload_n hx hb dL_law_278 rfl (lv_at hl 1 rfl) ?_
  refine lv_iload hx hb dL_law_279 (lv_at hl 6 rfl) ?_
  refine lv_iconst (v := nI 1) hx hb dL_law_281 (by decide) ?_
  refine lv_iadd hx hb dL_law_282 ?_
  refine lv_ton (n := i9 + 1) (nadd (by omega)) ?_
  refine va_sld hx hb hX9 hbl hbA hS (i := nI (i9 + 1)) (vp9 (by omega) hL96) dL_law_283 ?_
  refine W.eq (g2 := F0 m 284 ls [.int (sx9 xs (i9 + 1)), .ref m0]) rfl ?_
  have hpm_3786 : (([(oD, .inl (G.2 6, 1, .inr (.inr (.inr (.inl og))))), (o, .inl (G.2 5, 1, .inr (.inl of2_3778)))] ++ (WM ++ (W2_3780 ++ []))) : va_W).Perm ((WM ++ []) ++ ([(oD, .inl (G.2 6, 1, .inr (.inr (.inr (.inl og))))), (o, .inl (G.2 5, 1, .inr (.inl of2_3778)))] ++ (W2_3780 ++ []))) := segs_perm [[(oD, .inl (G.2 6, 1, .inr (.inr (.inr (.inl og)))))], [(o, .inl (G.2 5, 1, .inr (.inl of2_3778)))], WM, W2_3780] [2] [0, 1, 3] rfl
  have hF := hF_ofP (wc := (WM ++ [])) hD hS hA hpm_3786
  refine go_ctP hS hP hD hpm_3786 hF
      (va_runV (As := [.int (sx9 xs (i9 + 1))]) (rest := []) cf (eX4_pass l G m0 M th WM (sx9 xs (i9 + 1)) (hMd) (hIm) H.size) (cwV 1 hts (lw_V q1643 q1644 q1645 q58 q1646) rfl rfl rfl (by decide +kernel) ⟨Nat.le_of_ble_eq_true rfl, Nat.le_of_ble_eq_true rfl⟩) (preV_of hKB hE hS hF (MdW.recv hK hMd (seg_at [[(oD, .inl (G.2 6, 1, .inr (.inr (.inr (.inl og)))))], [(o, .inl (G.2 5, 1, .inr (.inl of2_3778)))], WM, W2_3780] 2 rfl hP)) (P_left (P_perm hpm_3786 hP)) ((D_left (D_perm hpm_3786 hD)).weaken (fun _ _ _ _ => trivial)) trivial) rfl rfl hl.1 rfl (lv_room (Nat.le_of_ble_eq_true rfl)) dL_law_284 ⟨show cl + (1 + 101) + 0 ≤ 1200144 from by first | decide | omega, show sl + (6 + 5800) + 0 ≤ 5495674 from by first | decide | omega⟩)
      (fun u_ H locs hq hph (hP : va_P G.1 CL (([(oD, .inl (G.2 6, 1, .inr (.inr (.inr (.inl og))))), (o, .inl (G.2 5, 1, .inr (.inl of2_3778)))] ++ (W2_3780 ++ [])) ++ (u_.2 ++ [])) H) (hD : va_D A (([(oD, .inl (G.2 6, 1, .inr (.inr (.inr (.inl og))))), (o, .inl (G.2 5, 1, .inr (.inl of2_3778)))] ++ (W2_3780 ++ [])) ++ (u_.2 ++ []))) hS hfz hfk => ?_)
  obtain ⟨rr_3787, W2_3788⟩ := u_
  obtain ⟨hq_3789, hq_3790⟩ : ((o_pass (dC M) (sx9 xs (i9 + 1))).1 = 0 → rr_3787 = (o_pass (dC M) (sx9 xs (i9 + 1))).2.1) ∧ MdW G m0 (if (o_pass (dC M) (sx9 xs (i9 + 1))).1 = 0 then (((o_pass (dC M) (sx9 xs (i9 + 1))).2.2, dS M, min 6 (dK M + 1), hsR (dH M) (dK M) (dC M), dL M, dN M) : DS) else M) (o_pass (dC M) (sx9 xs (i9 + 1))).1 W2_3788 := hq
  have hpm_3791 : (([(oD, .inl (G.2 6, 1, .inr (.inr (.inr (.inl og))))), (o, .inl (G.2 5, 1, .inr (.inl of2_3778)))] ++ (W2_3780 ++ [])) ++ (W2_3788 ++ []) : va_W).Perm ([(oD, .inl (G.2 6, 1, .inr (.inr (.inr (.inl og))))), (o, .inl (G.2 5, 1, .inr (.inl of2_3778)))] ++ (W2_3780 ++ (W2_3788 ++ []))) := segs_perm2 [[(oD, .inl (G.2 6, 1, .inr (.inr (.inr (.inl og)))))], [(o, .inl (G.2 5, 1, .inr (.inl of2_3778)))], W2_3780] [W2_3788] [0, 1, 2, 3] rfl
  have hP : va_P G.1 CL ([(oD, .inl (G.2 6, 1, .inr (.inr (.inr (.inl og))))), (o, .inl (G.2 5, 1, .inr (.inl of2_3778)))] ++ (W2_3780 ++ (W2_3788 ++ []))) H := P_perm hpm_3791 hP
  have hD : va_D A ([(oD, .inl (G.2 6, 1, .inr (.inr (.inr (.inl og))))), (o, .inl (G.2 5, 1, .inr (.inl of2_3778)))] ++ (W2_3780 ++ (W2_3788 ++ []))) := D_perm hpm_3791 hD
  refine W.eq (g2 := F0 m 287 ls [.int rr_3787]) rfl ?_
  refine lv_istore (lv' := [(7, .int rr_3787), (6, .int (nI ((o_pass (dC C) (sx9 xs (i9 + 1))).1))), (0, .ref b), (1, .ref d), (2, .ref m0), (3, .ref o), (4, .ref oD), (5, .int (nI i9))]) hx hb dL_law_287 hl (by decide) rfl (fun ls hl => ?_)
  refine lv_aload_n hx hb dL_law_289 rfl (lv_at hl 4 rfl) ?_
  have hpm_3792 : (([(oD, .inl (G.2 6, 1, .inr (.inr (.inr (.inl og))))), (o, .inl (G.2 5, 1, .inr (.inl of2_3778)))] ++ (W2_3780 ++ (W2_3788 ++ []))) : va_W).Perm ([] ++ ([(oD, .inl (G.2 6, 1, .inr (.inr (.inr (.inl og))))), (o, .inl (G.2 5, 1, .inr (.inl of2_3778)))] ++ (W2_3780 ++ (W2_3788 ++ [])))) := segs_perm [[(oD, .inl (G.2 6, 1, .inr (.inr (.inr (.inl og)))))], [(o, .inl (G.2 5, 1, .inr (.inl of2_3778)))], W2_3780, W2_3788] [] [0, 1, 2, 3] rfl
  have hF := hF_ofP (wc := []) hD hS hA hpm_3792
  refine go_ctP hS hP hD hpm_3792 hF
      (va_runV (As := []) (rest := []) cf (eX4_thrown l G m0 (if ((o_pass (dC M) (sx9 xs (i9 + 1)))).1 = 0 then ((((o_pass (dC M) (sx9 xs (i9 + 1)))).2.2, dS M, min 6 (dK M + 1), hsR (dH M) (dK M) (dC M), dL M, dN M) : DS) else M) (((o_pass (dC M) (sx9 xs (i9 + 1)))).1) W2_3788 (hq_3790) H.size) (cwV 0 hts (lw_V q1639 q1640 q1641 q58 q1642) rfl rfl rfl (by decide +kernel) ⟨Nat.le_of_ble_eq_true rfl, Nat.le_of_ble_eq_true rfl⟩) (preV_of hKB hE hS hF (MdW.recv hK hq_3790 (seg_at [[(oD, .inl (G.2 6, 1, .inr (.inr (.inr (.inl og)))))], [(o, .inl (G.2 5, 1, .inr (.inl of2_3778)))], W2_3780, W2_3788] 3 rfl hP)) (P_left (P_perm hpm_3792 hP)) ((D_left (D_perm hpm_3792 hD)).weaken (fun _ _ _ _ => trivial)) (roW.nil (seg_at [[(oD, .inl (G.2 6, 1, .inr (.inr (.inr (.inl og)))))], [(o, .inl (G.2 5, 1, .inr (.inl of2_3778)))], W2_3780, W2_3788] 3 rfl hP))) rfl rfl hl.1 rfl (lv_room (Nat.le_of_ble_eq_true rfl)) dL_law_290 ⟨show cl + (1 + 101) + 0 ≤ 1200144 from by first | decide | omega, show sl + (6 + 5800) + 0 ≤ 5495674 from by first | decide | omega⟩)
      (fun u_ H locs hq hph (hP : va_P G.1 CL (([(oD, .inl (G.2 6, 1, .inr (.inr (.inr (.inl og))))), (o, .inl (G.2 5, 1, .inr (.inl of2_3778)))] ++ (W2_3780 ++ (W2_3788 ++ []))) ++ []) H) (hD : va_D A (([(oD, .inl (G.2 6, 1, .inr (.inr (.inr (.inl og))))), (o, .inl (G.2 5, 1, .inr (.inl of2_3778)))] ++ (W2_3780 ++ (W2_3788 ++ []))) ++ [])) hS hfz hfk => ?_)
  have hpm_3793 : (([(oD, .inl (G.2 6, 1, .inr (.inr (.inr (.inl og))))), (o, .inl (G.2 5, 1, .inr (.inl of2_3778)))] ++ (W2_3780 ++ (W2_3788 ++ []))) ++ [] : va_W).Perm ([(oD, .inl (G.2 6, 1, .inr (.inr (.inr (.inl og))))), (o, .inl (G.2 5, 1, .inr (.inl of2_3778)))] ++ (W2_3780 ++ (W2_3788 ++ []))) := segs_perm2 [[(oD, .inl (G.2 6, 1, .inr (.inr (.inr (.inl og)))))], [(o, .inl (G.2 5, 1, .inr (.inl of2_3778)))], W2_3780, W2_3788] [] [0, 1, 2, 3] rfl
  have hP : va_P G.1 CL ([(oD, .inl (G.2 6, 1, .inr (.inr (.inr (.inl og))))), (o, .inl (G.2 5, 1, .inr (.inl of2_3778)))] ++ (W2_3780 ++ (W2_3788 ++ []))) H := P_perm hpm_3793 hP
  have hD : va_D A ([(oD, .inl (G.2 6, 1, .inr (.inr (.inr (.inl og))))), (o, .inl (G.2 5, 1, .inr (.inl of2_3778)))] ++ (W2_3780 ++ (W2_3788 ++ []))) := D_perm hpm_3793 hD
  refine W.eq (g2 := F0 m 293 ls [.int (nI (((o_pass (dC M) (sx9 xs (i9 + 1)))).1))]) rfl ?_
  refine lv_ton (n := ((o_pass (dC C) (sx9 xs (i9 + 1))).1)) (congrArg nI hqs.1.symm) ?_
  refine lv_iload hx hb dL_law_293 (lv_at hl 1 rfl) ?_
  refine lv_icmp_eq (tgt := 300) hx hb dL_law_295 (by decide) (fun _ => ?_) (fun c9 => absurd rfl c9)
  refine lv_iload hx hb dL_law_300 (lv_at hl 1 rfl) ?_
  refine n_if_ne (tgt := 317) hx hb (by omega) dL_law_302 (by decide) (fun c_3794 => ?_) (fun c_3794 => ?_)
  · refine lv_goto (tgt := 2788) hx hb dL_law_317 (by decide) ?_
    have hpm_3795 : (([(oD, .inl (G.2 6, 1, .inr (.inr (.inr (.inl og))))), (o, .inl (G.2 5, 1, .inr (.inl of2_3778)))] ++ (W2_3780 ++ (W2_3788 ++ []))) : va_W).Perm (([(o, .inl (G.2 5, 1, .inr (.inl of2_3778))), (oD, .inl (G.2 6, 1, .inr (.inr (.inr (.inl og)))))] ++ (W2_3780 ++ (W2_3788 ++ []))) ++ []) := segs_perm [[(oD, .inl (G.2 6, 1, .inr (.inr (.inr (.inl og)))))], [(o, .inl (G.2 5, 1, .inr (.inl of2_3778)))], W2_3780, W2_3788] [1, 0, 2, 3] [] rfl
    have hP : va_P G.1 CL ([(o, .inl (G.2 5, 1, .inr (.inl of2_3778))), (oD, .inl (G.2 6, 1, .inr (.inr (.inr (.inl og)))))] ++ (W2_3780 ++ (W2_3788 ++ []))) H := P_left (P_perm hpm_3795 hP)
    have hD : va_D A ([(o, .inl (G.2 5, 1, .inr (.inl of2_3778))), (oD, .inl (G.2 6, 1, .inr (.inr (.inr (.inl og)))))] ++ (W2_3780 ++ (W2_3788 ++ []))) := D_left (D_perm hpm_3795 hD)
    have hl := lv_sub hl [2, 3, 4, 5, 6, 7] (l' := [(0, .ref b), (1, .ref d), (2, .ref m0), (3, .ref o), (4, .ref oD), (5, .int (nI i9))]) rfl
    exact W.widen (show cl + (1 + 101) ≤ cl + 20000 from by omega) (show sl + (6 + 5800) ≤ sl + 45000 from by omega) (kk ls H locs S2_3779 (if ((o_pass (dC M) (sx9 xs (i9 + 1)))).1 = 0 then ((((o_pass (dC M) (sx9 xs (i9 + 1)))).2.2, dS M, min 6 (dK M + 1), hsR (dH M) (dK M) (dC M), dL M, dN M) : DS) else M) (((o_pass (dC M) (sx9 xs (i9 + 1)))).1) W2_3780 W2_3788 of2_3778 og hP hD hS hl hq_3784 hq_3790 (hLw.mut hqs hq_3782 (o_pass_b (dC C) (sx9 xs (i9 + 1)))))
  · refine lv_aload_n hx hb dL_law_305 rfl (lv_at hl 5 rfl) ?_
    refine lv_iconst (v := nI 0) hx hb dL_law_306 (by decide) ?_
    refine r_lald (v := (((o_pass (dC C) (sx9 xs (i9 + 1)))).2.1).toInt64) hx hb hK hP 1 5 rfl rfl (i := 0) (by omega) (by omega) ((hq_3781 (by omega))) dL_law_307 ?_
    refine lv_iload hx hb dL_law_308 (lv_at hl 0 rfl) ?_
    refine lv_toi (y := ((o_pass (dC C) (sx9 xs (i9 + 1)))).2.1) ((hq_3789 (hqs.1.symm.trans (by omega))).trans hqs.2.1.symm) ?_
    refine lv_i2l (v := (((o_pass (dC C) (sx9 xs (i9 + 1)))).2.1).toInt64) hx hb dL_law_310 rfl ?_
    refine W.lcmp hx hb dL_law_311 ?_
    refine lv_ton (n := 0) (lcmp0 _) ?_
    refine n_if_eq (tgt := 317) hx hb (by omega) dL_law_312 (by decide) (fun c_3796 => ?_) (fun c_3796 => absurd c_3796 (by omega))
    refine lv_goto (tgt := 2788) hx hb dL_law_317 (by decide) ?_
    have hpm_3797 : (([(oD, .inl (G.2 6, 1, .inr (.inr (.inr (.inl og))))), (o, .inl (G.2 5, 1, .inr (.inl of2_3778)))] ++ (W2_3780 ++ (W2_3788 ++ []))) : va_W).Perm (([(o, .inl (G.2 5, 1, .inr (.inl of2_3778))), (oD, .inl (G.2 6, 1, .inr (.inr (.inr (.inl og)))))] ++ (W2_3780 ++ (W2_3788 ++ []))) ++ []) := segs_perm [[(oD, .inl (G.2 6, 1, .inr (.inr (.inr (.inl og)))))], [(o, .inl (G.2 5, 1, .inr (.inl of2_3778)))], W2_3780, W2_3788] [1, 0, 2, 3] [] rfl
    have hP : va_P G.1 CL ([(o, .inl (G.2 5, 1, .inr (.inl of2_3778))), (oD, .inl (G.2 6, 1, .inr (.inr (.inr (.inl og)))))] ++ (W2_3780 ++ (W2_3788 ++ []))) H := P_left (P_perm hpm_3797 hP)
    have hD : va_D A ([(o, .inl (G.2 5, 1, .inr (.inl of2_3778))), (oD, .inl (G.2 6, 1, .inr (.inr (.inr (.inl og)))))] ++ (W2_3780 ++ (W2_3788 ++ []))) := D_left (D_perm hpm_3797 hD)
    have hl := lv_sub hl [2, 3, 4, 5, 6, 7] (l' := [(0, .ref b), (1, .ref d), (2, .ref m0), (3, .ref o), (4, .ref oD), (5, .int (nI i9))]) rfl
    exact W.widen (show cl + (1 + 101) ≤ cl + 20000 from by omega) (show sl + (6 + 5800) ≤ sl + 45000 from by omega) (kk ls H locs S2_3779 (if ((o_pass (dC M) (sx9 xs (i9 + 1)))).1 = 0 then ((((o_pass (dC M) (sx9 xs (i9 + 1)))).2.2, dS M, min 6 (dK M + 1), hsR (dH M) (dK M) (dC M), dL M, dN M) : DS) else M) (((o_pass (dC M) (sx9 xs (i9 + 1)))).1) W2_3780 W2_3788 of2_3778 og hP hD hS hl hq_3784 hq_3790 (hLw.mut hqs hq_3782 (o_pass_b (dC C) (sx9 xs (i9 + 1)))))

set_option maxHeartbeats 4000000 in
theorem lawK_1 {p : Program} {l : Launch} {e : Env} {s : State} {m : MethodId} {below : List Frame} {meth : Method} {c : Code} {G : Gt} {A : Nat → Prop} {b L : Nat} {xs : Nat → Int32} {Q : State → Prop} {d m0 o oD i9 N cl sl : Nat} (hfl : l.stackTraces = false) (F : LwF G A p s m c b L xs) (hi9 : i9 + 4 ≤ L) (hN24 : N ≤ 24) (hcl : cl + 20000 ≤ 1200144) (hsl : sl + 45000 ≤ 5495674) (kk : ∀ (ls : Array Slot) (H : Heap) (locs : List Loc) (C M : DS) (th : Nat) (WD WM : va_W) (of : Nat → Int64) (og : Nat → UInt64), va_P G.1 CL ([(o, .inl (G.2 5, 1, .inr (.inl of))), (oD, .inl (G.2 6, 1, .inr (.inr (.inr (.inl og)))))] ++ (WD ++ (WM ++ []))) H → va_D A ([(o, .inl (G.2 5, 1, .inr (.inl of))), (oD, .inl (G.2 6, 1, .inr (.inr (.inr (.inl og)))))] ++ (WD ++ (WM ++ []))) → va_S A s.heap H locs → lv_has ls 10 [(0, .ref b), (1, .ref d), (2, .ref m0), (3, .ref o), (4, .ref oD), (5, .int (nI i9))] → DyW G d C WD → MdW G m0 M th WM → LawI C M (N + 1) → W p l e room_1 s m #[Value.ref b] below meth c H locs (cl + 20000) (sl + 45000) Q (F0 m 2788 ls [])) {ls : Array Slot} {H : Heap} {locs : List Loc} {C M : DS} {th : Nat} {WD WM : va_W} {of : Nat → Int64} {og : Nat → UInt64} (hP : va_P G.1 CL ([(o, .inl (G.2 5, 1, .inr (.inl of))), (oD, .inl (G.2 6, 1, .inr (.inr (.inr (.inl og)))))] ++ (WD ++ (WM ++ []))) H) (hD : va_D A ([(o, .inl (G.2 5, 1, .inr (.inl of))), (oD, .inl (G.2 6, 1, .inr (.inr (.inr (.inl og)))))] ++ (WD ++ (WM ++ [])))) (hS : va_S A s.heap H locs) (hl : lv_has ls 10 [(0, .ref b), (1, .ref d), (2, .ref m0), (3, .ref o), (4, .ref oD), (5, .int (nI i9))]) (hDy : DyW G d C WD) (hMd : MdW G m0 M th WM) (hLw : LawI C M N) : W p l e room_1 s m #[Value.ref b] below meth c H locs cl sl Q (F0 m 320 ls []) := by
  obtain ⟨cf, hKB, hE, hA, hX9, hbl, hbA, hNc, hL96⟩ := F
  have hx := cf.1
  have hb := cf.2.1
  have hml := cf.2.2.1
  have hown : s.vm.findClass RX0 = some m.cls := cf.2.2.2.1
  have hts := cf.2.2.2.2
  have hK := hKB.1
  have hIc := hDy.inv.1
  have hIm : Inv (dC M) := Inv_sim hLw.1 hIc
  have hRk : RkOk (dC M) := RkOk_sim hLw.1 (RkOk_srt hDy.inv.2.2)
  have hl := hl
  refine lv_aload_n hx hb dL_law_320 rfl (lv_at hl 1 rfl) ?_
  have hpm_3798 : (([(o, .inl (G.2 5, 1, .inr (.inl of))), (oD, .inl (G.2 6, 1, .inr (.inr (.inr (.inl og)))))] ++ (WD ++ (WM ++ []))) : va_W).Perm ((WD ++ []) ++ ([(o, .inl (G.2 5, 1, .inr (.inl of))), (oD, .inl (G.2 6, 1, .inr (.inr (.inr (.inl og)))))] ++ (WM ++ []))) := segs_perm [[(o, .inl (G.2 5, 1, .inr (.inl of)))], [(oD, .inl (G.2 6, 1, .inr (.inr (.inr (.inl og)))))], WD, WM] [2] [0, 1, 3] rfl
  have hF := hF_ofP (wc := (WD ++ [])) hD hS hA hpm_3798
  refine go_ctP hS hP hD hpm_3798 hF
      (va_runV (As := []) (rest := []) cf (dX1_today l G d C WD (hDy) H.size) (cwV 0 hts (lw_V q251 q252 q253 q47 q254) rfl rfl rfl (by decide +kernel) ⟨Nat.le_of_ble_eq_true rfl, Nat.le_of_ble_eq_true rfl⟩) (preV_of hKB hE hS hF (DyW.recv hK hDy (seg_at [[(o, .inl (G.2 5, 1, .inr (.inl of)))], [(oD, .inl (G.2 6, 1, .inr (.inr (.inr (.inl og)))))], WD, WM] 2 rfl hP)) (P_left (P_perm hpm_3798 hP)) ((D_left (D_perm hpm_3798 hD)).weaken (fun _ _ _ _ => trivial)) trivial) rfl rfl hl.1 rfl (lv_room (Nat.le_of_ble_eq_true rfl)) dL_law_321 ⟨show cl + 1 ≤ 1200144 from by first | decide | omega, show sl + 2 ≤ 5495674 from by first | decide | omega⟩)
      (fun u_ H locs hq hph (hP : va_P G.1 CL (([(o, .inl (G.2 5, 1, .inr (.inl of))), (oD, .inl (G.2 6, 1, .inr (.inr (.inr (.inl og)))))] ++ (WM ++ [])) ++ (u_.2 ++ [])) H) (hD : va_D A (([(o, .inl (G.2 5, 1, .inr (.inl of))), (oD, .inl (G.2 6, 1, .inr (.inr (.inr (.inl og)))))] ++ (WM ++ [])) ++ (u_.2 ++ []))) hS hfz hfk => ?_)
  obtain ⟨rr_3799, W2_3800⟩ := u_
  obtain ⟨hq_3801, hq_3802⟩ : q_today (dC C) = (0, rr_3799) ∧ DyW G d C W2_3800 := hq
  have hpm_3803 : (([(o, .inl (G.2 5, 1, .inr (.inl of))), (oD, .inl (G.2 6, 1, .inr (.inr (.inr (.inl og)))))] ++ (WM ++ [])) ++ (W2_3800 ++ []) : va_W).Perm ([(o, .inl (G.2 5, 1, .inr (.inl of))), (oD, .inl (G.2 6, 1, .inr (.inr (.inr (.inl og)))))] ++ (WM ++ (W2_3800 ++ []))) := segs_perm2 [[(o, .inl (G.2 5, 1, .inr (.inl of)))], [(oD, .inl (G.2 6, 1, .inr (.inr (.inr (.inl og)))))], WM] [W2_3800] [0, 1, 2, 3] rfl
  have hP : va_P G.1 CL ([(o, .inl (G.2 5, 1, .inr (.inl of))), (oD, .inl (G.2 6, 1, .inr (.inr (.inr (.inl og)))))] ++ (WM ++ (W2_3800 ++ []))) H := P_perm hpm_3803 hP
  have hD : va_D A ([(o, .inl (G.2 5, 1, .inr (.inl of))), (oD, .inl (G.2 6, 1, .inr (.inr (.inr (.inl og)))))] ++ (WM ++ (W2_3800 ++ []))) := D_perm hpm_3803 hD
  refine W.eq (g2 := F0 m 324 ls [.int rr_3799]) rfl ?_
  have hqs : (q_today (dC M)) = (q_today (dC C)) := q_today_sim hLw.1.symm hIm 
  refine lv_toi (y := ((q_today (dC C))).2) ((congrArg Prod.snd hq_3801).symm) ?_
  refine lv_aload_n hx hb dL_law_324 rfl (lv_at hl 2 rfl) ?_
  have hpm_3804 : (([(o, .inl (G.2 5, 1, .inr (.inl of))), (oD, .inl (G.2 6, 1, .inr (.inr (.inr (.inl og)))))] ++ (WM ++ (W2_3800 ++ []))) : va_W).Perm ((WM ++ []) ++ ([(o, .inl (G.2 5, 1, .inr (.inl of))), (oD, .inl (G.2 6, 1, .inr (.inr (.inr (.inl og)))))] ++ (W2_3800 ++ []))) := segs_perm [[(o, .inl (G.2 5, 1, .inr (.inl of)))], [(oD, .inl (G.2 6, 1, .inr (.inr (.inr (.inl og)))))], WM, W2_3800] [2] [0, 1, 3] rfl
  have hF := hF_ofP (wc := (WM ++ [])) hD hS hA hpm_3804
  refine go_ctP hS hP hD hpm_3804 hF
      (va_runV (As := []) (rest := [.int (((q_today (dC C))).2)]) cf (eX4_today l G m0 M th WM (hMd) (hIm) H.size) (cwV 0 hts (lw_V q1659 q1660 q1661 q58 q1662) rfl rfl rfl (by decide +kernel) ⟨Nat.le_of_ble_eq_true rfl, Nat.le_of_ble_eq_true rfl⟩) (preV_of hKB hE hS hF (MdW.recv hK hMd (seg_at [[(o, .inl (G.2 5, 1, .inr (.inl of)))], [(oD, .inl (G.2 6, 1, .inr (.inr (.inr (.inl og)))))], WM, W2_3800] 2 rfl hP)) (P_left (P_perm hpm_3804 hP)) ((D_left (D_perm hpm_3804 hD)).weaken (fun _ _ _ _ => trivial)) trivial) rfl rfl hl.1 rfl (lv_room (Nat.le_of_ble_eq_true rfl)) dL_law_325 ⟨show cl + 1 + 0 ≤ 1200144 from by first | decide | omega, show sl + 2 + 0 ≤ 5495674 from by first | decide | omega⟩)
      (fun u_ H locs hq hph (hP : va_P G.1 CL (([(o, .inl (G.2 5, 1, .inr (.inl of))), (oD, .inl (G.2 6, 1, .inr (.inr (.inr (.inl og)))))] ++ (W2_3800 ++ [])) ++ (u_.2 ++ [])) H) (hD : va_D A (([(o, .inl (G.2 5, 1, .inr (.inl of))), (oD, .inl (G.2 6, 1, .inr (.inr (.inr (.inl og)))))] ++ (W2_3800 ++ [])) ++ (u_.2 ++ []))) hS hfz hfk => ?_)
  obtain ⟨rr_3805, W2_3806⟩ := u_
  obtain ⟨hq_3807, hq_3808⟩ : ((q_today (dC M)).1 = 0 → rr_3805 = (q_today (dC M)).2) ∧ MdW G m0 M (q_today (dC M)).1 W2_3806 := hq
  have hpm_3809 : (([(o, .inl (G.2 5, 1, .inr (.inl of))), (oD, .inl (G.2 6, 1, .inr (.inr (.inr (.inl og)))))] ++ (W2_3800 ++ [])) ++ (W2_3806 ++ []) : va_W).Perm ([(o, .inl (G.2 5, 1, .inr (.inl of))), (oD, .inl (G.2 6, 1, .inr (.inr (.inr (.inl og)))))] ++ (W2_3800 ++ (W2_3806 ++ []))) := segs_perm2 [[(o, .inl (G.2 5, 1, .inr (.inl of)))], [(oD, .inl (G.2 6, 1, .inr (.inr (.inr (.inl og)))))], W2_3800] [W2_3806] [0, 1, 2, 3] rfl
  have hP : va_P G.1 CL ([(o, .inl (G.2 5, 1, .inr (.inl of))), (oD, .inl (G.2 6, 1, .inr (.inr (.inr (.inl og)))))] ++ (W2_3800 ++ (W2_3806 ++ []))) H := P_perm hpm_3809 hP
  have hD : va_D A ([(o, .inl (G.2 5, 1, .inr (.inl of))), (oD, .inl (G.2 6, 1, .inr (.inr (.inr (.inl og)))))] ++ (W2_3800 ++ (W2_3806 ++ []))) := D_perm hpm_3809 hD
  refine W.eq (g2 := F0 m 328 ls [.int rr_3805, .int (((q_today (dC C))).2)]) rfl ?_
  refine lv_toi (y := ((q_today (dC C))).2) ((hq_3807 (by rw [hqs, hq_3801])).trans (by rw [hqs])) ?_
  refine lv_icmp_eq (tgt := 2788) hx hb dL_law_328 (by decide) (fun _ => ?_) (fun c9 => absurd rfl c9)
  have hpm_3810 : (([(o, .inl (G.2 5, 1, .inr (.inl of))), (oD, .inl (G.2 6, 1, .inr (.inr (.inr (.inl og)))))] ++ (W2_3800 ++ (W2_3806 ++ []))) : va_W).Perm (([(o, .inl (G.2 5, 1, .inr (.inl of))), (oD, .inl (G.2 6, 1, .inr (.inr (.inr (.inl og)))))] ++ (W2_3800 ++ (W2_3806 ++ []))) ++ []) := segs_perm [[(o, .inl (G.2 5, 1, .inr (.inl of)))], [(oD, .inl (G.2 6, 1, .inr (.inr (.inr (.inl og)))))], W2_3800, W2_3806] [0, 1, 2, 3] [] rfl
  have hP : va_P G.1 CL ([(o, .inl (G.2 5, 1, .inr (.inl of))), (oD, .inl (G.2 6, 1, .inr (.inr (.inr (.inl og)))))] ++ (W2_3800 ++ (W2_3806 ++ []))) H := P_left (P_perm hpm_3810 hP)
  have hD : va_D A ([(o, .inl (G.2 5, 1, .inr (.inl of))), (oD, .inl (G.2 6, 1, .inr (.inr (.inr (.inl og)))))] ++ (W2_3800 ++ (W2_3806 ++ []))) := D_left (D_perm hpm_3810 hD)
  have hl := lv_sub hl [0, 1, 2, 3, 4, 5] (l' := [(0, .ref b), (1, .ref d), (2, .ref m0), (3, .ref o), (4, .ref oD), (5, .int (nI i9))]) rfl
  exact W.widen (show cl + 1 ≤ cl + 20000 from by omega) (show sl + 2 ≤ sl + 45000 from by omega) (kk ls H locs C M (((q_today (dC M))).1) W2_3800 W2_3806 of og hP hD hS hl hq_3802 hq_3808 hLw.up)

set_option maxHeartbeats 4000000 in
theorem lawK_2 {p : Program} {l : Launch} {e : Env} {s : State} {m : MethodId} {below : List Frame} {meth : Method} {c : Code} {G : Gt} {A : Nat → Prop} {b L : Nat} {xs : Nat → Int32} {Q : State → Prop} {d m0 o oD i9 N cl sl : Nat} (hfl : l.stackTraces = false) (F : LwF G A p s m c b L xs) (hi9 : i9 + 4 ≤ L) (hN24 : N ≤ 24) (hcl : cl + 20000 ≤ 1200144) (hsl : sl + 45000 ≤ 5495674) (kk : ∀ (ls : Array Slot) (H : Heap) (locs : List Loc) (C M : DS) (th : Nat) (WD WM : va_W) (of : Nat → Int64) (og : Nat → UInt64), va_P G.1 CL ([(o, .inl (G.2 5, 1, .inr (.inl of))), (oD, .inl (G.2 6, 1, .inr (.inr (.inr (.inl og)))))] ++ (WD ++ (WM ++ []))) H → va_D A ([(o, .inl (G.2 5, 1, .inr (.inl of))), (oD, .inl (G.2 6, 1, .inr (.inr (.inr (.inl og)))))] ++ (WD ++ (WM ++ []))) → va_S A s.heap H locs → lv_has ls 10 [(0, .ref b), (1, .ref d), (2, .ref m0), (3, .ref o), (4, .ref oD), (5, .int (nI i9))] → DyW G d C WD → MdW G m0 M th WM → LawI C M (N + 1) → W p l e room_1 s m #[Value.ref b] below meth c H locs (cl + 20000) (sl + 45000) Q (F0 m 2788 ls [])) {ls : Array Slot} {H : Heap} {locs : List Loc} {C M : DS} {th : Nat} {WD WM : va_W} {of : Nat → Int64} {og : Nat → UInt64} (hP : va_P G.1 CL ([(o, .inl (G.2 5, 1, .inr (.inl of))), (oD, .inl (G.2 6, 1, .inr (.inr (.inr (.inl og)))))] ++ (WD ++ (WM ++ []))) H) (hD : va_D A ([(o, .inl (G.2 5, 1, .inr (.inl of))), (oD, .inl (G.2 6, 1, .inr (.inr (.inr (.inl og)))))] ++ (WD ++ (WM ++ [])))) (hS : va_S A s.heap H locs) (hl : lv_has ls 10 [(0, .ref b), (1, .ref d), (2, .ref m0), (3, .ref o), (4, .ref oD), (5, .int (nI i9))]) (hDy : DyW G d C WD) (hMd : MdW G m0 M th WM) (hLw : LawI C M N) : W p l e room_1 s m #[Value.ref b] below meth c H locs cl sl Q (F0 m 333 ls []) := by
  obtain ⟨cf, hKB, hE, hA, hX9, hbl, hbA, hNc, hL96⟩ := F
  have hx := cf.1
  have hb := cf.2.1
  have hml := cf.2.2.1
  have hown : s.vm.findClass RX0 = some m.cls := cf.2.2.2.1
  have hts := cf.2.2.2.2
  have hK := hKB.1
  have hIc := hDy.inv.1
  have hIm : Inv (dC M) := Inv_sim hLw.1 hIc
  have hRk : RkOk (dC M) := RkOk_sim hLw.1 (RkOk_srt hDy.inv.2.2)
  have hl := hl
  refine lv_aload_n hx hb dL_law_333 rfl (lv_at hl 1 rfl) ?_
  refine lv_aload_n hx hb dL_law_334 rfl (lv_at hl 0 rfl) ?_
  refine lv_iload hx hb dL_law_335 (lv_at hl 5 rfl) ?_
  refine lv_iconst (v := nI 1) hx hb dL_law_337 (by decide) ?_
  refine lv_iadd hx hb dL_law_338 ?_
  refine lv_ton (n := i9 + 1) (nadd (by omega)) ?_
  refine va_sld hx hb hX9 hbl hbA hS (i := nI (i9 + 1)) (vp9 (by omega) hL96) dL_law_339 ?_
  refine W.eq (g2 := F0 m 340 ls [.int (sx9 xs (i9 + 1)), .ref d]) rfl ?_
  refine lv_aload_n hx hb dL_law_340 rfl (lv_at hl 0 rfl) ?_
  refine lv_iload hx hb dL_law_341 (lv_at hl 5 rfl) ?_
  refine lv_iconst (v := nI 2) hx hb dL_law_343 (by decide) ?_
  refine lv_iadd hx hb dL_law_344 ?_
  refine lv_ton (n := i9 + 2) (nadd (by omega)) ?_
  refine va_sld hx hb hX9 hbl hbA hS (i := nI (i9 + 2)) (vp9 (by omega) hL96) dL_law_345 ?_
  refine W.eq (g2 := F0 m 346 ls [.int (sx9 xs (i9 + 2)), .int (sx9 xs (i9 + 1)), .ref d]) rfl ?_
  refine lv_aload_n hx hb dL_law_346 rfl (lv_at hl 3 rfl) ?_
  have hpm_3811 : (([(o, .inl (G.2 5, 1, .inr (.inl of))), (oD, .inl (G.2 6, 1, .inr (.inr (.inr (.inl og)))))] ++ (WD ++ (WM ++ []))) : va_W).Perm (([(o, .inl (G.2 5, 1, .inr (.inl of)))] ++ (WD ++ [])) ++ ([(oD, .inl (G.2 6, 1, .inr (.inr (.inr (.inl og)))))] ++ (WM ++ []))) := segs_perm [[(o, .inl (G.2 5, 1, .inr (.inl of)))], [(oD, .inl (G.2 6, 1, .inr (.inr (.inr (.inl og)))))], WD, WM] [0, 2] [1, 3] rfl
  have hF := hF_ofP (wc := ([(o, .inl (G.2 5, 1, .inr (.inl of)))] ++ (WD ++ []))) hD hS hA hpm_3811
  refine go_ctP hS hP hD hpm_3811 hF
      (vx_runSW (As := [.ref d, .int (sx9 xs (i9 + 1)), .int (sx9 xs (i9 + 2)), .ref o]) (rest := []) cf (wX0_addTest l G d C WD o of (sx9 xs (i9 + 1)) (sx9 xs (i9 + 2)) (hDy) hfl H.size) (vx_cwSW 4 hts (lw_SW q718 q719 q46 q720) rfl rfl rfl (by decide +kernel) ⟨Nat.le_of_ble_eq_true rfl, Nat.le_of_ble_eq_true rfl⟩) (preS_ofW hNc hKB hE hS hF (P_left (P_perm hpm_3811 hP)) ((D_left (D_perm hpm_3811 hD)).weaken (fun _ _ _ _ => trivial)) trivial) rfl rfl hl.1 rfl (lv_room (Nat.le_of_ble_eq_true rfl)) dL_law_347 ⟨show cl + (95 + 101) ≤ 1200144 from by first | decide | omega, show sl + (300 + 5800) ≤ 5495674 from by first | decide | omega⟩)
      (fun u_ H locs hq hph (hP : va_P G.1 CL (([(oD, .inl (G.2 6, 1, .inr (.inr (.inr (.inl og)))))] ++ (WM ++ [])) ++ ([(o, .inl (G.2 5, 1, .inr (.inl u_.1)))] ++ (u_.2.2 ++ []))) H) (hD : va_D A (([(oD, .inl (G.2 6, 1, .inr (.inr (.inr (.inl og)))))] ++ (WM ++ [])) ++ ([(o, .inl (G.2 5, 1, .inr (.inl u_.1)))] ++ (u_.2.2 ++ [])))) hS hfz hfk => ?_)
  obtain ⟨of2_3812, S2_3813, W2_3814⟩ := u_
  obtain ⟨hq_3815, hq_3816, hq_3817, hq_3818⟩ : ((o_addTest (dC C) (sx9 xs (i9 + 1)) (sx9 xs (i9 + 2))).1 = 0 → of2_3812 0 = ((o_addTest (dC C) (sx9 xs (i9 + 1)) (sx9 xs (i9 + 2))).2.1).toInt64) ∧ NxS C (o_addTest (dC C) (sx9 xs (i9 + 1)) (sx9 xs (i9 + 2))) S2_3813 ∧ (o_addTest (dC C) (sx9 xs (i9 + 1)) (sx9 xs (i9 + 2))).1 < 10 ∧ DyW G d S2_3813 W2_3814 := hq
  have hpm_3819 : (([(oD, .inl (G.2 6, 1, .inr (.inr (.inr (.inl og)))))] ++ (WM ++ [])) ++ ([(o, .inl (G.2 5, 1, .inr (.inl of2_3812)))] ++ (W2_3814 ++ [])) : va_W).Perm ([(oD, .inl (G.2 6, 1, .inr (.inr (.inr (.inl og))))), (o, .inl (G.2 5, 1, .inr (.inl of2_3812)))] ++ (WM ++ (W2_3814 ++ []))) := segs_perm2 [[(oD, .inl (G.2 6, 1, .inr (.inr (.inr (.inl og)))))], WM] [[(o, .inl (G.2 5, 1, .inr (.inl of2_3812)))], W2_3814] [0, 2, 1, 3] rfl
  have hP : va_P G.1 CL ([(oD, .inl (G.2 6, 1, .inr (.inr (.inr (.inl og))))), (o, .inl (G.2 5, 1, .inr (.inl of2_3812)))] ++ (WM ++ (W2_3814 ++ []))) H := P_perm hpm_3819 hP
  have hD : va_D A ([(oD, .inl (G.2 6, 1, .inr (.inr (.inr (.inl og))))), (o, .inl (G.2 5, 1, .inr (.inl of2_3812)))] ++ (WM ++ (W2_3814 ++ []))) := D_perm hpm_3819 hD
  refine W.eq (g2 := F0 m 350 ls [.int (nI ((o_addTest (dC C) (sx9 xs (i9 + 1)) (sx9 xs (i9 + 2))).1))]) rfl ?_
  have hqs : SimR (o_addTest (dC C) (sx9 xs (i9 + 1)) (sx9 xs (i9 + 2))) (o_addTest (dC M) d (sx9 xs (i9 + 2))) := o_addTest_sim hLw.1 hIc (sx9 xs (i9 + 1)) (sx9 xs (i9 + 2))
  refine lv_istore (lv' := [(6, .int (nI ((o_addTest (dC C) (sx9 xs (i9 + 1)) (sx9 xs (i9 + 2))).1))), (0, .ref b), (1, .ref d), (2, .ref m0), (3, .ref o), (4, .ref oD), (5, .int (nI i9))]) hx hb dL_law_350 hl (by decide) rfl (fun ls hl => ?_)
  refine lv_aload_n hx hb dL_law_352 rfl (lv_at hl 3 rfl) ?_
  refine lv_aload_n hx hb dL_law_353 rfl (lv_at hl 1 rfl) ?_
  refine lv_iload hx hb dL_law_354 (lv_at hl 6 rfl) ?_
  refine lv_iconst (v := nI 1) hx hb dL_law_356 (by decide) ?_
  refine lv_iadd hx hb dL_law_357 ?_
  refine lv_ton (n := i9 + 1) (nadd (by omega)) ?_
  refine va_sld hx hb hX9 hbl hbA hS (i := nI (i9 + 1)) (vp9 (by omega) hL96) dL_law_358 ?_
  refine W.eq (g2 := F0 m 359 ls [.int (sx9 xs (i9 + 1)), .ref m0]) rfl ?_
  refine lv_aload_n hx hb dL_law_359 rfl (lv_at hl 1 rfl) ?_
  refine lv_iload hx hb dL_law_360 (lv_at hl 6 rfl) ?_
  refine lv_iconst (v := nI 2) hx hb dL_law_362 (by decide) ?_
  refine lv_iadd hx hb dL_law_363 ?_
  refine lv_ton (n := i9 + 2) (nadd (by omega)) ?_
  refine va_sld hx hb hX9 hbl hbA hS (i := nI (i9 + 2)) (vp9 (by omega) hL96) dL_law_364 ?_
  refine W.eq (g2 := F0 m 365 ls [.int (sx9 xs (i9 + 2)), .int (sx9 xs (i9 + 1)), .ref m0]) rfl ?_
  have hpm_3820 : (([(oD, .inl (G.2 6, 1, .inr (.inr (.inr (.inl og))))), (o, .inl (G.2 5, 1, .inr (.inl of2_3812)))] ++ (WM ++ (W2_3814 ++ []))) : va_W).Perm ((WM ++ []) ++ ([(oD, .inl (G.2 6, 1, .inr (.inr (.inr (.inl og))))), (o, .inl (G.2 5, 1, .inr (.inl of2_3812)))] ++ (W2_3814 ++ []))) := segs_perm [[(oD, .inl (G.2 6, 1, .inr (.inr (.inr (.inl og)))))], [(o, .inl (G.2 5, 1, .inr (.inl of2_3812)))], WM, W2_3814] [2] [0, 1, 3] rfl
  have hF := hF_ofP (wc := (WM ++ [])) hD hS hA hpm_3820
  refine go_ctP hS hP hD hpm_3820 hF
      (va_runV (As := [.int (sx9 xs (i9 + 1)), .int (sx9 xs (i9 + 2))]) (rest := []) cf (eX4_addTest l G m0 M th WM (sx9 xs (i9 + 1)) (sx9 xs (i9 + 2)) (hMd) (hIm) H.size) (cwV 2 hts (lw_V q1663 q1664 q1665 q58 q1666) rfl rfl rfl (by decide +kernel) ⟨Nat.le_of_ble_eq_true rfl, Nat.le_of_ble_eq_true rfl⟩) (preV_of hKB hE hS hF (MdW.recv hK hMd (seg_at [[(oD, .inl (G.2 6, 1, .inr (.inr (.inr (.inl og)))))], [(o, .inl (G.2 5, 1, .inr (.inl of2_3812)))], WM, W2_3814] 2 rfl hP)) (P_left (P_perm hpm_3820 hP)) ((D_left (D_perm hpm_3820 hD)).weaken (fun _ _ _ _ => trivial)) trivial) rfl rfl hl.1 rfl (lv_room (Nat.le_of_ble_eq_true rfl)) dL_law_365 ⟨show cl + (95 + 101) + 0 ≤ 1200144 from by first | decide | omega, show sl + (300 + 5800) + 0 ≤ 5495674 from by first | decide | omega⟩)
      (fun u_ H locs hq hph (hP : va_P G.1 CL (([(oD, .inl (G.2 6, 1, .inr (.inr (.inr (.inl og))))), (o, .inl (G.2 5, 1, .inr (.inl of2_3812)))] ++ (W2_3814 ++ [])) ++ (u_.2 ++ [])) H) (hD : va_D A (([(oD, .inl (G.2 6, 1, .inr (.inr (.inr (.inl og))))), (o, .inl (G.2 5, 1, .inr (.inl of2_3812)))] ++ (W2_3814 ++ [])) ++ (u_.2 ++ []))) hS hfz hfk => ?_)
  obtain ⟨rr_3821, W2_3822⟩ := u_
  obtain ⟨hq_3823, hq_3824⟩ : ((o_addTest (dC M) (sx9 xs (i9 + 1)) (sx9 xs (i9 + 2))).1 = 0 → rr_3821 = (o_addTest (dC M) (sx9 xs (i9 + 1)) (sx9 xs (i9 + 2))).2.1) ∧ MdW G m0 (if (o_addTest (dC M) (sx9 xs (i9 + 1)) (sx9 xs (i9 + 2))).1 = 0 then (((o_addTest (dC M) (sx9 xs (i9 + 1)) (sx9 xs (i9 + 2))).2.2, dS M, min 6 (dK M + 1), hsR (dH M) (dK M) (dC M), dL M, dN M) : DS) else M) (o_addTest (dC M) (sx9 xs (i9 + 1)) (sx9 xs (i9 + 2))).1 W2_3822 := hq
  have hpm_3825 : (([(oD, .inl (G.2 6, 1, .inr (.inr (.inr (.inl og))))), (o, .inl (G.2 5, 1, .inr (.inl of2_3812)))] ++ (W2_3814 ++ [])) ++ (W2_3822 ++ []) : va_W).Perm ([(oD, .inl (G.2 6, 1, .inr (.inr (.inr (.inl og))))), (o, .inl (G.2 5, 1, .inr (.inl of2_3812)))] ++ (W2_3814 ++ (W2_3822 ++ []))) := segs_perm2 [[(oD, .inl (G.2 6, 1, .inr (.inr (.inr (.inl og)))))], [(o, .inl (G.2 5, 1, .inr (.inl of2_3812)))], W2_3814] [W2_3822] [0, 1, 2, 3] rfl
  have hP : va_P G.1 CL ([(oD, .inl (G.2 6, 1, .inr (.inr (.inr (.inl og))))), (o, .inl (G.2 5, 1, .inr (.inl of2_3812)))] ++ (W2_3814 ++ (W2_3822 ++ []))) H := P_perm hpm_3825 hP
  have hD : va_D A ([(oD, .inl (G.2 6, 1, .inr (.inr (.inr (.inl og))))), (o, .inl (G.2 5, 1, .inr (.inl of2_3812)))] ++ (W2_3814 ++ (W2_3822 ++ []))) := D_perm hpm_3825 hD
  refine W.eq (g2 := F0 m 368 ls [.int rr_3821]) rfl ?_
  refine lv_istore (lv' := [(7, .int rr_3821), (6, .int (nI ((o_addTest (dC C) (sx9 xs (i9 + 1)) (sx9 xs (i9 + 2))).1))), (0, .ref b), (1, .ref d), (2, .ref m0), (3, .ref o), (4, .ref oD), (5, .int (nI i9))]) hx hb dL_law_368 hl (by decide) rfl (fun ls hl => ?_)
  refine lv_aload_n hx hb dL_law_370 rfl (lv_at hl 4 rfl) ?_
  have hpm_3826 : (([(oD, .inl (G.2 6, 1, .inr (.inr (.inr (.inl og))))), (o, .inl (G.2 5, 1, .inr (.inl of2_3812)))] ++ (W2_3814 ++ (W2_3822 ++ []))) : va_W).Perm ([] ++ ([(oD, .inl (G.2 6, 1, .inr (.inr (.inr (.inl og))))), (o, .inl (G.2 5, 1, .inr (.inl of2_3812)))] ++ (W2_3814 ++ (W2_3822 ++ [])))) := segs_perm [[(oD, .inl (G.2 6, 1, .inr (.inr (.inr (.inl og)))))], [(o, .inl (G.2 5, 1, .inr (.inl of2_3812)))], W2_3814, W2_3822] [] [0, 1, 2, 3] rfl
  have hF := hF_ofP (wc := []) hD hS hA hpm_3826
  refine go_ctP hS hP hD hpm_3826 hF
      (va_runV (As := []) (rest := []) cf (eX4_thrown l G m0 (if ((o_addTest (dC M) d (sx9 xs (i9 + 2)))).1 = 0 then ((((o_addTest (dC M) d (sx9 xs (i9 + 2)))).2.2, dS M, min 6 (dK M + 1), hsR (dH M) (dK M) (dC M), dL M, dN M) : DS) else M) (((o_addTest (dC M) d (sx9 xs (i9 + 2)))).1) W2_3822 (hq_3824) H.size) (cwV 0 hts (lw_V q1639 q1640 q1641 q58 q1642) rfl rfl rfl (by decide +kernel) ⟨Nat.le_of_ble_eq_true rfl, Nat.le_of_ble_eq_true rfl⟩) (preV_of hKB hE hS hF (MdW.recv hK hq_3824 (seg_at [[(oD, .inl (G.2 6, 1, .inr (.inr (.inr (.inl og)))))], [(o, .inl (G.2 5, 1, .inr (.inl of2_3812)))], W2_3814, W2_3822] 3 rfl hP)) (P_left (P_perm hpm_3826 hP)) ((D_left (D_perm hpm_3826 hD)).weaken (fun _ _ _ _ => trivial)) (roW.nil (seg_at [[(oD, .inl (G.2 6, 1, .inr (.inr (.inr (.inl og)))))], [(o, .inl (G.2 5, 1, .inr (.inl of2_3812)))], W2_3814, W2_3822] 3 rfl hP))) rfl rfl hl.1 rfl (lv_room (Nat.le_of_ble_eq_true rfl)) dL_law_371 ⟨show cl + (95 + 101) + 0 ≤ 1200144 from by first | decide | omega, show sl + (300 + 5800) + 0 ≤ 5495674 from by first | decide | omega⟩)
      (fun u_ H locs hq hph (hP : va_P G.1 CL (([(oD, .inl (G.2 6, 1, .inr (.inr (.inr (.inl og))))), (o, .inl (G.2 5, 1, .inr (.inl of2_3812)))] ++ (W2_3814 ++ (W2_3822 ++ []))) ++ []) H) (hD : va_D A (([(oD, .inl (G.2 6, 1, .inr (.inr (.inr (.inl og))))), (o, .inl (G.2 5, 1, .inr (.inl of2_3812)))] ++ (W2_3814 ++ (W2_3822 ++ []))) ++ [])) hS hfz hfk => ?_)
  have hpm_3827 : (([(oD, .inl (G.2 6, 1, .inr (.inr (.inr (.inl og))))), (o, .inl (G.2 5, 1, .inr (.inl of2_3812)))] ++ (W2_3814 ++ (W2_3822 ++ []))) ++ [] : va_W).Perm ([(oD, .inl (G.2 6, 1, .inr (.inr (.inr (.inl og))))), (o, .inl (G.2 5, 1, .inr (.inl of2_3812)))] ++ (W2_3814 ++ (W2_3822 ++ []))) := segs_perm2 [[(oD, .inl (G.2 6, 1, .inr (.inr (.inr (.inl og)))))], [(o, .inl (G.2 5, 1, .inr (.inl of2_3812)))], W2_3814, W2_3822] [] [0, 1, 2, 3] rfl
  have hP : va_P G.1 CL ([(oD, .inl (G.2 6, 1, .inr (.inr (.inr (.inl og))))), (o, .inl (G.2 5, 1, .inr (.inl of2_3812)))] ++ (W2_3814 ++ (W2_3822 ++ []))) H := P_perm hpm_3827 hP
  have hD : va_D A ([(oD, .inl (G.2 6, 1, .inr (.inr (.inr (.inl og))))), (o, .inl (G.2 5, 1, .inr (.inl of2_3812)))] ++ (W2_3814 ++ (W2_3822 ++ []))) := D_perm hpm_3827 hD
  refine W.eq (g2 := F0 m 374 ls [.int (nI (((o_addTest (dC M) d (sx9 xs (i9 + 2)))).1))]) rfl ?_
  refine lv_ton (n := ((o_addTest (dC C) (sx9 xs (i9 + 1)) (sx9 xs (i9 + 2))).1)) (congrArg nI hqs.1.symm) ?_
  refine lv_iload hx hb dL_law_374 (lv_at hl 1 rfl) ?_
  refine lv_icmp_eq (tgt := 381) hx hb dL_law_376 (by decide) (fun _ => ?_) (fun c9 => absurd rfl c9)
  refine lv_iload hx hb dL_law_381 (lv_at hl 1 rfl) ?_
  refine n_if_ne (tgt := 398) hx hb (by omega) dL_law_383 (by decide) (fun c_3828 => ?_) (fun c_3828 => ?_)
  · refine lv_goto (tgt := 2788) hx hb dL_law_398 (by decide) ?_
    have hpm_3829 : (([(oD, .inl (G.2 6, 1, .inr (.inr (.inr (.inl og))))), (o, .inl (G.2 5, 1, .inr (.inl of2_3812)))] ++ (W2_3814 ++ (W2_3822 ++ []))) : va_W).Perm (([(o, .inl (G.2 5, 1, .inr (.inl of2_3812))), (oD, .inl (G.2 6, 1, .inr (.inr (.inr (.inl og)))))] ++ (W2_3814 ++ (W2_3822 ++ []))) ++ []) := segs_perm [[(oD, .inl (G.2 6, 1, .inr (.inr (.inr (.inl og)))))], [(o, .inl (G.2 5, 1, .inr (.inl of2_3812)))], W2_3814, W2_3822] [1, 0, 2, 3] [] rfl
    have hP : va_P G.1 CL ([(o, .inl (G.2 5, 1, .inr (.inl of2_3812))), (oD, .inl (G.2 6, 1, .inr (.inr (.inr (.inl og)))))] ++ (W2_3814 ++ (W2_3822 ++ []))) H := P_left (P_perm hpm_3829 hP)
    have hD : va_D A ([(o, .inl (G.2 5, 1, .inr (.inl of2_3812))), (oD, .inl (G.2 6, 1, .inr (.inr (.inr (.inl og)))))] ++ (W2_3814 ++ (W2_3822 ++ []))) := D_left (D_perm hpm_3829 hD)
    have hl := lv_sub hl [2, 3, 4, 5, 6, 7] (l' := [(0, .ref b), (1, .ref d), (2, .ref m0), (3, .ref o), (4, .ref oD), (5, .int (nI i9))]) rfl
    exact W.widen (show cl + (95 + 101) ≤ cl + 20000 from by omega) (show sl + (300 + 5800) ≤ sl + 45000 from by omega) (kk ls H locs S2_3813 (if ((o_addTest (dC M) d (sx9 xs (i9 + 2)))).1 = 0 then ((((o_addTest (dC M) d (sx9 xs (i9 + 2)))).2.2, dS M, min 6 (dK M + 1), hsR (dH M) (dK M) (dC M), dL M, dN M) : DS) else M) (((o_addTest (dC M) d (sx9 xs (i9 + 2)))).1) W2_3814 W2_3822 of2_3812 og hP hD hS hl hq_3818 hq_3824 (hLw.mut hqs hq_3816 (o_addTest_b (dC C) (sx9 xs (i9 + 1)) (sx9 xs (i9 + 2)))))
  · refine lv_aload_n hx hb dL_law_386 rfl (lv_at hl 5 rfl) ?_
    refine lv_iconst (v := nI 0) hx hb dL_law_387 (by decide) ?_
    refine r_lald (v := (((o_addTest (dC C) (sx9 xs (i9 + 1)) (sx9 xs (i9 + 2)))).2.1).toInt64) hx hb hK hP 1 5 rfl rfl (i := 0) (by omega) (by omega) ((hq_3815 (by omega))) dL_law_388 ?_
    refine lv_iload hx hb dL_law_389 (lv_at hl 0 rfl) ?_
    refine lv_toi (y := ((o_addTest (dC C) (sx9 xs (i9 + 1)) (sx9 xs (i9 + 2)))).2.1) ((hq_3823 (hqs.1.symm.trans (by omega))).trans hqs.2.1.symm) ?_
    refine lv_i2l (v := (((o_addTest (dC C) (sx9 xs (i9 + 1)) (sx9 xs (i9 + 2)))).2.1).toInt64) hx hb dL_law_391 rfl ?_
    refine W.lcmp hx hb dL_law_392 ?_
    refine lv_ton (n := 0) (lcmp0 _) ?_
    refine n_if_eq (tgt := 398) hx hb (by omega) dL_law_393 (by decide) (fun c_3830 => ?_) (fun c_3830 => absurd c_3830 (by omega))
    refine lv_goto (tgt := 2788) hx hb dL_law_398 (by decide) ?_
    have hpm_3831 : (([(oD, .inl (G.2 6, 1, .inr (.inr (.inr (.inl og))))), (o, .inl (G.2 5, 1, .inr (.inl of2_3812)))] ++ (W2_3814 ++ (W2_3822 ++ []))) : va_W).Perm (([(o, .inl (G.2 5, 1, .inr (.inl of2_3812))), (oD, .inl (G.2 6, 1, .inr (.inr (.inr (.inl og)))))] ++ (W2_3814 ++ (W2_3822 ++ []))) ++ []) := segs_perm [[(oD, .inl (G.2 6, 1, .inr (.inr (.inr (.inl og)))))], [(o, .inl (G.2 5, 1, .inr (.inl of2_3812)))], W2_3814, W2_3822] [1, 0, 2, 3] [] rfl
    have hP : va_P G.1 CL ([(o, .inl (G.2 5, 1, .inr (.inl of2_3812))), (oD, .inl (G.2 6, 1, .inr (.inr (.inr (.inl og)))))] ++ (W2_3814 ++ (W2_3822 ++ []))) H := P_left (P_perm hpm_3831 hP)
    have hD : va_D A ([(o, .inl (G.2 5, 1, .inr (.inl of2_3812))), (oD, .inl (G.2 6, 1, .inr (.inr (.inr (.inl og)))))] ++ (W2_3814 ++ (W2_3822 ++ []))) := D_left (D_perm hpm_3831 hD)
    have hl := lv_sub hl [2, 3, 4, 5, 6, 7] (l' := [(0, .ref b), (1, .ref d), (2, .ref m0), (3, .ref o), (4, .ref oD), (5, .int (nI i9))]) rfl
    exact W.widen (show cl + (95 + 101) ≤ cl + 20000 from by omega) (show sl + (300 + 5800) ≤ sl + 45000 from by omega) (kk ls H locs S2_3813 (if ((o_addTest (dC M) d (sx9 xs (i9 + 2)))).1 = 0 then ((((o_addTest (dC M) d (sx9 xs (i9 + 2)))).2.2, dS M, min 6 (dK M + 1), hsR (dH M) (dK M) (dC M), dL M, dN M) : DS) else M) (((o_addTest (dC M) d (sx9 xs (i9 + 2)))).1) W2_3814 W2_3822 of2_3812 og hP hD hS hl hq_3818 hq_3824 (hLw.mut hqs hq_3816 (o_addTest_b (dC C) (sx9 xs (i9 + 1)) (sx9 xs (i9 + 2)))))

set_option maxHeartbeats 4000000 in
theorem lawK_3 {p : Program} {l : Launch} {e : Env} {s : State} {m : MethodId} {below : List Frame} {meth : Method} {c : Code} {G : Gt} {A : Nat → Prop} {b L : Nat} {xs : Nat → Int32} {Q : State → Prop} {d m0 o oD i9 N cl sl : Nat} (hfl : l.stackTraces = false) (F : LwF G A p s m c b L xs) (hi9 : i9 + 4 ≤ L) (hN24 : N ≤ 24) (hcl : cl + 20000 ≤ 1200144) (hsl : sl + 45000 ≤ 5495674) (kk : ∀ (ls : Array Slot) (H : Heap) (locs : List Loc) (C M : DS) (th : Nat) (WD WM : va_W) (of : Nat → Int64) (og : Nat → UInt64), va_P G.1 CL ([(o, .inl (G.2 5, 1, .inr (.inl of))), (oD, .inl (G.2 6, 1, .inr (.inr (.inr (.inl og)))))] ++ (WD ++ (WM ++ []))) H → va_D A ([(o, .inl (G.2 5, 1, .inr (.inl of))), (oD, .inl (G.2 6, 1, .inr (.inr (.inr (.inl og)))))] ++ (WD ++ (WM ++ []))) → va_S A s.heap H locs → lv_has ls 10 [(0, .ref b), (1, .ref d), (2, .ref m0), (3, .ref o), (4, .ref oD), (5, .int (nI i9))] → DyW G d C WD → MdW G m0 M th WM → LawI C M (N + 1) → W p l e room_1 s m #[Value.ref b] below meth c H locs (cl + 20000) (sl + 45000) Q (F0 m 2788 ls [])) {ls : Array Slot} {H : Heap} {locs : List Loc} {C M : DS} {th : Nat} {WD WM : va_W} {of : Nat → Int64} {og : Nat → UInt64} (hP : va_P G.1 CL ([(o, .inl (G.2 5, 1, .inr (.inl of))), (oD, .inl (G.2 6, 1, .inr (.inr (.inr (.inl og)))))] ++ (WD ++ (WM ++ []))) H) (hD : va_D A ([(o, .inl (G.2 5, 1, .inr (.inl of))), (oD, .inl (G.2 6, 1, .inr (.inr (.inr (.inl og)))))] ++ (WD ++ (WM ++ [])))) (hS : va_S A s.heap H locs) (hl : lv_has ls 10 [(0, .ref b), (1, .ref d), (2, .ref m0), (3, .ref o), (4, .ref oD), (5, .int (nI i9))]) (hDy : DyW G d C WD) (hMd : MdW G m0 M th WM) (hLw : LawI C M N) : W p l e room_1 s m #[Value.ref b] below meth c H locs cl sl Q (F0 m 401 ls []) := by
  obtain ⟨cf, hKB, hE, hA, hX9, hbl, hbA, hNc, hL96⟩ := F
  have hx := cf.1
  have hb := cf.2.1
  have hml := cf.2.2.1
  have hown : s.vm.findClass RX0 = some m.cls := cf.2.2.2.1
  have hts := cf.2.2.2.2
  have hK := hKB.1
  have hIc := hDy.inv.1
  have hIm : Inv (dC M) := Inv_sim hLw.1 hIc
  have hRk : RkOk (dC M) := RkOk_sim hLw.1 (RkOk_srt hDy.inv.2.2)
  have hl := hl
  refine lv_aload_n hx hb dL_law_401 rfl (lv_at hl 1 rfl) ?_
  refine lv_aload_n hx hb dL_law_402 rfl (lv_at hl 0 rfl) ?_
  refine lv_iload hx hb dL_law_403 (lv_at hl 5 rfl) ?_
  refine lv_iconst (v := nI 1) hx hb dL_law_405 (by decide) ?_
  refine lv_iadd hx hb dL_law_406 ?_
  refine lv_ton (n := i9 + 1) (nadd (by omega)) ?_
  refine va_sld hx hb hX9 hbl hbA hS (i := nI (i9 + 1)) (vp9 (by omega) hL96) dL_law_407 ?_
  refine W.eq (g2 := F0 m 408 ls [.int (sx9 xs (i9 + 1)), .ref d]) rfl ?_
  refine lv_aload_n hx hb dL_law_408 rfl (lv_at hl 3 rfl) ?_
  have hpm_3832 : (([(o, .inl (G.2 5, 1, .inr (.inl of))), (oD, .inl (G.2 6, 1, .inr (.inr (.inr (.inl og)))))] ++ (WD ++ (WM ++ []))) : va_W).Perm (([(o, .inl (G.2 5, 1, .inr (.inl of)))] ++ (WD ++ [])) ++ ([(oD, .inl (G.2 6, 1, .inr (.inr (.inr (.inl og)))))] ++ (WM ++ []))) := segs_perm [[(o, .inl (G.2 5, 1, .inr (.inl of)))], [(oD, .inl (G.2 6, 1, .inr (.inr (.inr (.inl og)))))], WD, WM] [0, 2] [1, 3] rfl
  have hF := hF_ofP (wc := ([(o, .inl (G.2 5, 1, .inr (.inl of)))] ++ (WD ++ []))) hD hS hA hpm_3832
  refine go_ctP hS hP hD hpm_3832 hF
      (vx_runSW (As := [.ref d, .int (sx9 xs (i9 + 1)), .ref o]) (rest := []) cf (wX0_removeTest l G d C WD o of (sx9 xs (i9 + 1)) (hDy) hfl H.size) (vx_cwSW 3 hts (lw_SW q1010 q1011 q46 q1012) rfl rfl rfl (by decide +kernel) ⟨Nat.le_of_ble_eq_true rfl, Nat.le_of_ble_eq_true rfl⟩) (preS_ofW hNc hKB hE hS hF (P_left (P_perm hpm_3832 hP)) ((D_left (D_perm hpm_3832 hD)).weaken (fun _ _ _ _ => trivial)) trivial) rfl rfl hl.1 rfl (lv_room (Nat.le_of_ble_eq_true rfl)) dL_law_409 ⟨show cl + (3 + 101) ≤ 1200144 from by first | decide | omega, show sl + (12 + 5800) ≤ 5495674 from by first | decide | omega⟩)
      (fun u_ H locs hq hph (hP : va_P G.1 CL (([(oD, .inl (G.2 6, 1, .inr (.inr (.inr (.inl og)))))] ++ (WM ++ [])) ++ ([(o, .inl (G.2 5, 1, .inr (.inl u_.1)))] ++ (u_.2.2 ++ []))) H) (hD : va_D A (([(oD, .inl (G.2 6, 1, .inr (.inr (.inr (.inl og)))))] ++ (WM ++ [])) ++ ([(o, .inl (G.2 5, 1, .inr (.inl u_.1)))] ++ (u_.2.2 ++ [])))) hS hfz hfk => ?_)
  obtain ⟨of2_3833, S2_3834, W2_3835⟩ := u_
  obtain ⟨hq_3836, hq_3837, hq_3838, hq_3839⟩ : ((o_remTest (dC C) (sx9 xs (i9 + 1))).1 = 0 → of2_3833 0 = ((o_remTest (dC C) (sx9 xs (i9 + 1))).2.1).toInt64) ∧ NxS C (o_remTest (dC C) (sx9 xs (i9 + 1))) S2_3834 ∧ (o_remTest (dC C) (sx9 xs (i9 + 1))).1 < 10 ∧ DyW G d S2_3834 W2_3835 := hq
  have hpm_3840 : (([(oD, .inl (G.2 6, 1, .inr (.inr (.inr (.inl og)))))] ++ (WM ++ [])) ++ ([(o, .inl (G.2 5, 1, .inr (.inl of2_3833)))] ++ (W2_3835 ++ [])) : va_W).Perm ([(oD, .inl (G.2 6, 1, .inr (.inr (.inr (.inl og))))), (o, .inl (G.2 5, 1, .inr (.inl of2_3833)))] ++ (WM ++ (W2_3835 ++ []))) := segs_perm2 [[(oD, .inl (G.2 6, 1, .inr (.inr (.inr (.inl og)))))], WM] [[(o, .inl (G.2 5, 1, .inr (.inl of2_3833)))], W2_3835] [0, 2, 1, 3] rfl
  have hP : va_P G.1 CL ([(oD, .inl (G.2 6, 1, .inr (.inr (.inr (.inl og))))), (o, .inl (G.2 5, 1, .inr (.inl of2_3833)))] ++ (WM ++ (W2_3835 ++ []))) H := P_perm hpm_3840 hP
  have hD : va_D A ([(oD, .inl (G.2 6, 1, .inr (.inr (.inr (.inl og))))), (o, .inl (G.2 5, 1, .inr (.inl of2_3833)))] ++ (WM ++ (W2_3835 ++ []))) := D_perm hpm_3840 hD
  refine W.eq (g2 := F0 m 412 ls [.int (nI ((o_remTest (dC C) (sx9 xs (i9 + 1))).1))]) rfl ?_
  have hqs : SimR (o_remTest (dC C) (sx9 xs (i9 + 1))) (o_remTest (dC M) d) := o_remTest_sim hLw.1 hIc (sx9 xs (i9 + 1))
  refine lv_istore (lv' := [(6, .int (nI ((o_remTest (dC C) (sx9 xs (i9 + 1))).1))), (0, .ref b), (1, .ref d), (2, .ref m0), (3, .ref o), (4, .ref oD), (5, .int (nI i9))]) hx hb dL_law_412 hl (by decide) rfl (fun ls hl => ?_)
  refine lv_aload_n hx hb dL_law_414 rfl (lv_at hl 3 rfl) ?_
  refine lv_aload_n hx hb dL_law_415 rfl (lv_at hl 1 rfl) ?_
  refine lv_iload hx hb dL_law_416 (lv_at hl 6 rfl) ?_
  refine lv_iconst (v := nI 1) hx hb dL_law_418 (by decide) ?_
  refine lv_iadd hx hb dL_law_419 ?_
  refine lv_ton (n := i9 + 1) (nadd (by omega)) ?_
  refine va_sld hx hb hX9 hbl hbA hS (i := nI (i9 + 1)) (vp9 (by omega) hL96) dL_law_420 ?_
  refine W.eq (g2 := F0 m 421 ls [.int (sx9 xs (i9 + 1)), .ref m0]) rfl ?_
  have hpm_3841 : (([(oD, .inl (G.2 6, 1, .inr (.inr (.inr (.inl og))))), (o, .inl (G.2 5, 1, .inr (.inl of2_3833)))] ++ (WM ++ (W2_3835 ++ []))) : va_W).Perm ((WM ++ []) ++ ([(oD, .inl (G.2 6, 1, .inr (.inr (.inr (.inl og))))), (o, .inl (G.2 5, 1, .inr (.inl of2_3833)))] ++ (W2_3835 ++ []))) := segs_perm [[(oD, .inl (G.2 6, 1, .inr (.inr (.inr (.inl og)))))], [(o, .inl (G.2 5, 1, .inr (.inl of2_3833)))], WM, W2_3835] [2] [0, 1, 3] rfl
  have hF := hF_ofP (wc := (WM ++ [])) hD hS hA hpm_3841
  refine go_ctP hS hP hD hpm_3841 hF
      (va_runV (As := [.int (sx9 xs (i9 + 1))]) (rest := []) cf (eX4_removeTest l G m0 M th WM (sx9 xs (i9 + 1)) (hMd) (hIm) H.size) (cwV 1 hts (lw_V q1699 q1700 q1701 q58 q1702) rfl rfl rfl (by decide +kernel) ⟨Nat.le_of_ble_eq_true rfl, Nat.le_of_ble_eq_true rfl⟩) (preV_of hKB hE hS hF (MdW.recv hK hMd (seg_at [[(oD, .inl (G.2 6, 1, .inr (.inr (.inr (.inl og)))))], [(o, .inl (G.2 5, 1, .inr (.inl of2_3833)))], WM, W2_3835] 2 rfl hP)) (P_left (P_perm hpm_3841 hP)) ((D_left (D_perm hpm_3841 hD)).weaken (fun _ _ _ _ => trivial)) trivial) rfl rfl hl.1 rfl (lv_room (Nat.le_of_ble_eq_true rfl)) dL_law_421 ⟨show cl + (3 + 101) + 0 ≤ 1200144 from by first | decide | omega, show sl + (12 + 5800) + 0 ≤ 5495674 from by first | decide | omega⟩)
      (fun u_ H locs hq hph (hP : va_P G.1 CL (([(oD, .inl (G.2 6, 1, .inr (.inr (.inr (.inl og))))), (o, .inl (G.2 5, 1, .inr (.inl of2_3833)))] ++ (W2_3835 ++ [])) ++ (u_.2 ++ [])) H) (hD : va_D A (([(oD, .inl (G.2 6, 1, .inr (.inr (.inr (.inl og))))), (o, .inl (G.2 5, 1, .inr (.inl of2_3833)))] ++ (W2_3835 ++ [])) ++ (u_.2 ++ []))) hS hfz hfk => ?_)
  obtain ⟨rr_3842, W2_3843⟩ := u_
  obtain ⟨hq_3844, hq_3845⟩ : ((o_remTest (dC M) (sx9 xs (i9 + 1))).1 = 0 → rr_3842 = (o_remTest (dC M) (sx9 xs (i9 + 1))).2.1) ∧ MdW G m0 (if (o_remTest (dC M) (sx9 xs (i9 + 1))).1 = 0 then (((o_remTest (dC M) (sx9 xs (i9 + 1))).2.2, dS M, min 6 (dK M + 1), hsR (dH M) (dK M) (dC M), dL M, dN M) : DS) else M) (o_remTest (dC M) (sx9 xs (i9 + 1))).1 W2_3843 := hq
  have hpm_3846 : (([(oD, .inl (G.2 6, 1, .inr (.inr (.inr (.inl og))))), (o, .inl (G.2 5, 1, .inr (.inl of2_3833)))] ++ (W2_3835 ++ [])) ++ (W2_3843 ++ []) : va_W).Perm ([(oD, .inl (G.2 6, 1, .inr (.inr (.inr (.inl og))))), (o, .inl (G.2 5, 1, .inr (.inl of2_3833)))] ++ (W2_3835 ++ (W2_3843 ++ []))) := segs_perm2 [[(oD, .inl (G.2 6, 1, .inr (.inr (.inr (.inl og)))))], [(o, .inl (G.2 5, 1, .inr (.inl of2_3833)))], W2_3835] [W2_3843] [0, 1, 2, 3] rfl
  have hP : va_P G.1 CL ([(oD, .inl (G.2 6, 1, .inr (.inr (.inr (.inl og))))), (o, .inl (G.2 5, 1, .inr (.inl of2_3833)))] ++ (W2_3835 ++ (W2_3843 ++ []))) H := P_perm hpm_3846 hP
  have hD : va_D A ([(oD, .inl (G.2 6, 1, .inr (.inr (.inr (.inl og))))), (o, .inl (G.2 5, 1, .inr (.inl of2_3833)))] ++ (W2_3835 ++ (W2_3843 ++ []))) := D_perm hpm_3846 hD
  refine W.eq (g2 := F0 m 424 ls [.int rr_3842]) rfl ?_
  refine lv_istore (lv' := [(7, .int rr_3842), (6, .int (nI ((o_remTest (dC C) (sx9 xs (i9 + 1))).1))), (0, .ref b), (1, .ref d), (2, .ref m0), (3, .ref o), (4, .ref oD), (5, .int (nI i9))]) hx hb dL_law_424 hl (by decide) rfl (fun ls hl => ?_)
  refine lv_aload_n hx hb dL_law_426 rfl (lv_at hl 4 rfl) ?_
  have hpm_3847 : (([(oD, .inl (G.2 6, 1, .inr (.inr (.inr (.inl og))))), (o, .inl (G.2 5, 1, .inr (.inl of2_3833)))] ++ (W2_3835 ++ (W2_3843 ++ []))) : va_W).Perm ([] ++ ([(oD, .inl (G.2 6, 1, .inr (.inr (.inr (.inl og))))), (o, .inl (G.2 5, 1, .inr (.inl of2_3833)))] ++ (W2_3835 ++ (W2_3843 ++ [])))) := segs_perm [[(oD, .inl (G.2 6, 1, .inr (.inr (.inr (.inl og)))))], [(o, .inl (G.2 5, 1, .inr (.inl of2_3833)))], W2_3835, W2_3843] [] [0, 1, 2, 3] rfl
  have hF := hF_ofP (wc := []) hD hS hA hpm_3847
  refine go_ctP hS hP hD hpm_3847 hF
      (va_runV (As := []) (rest := []) cf (eX4_thrown l G m0 (if ((o_remTest (dC M) d)).1 = 0 then ((((o_remTest (dC M) d)).2.2, dS M, min 6 (dK M + 1), hsR (dH M) (dK M) (dC M), dL M, dN M) : DS) else M) (((o_remTest (dC M) d)).1) W2_3843 (hq_3845) H.size) (cwV 0 hts (lw_V q1639 q1640 q1641 q58 q1642) rfl rfl rfl (by decide +kernel) ⟨Nat.le_of_ble_eq_true rfl, Nat.le_of_ble_eq_true rfl⟩) (preV_of hKB hE hS hF (MdW.recv hK hq_3845 (seg_at [[(oD, .inl (G.2 6, 1, .inr (.inr (.inr (.inl og)))))], [(o, .inl (G.2 5, 1, .inr (.inl of2_3833)))], W2_3835, W2_3843] 3 rfl hP)) (P_left (P_perm hpm_3847 hP)) ((D_left (D_perm hpm_3847 hD)).weaken (fun _ _ _ _ => trivial)) (roW.nil (seg_at [[(oD, .inl (G.2 6, 1, .inr (.inr (.inr (.inl og)))))], [(o, .inl (G.2 5, 1, .inr (.inl of2_3833)))], W2_3835, W2_3843] 3 rfl hP))) rfl rfl hl.1 rfl (lv_room (Nat.le_of_ble_eq_true rfl)) dL_law_427 ⟨show cl + (3 + 101) + 0 ≤ 1200144 from by first | decide | omega, show sl + (12 + 5800) + 0 ≤ 5495674 from by first | decide | omega⟩)
      (fun u_ H locs hq hph (hP : va_P G.1 CL (([(oD, .inl (G.2 6, 1, .inr (.inr (.inr (.inl og))))), (o, .inl (G.2 5, 1, .inr (.inl of2_3833)))] ++ (W2_3835 ++ (W2_3843 ++ []))) ++ []) H) (hD : va_D A (([(oD, .inl (G.2 6, 1, .inr (.inr (.inr (.inl og))))), (o, .inl (G.2 5, 1, .inr (.inl of2_3833)))] ++ (W2_3835 ++ (W2_3843 ++ []))) ++ [])) hS hfz hfk => ?_)
  have hpm_3848 : (([(oD, .inl (G.2 6, 1, .inr (.inr (.inr (.inl og))))), (o, .inl (G.2 5, 1, .inr (.inl of2_3833)))] ++ (W2_3835 ++ (W2_3843 ++ []))) ++ [] : va_W).Perm ([(oD, .inl (G.2 6, 1, .inr (.inr (.inr (.inl og))))), (o, .inl (G.2 5, 1, .inr (.inl of2_3833)))] ++ (W2_3835 ++ (W2_3843 ++ []))) := segs_perm2 [[(oD, .inl (G.2 6, 1, .inr (.inr (.inr (.inl og)))))], [(o, .inl (G.2 5, 1, .inr (.inl of2_3833)))], W2_3835, W2_3843] [] [0, 1, 2, 3] rfl
  have hP : va_P G.1 CL ([(oD, .inl (G.2 6, 1, .inr (.inr (.inr (.inl og))))), (o, .inl (G.2 5, 1, .inr (.inl of2_3833)))] ++ (W2_3835 ++ (W2_3843 ++ []))) H := P_perm hpm_3848 hP
  have hD : va_D A ([(oD, .inl (G.2 6, 1, .inr (.inr (.inr (.inl og))))), (o, .inl (G.2 5, 1, .inr (.inl of2_3833)))] ++ (W2_3835 ++ (W2_3843 ++ []))) := D_perm hpm_3848 hD
  refine W.eq (g2 := F0 m 430 ls [.int (nI (((o_remTest (dC M) d)).1))]) rfl ?_
  refine lv_ton (n := ((o_remTest (dC C) (sx9 xs (i9 + 1))).1)) (congrArg nI hqs.1.symm) ?_
  refine lv_iload hx hb dL_law_430 (lv_at hl 1 rfl) ?_
  refine lv_icmp_eq (tgt := 437) hx hb dL_law_432 (by decide) (fun _ => ?_) (fun c9 => absurd rfl c9)
  refine lv_iload hx hb dL_law_437 (lv_at hl 1 rfl) ?_
  refine n_if_ne (tgt := 454) hx hb (by omega) dL_law_439 (by decide) (fun c_3849 => ?_) (fun c_3849 => ?_)
  · refine lv_goto (tgt := 2788) hx hb dL_law_454 (by decide) ?_
    have hpm_3850 : (([(oD, .inl (G.2 6, 1, .inr (.inr (.inr (.inl og))))), (o, .inl (G.2 5, 1, .inr (.inl of2_3833)))] ++ (W2_3835 ++ (W2_3843 ++ []))) : va_W).Perm (([(o, .inl (G.2 5, 1, .inr (.inl of2_3833))), (oD, .inl (G.2 6, 1, .inr (.inr (.inr (.inl og)))))] ++ (W2_3835 ++ (W2_3843 ++ []))) ++ []) := segs_perm [[(oD, .inl (G.2 6, 1, .inr (.inr (.inr (.inl og)))))], [(o, .inl (G.2 5, 1, .inr (.inl of2_3833)))], W2_3835, W2_3843] [1, 0, 2, 3] [] rfl
    have hP : va_P G.1 CL ([(o, .inl (G.2 5, 1, .inr (.inl of2_3833))), (oD, .inl (G.2 6, 1, .inr (.inr (.inr (.inl og)))))] ++ (W2_3835 ++ (W2_3843 ++ []))) H := P_left (P_perm hpm_3850 hP)
    have hD : va_D A ([(o, .inl (G.2 5, 1, .inr (.inl of2_3833))), (oD, .inl (G.2 6, 1, .inr (.inr (.inr (.inl og)))))] ++ (W2_3835 ++ (W2_3843 ++ []))) := D_left (D_perm hpm_3850 hD)
    have hl := lv_sub hl [2, 3, 4, 5, 6, 7] (l' := [(0, .ref b), (1, .ref d), (2, .ref m0), (3, .ref o), (4, .ref oD), (5, .int (nI i9))]) rfl
    exact W.widen (show cl + (3 + 101) ≤ cl + 20000 from by omega) (show sl + (12 + 5800) ≤ sl + 45000 from by omega) (kk ls H locs S2_3834 (if ((o_remTest (dC M) d)).1 = 0 then ((((o_remTest (dC M) d)).2.2, dS M, min 6 (dK M + 1), hsR (dH M) (dK M) (dC M), dL M, dN M) : DS) else M) (((o_remTest (dC M) d)).1) W2_3835 W2_3843 of2_3833 og hP hD hS hl hq_3839 hq_3845 (hLw.mut hqs hq_3837 (o_remTest_b (dC C) (sx9 xs (i9 + 1)))))
  · refine lv_aload_n hx hb dL_law_442 rfl (lv_at hl 5 rfl) ?_
    refine lv_iconst (v := nI 0) hx hb dL_law_443 (by decide) ?_
    refine r_lald (v := (((o_remTest (dC C) (sx9 xs (i9 + 1)))).2.1).toInt64) hx hb hK hP 1 5 rfl rfl (i := 0) (by omega) (by omega) ((hq_3836 (by omega))) dL_law_444 ?_
    refine lv_iload hx hb dL_law_445 (lv_at hl 0 rfl) ?_
    refine lv_toi (y := ((o_remTest (dC C) (sx9 xs (i9 + 1)))).2.1) ((hq_3844 (hqs.1.symm.trans (by omega))).trans hqs.2.1.symm) ?_
    refine lv_i2l (v := (((o_remTest (dC C) (sx9 xs (i9 + 1)))).2.1).toInt64) hx hb dL_law_447 rfl ?_
    refine W.lcmp hx hb dL_law_448 ?_
    refine lv_ton (n := 0) (lcmp0 _) ?_
    refine n_if_eq (tgt := 454) hx hb (by omega) dL_law_449 (by decide) (fun c_3851 => ?_) (fun c_3851 => absurd c_3851 (by omega))
    refine lv_goto (tgt := 2788) hx hb dL_law_454 (by decide) ?_
    have hpm_3852 : (([(oD, .inl (G.2 6, 1, .inr (.inr (.inr (.inl og))))), (o, .inl (G.2 5, 1, .inr (.inl of2_3833)))] ++ (W2_3835 ++ (W2_3843 ++ []))) : va_W).Perm (([(o, .inl (G.2 5, 1, .inr (.inl of2_3833))), (oD, .inl (G.2 6, 1, .inr (.inr (.inr (.inl og)))))] ++ (W2_3835 ++ (W2_3843 ++ []))) ++ []) := segs_perm [[(oD, .inl (G.2 6, 1, .inr (.inr (.inr (.inl og)))))], [(o, .inl (G.2 5, 1, .inr (.inl of2_3833)))], W2_3835, W2_3843] [1, 0, 2, 3] [] rfl
    have hP : va_P G.1 CL ([(o, .inl (G.2 5, 1, .inr (.inl of2_3833))), (oD, .inl (G.2 6, 1, .inr (.inr (.inr (.inl og)))))] ++ (W2_3835 ++ (W2_3843 ++ []))) H := P_left (P_perm hpm_3852 hP)
    have hD : va_D A ([(o, .inl (G.2 5, 1, .inr (.inl of2_3833))), (oD, .inl (G.2 6, 1, .inr (.inr (.inr (.inl og)))))] ++ (W2_3835 ++ (W2_3843 ++ []))) := D_left (D_perm hpm_3852 hD)
    have hl := lv_sub hl [2, 3, 4, 5, 6, 7] (l' := [(0, .ref b), (1, .ref d), (2, .ref m0), (3, .ref o), (4, .ref oD), (5, .int (nI i9))]) rfl
    exact W.widen (show cl + (3 + 101) ≤ cl + 20000 from by omega) (show sl + (12 + 5800) ≤ sl + 45000 from by omega) (kk ls H locs S2_3834 (if ((o_remTest (dC M) d)).1 = 0 then ((((o_remTest (dC M) d)).2.2, dS M, min 6 (dK M + 1), hsR (dH M) (dK M) (dC M), dL M, dN M) : DS) else M) (((o_remTest (dC M) d)).1) W2_3835 W2_3843 of2_3833 og hP hD hS hl hq_3839 hq_3845 (hLw.mut hqs hq_3837 (o_remTest_b (dC C) (sx9 xs (i9 + 1)))))

set_option maxHeartbeats 4000000 in
theorem lawK_4 {p : Program} {l : Launch} {e : Env} {s : State} {m : MethodId} {below : List Frame} {meth : Method} {c : Code} {G : Gt} {A : Nat → Prop} {b L : Nat} {xs : Nat → Int32} {Q : State → Prop} {d m0 o oD i9 N cl sl : Nat} (hfl : l.stackTraces = false) (F : LwF G A p s m c b L xs) (hi9 : i9 + 4 ≤ L) (hN24 : N ≤ 24) (hcl : cl + 20000 ≤ 1200144) (hsl : sl + 45000 ≤ 5495674) (kk : ∀ (ls : Array Slot) (H : Heap) (locs : List Loc) (C M : DS) (th : Nat) (WD WM : va_W) (of : Nat → Int64) (og : Nat → UInt64), va_P G.1 CL ([(o, .inl (G.2 5, 1, .inr (.inl of))), (oD, .inl (G.2 6, 1, .inr (.inr (.inr (.inl og)))))] ++ (WD ++ (WM ++ []))) H → va_D A ([(o, .inl (G.2 5, 1, .inr (.inl of))), (oD, .inl (G.2 6, 1, .inr (.inr (.inr (.inl og)))))] ++ (WD ++ (WM ++ []))) → va_S A s.heap H locs → lv_has ls 10 [(0, .ref b), (1, .ref d), (2, .ref m0), (3, .ref o), (4, .ref oD), (5, .int (nI i9))] → DyW G d C WD → MdW G m0 M th WM → LawI C M (N + 1) → W p l e room_1 s m #[Value.ref b] below meth c H locs (cl + 20000) (sl + 45000) Q (F0 m 2788 ls [])) {ls : Array Slot} {H : Heap} {locs : List Loc} {C M : DS} {th : Nat} {WD WM : va_W} {of : Nat → Int64} {og : Nat → UInt64} (hP : va_P G.1 CL ([(o, .inl (G.2 5, 1, .inr (.inl of))), (oD, .inl (G.2 6, 1, .inr (.inr (.inr (.inl og)))))] ++ (WD ++ (WM ++ []))) H) (hD : va_D A ([(o, .inl (G.2 5, 1, .inr (.inl of))), (oD, .inl (G.2 6, 1, .inr (.inr (.inr (.inl og)))))] ++ (WD ++ (WM ++ [])))) (hS : va_S A s.heap H locs) (hl : lv_has ls 10 [(0, .ref b), (1, .ref d), (2, .ref m0), (3, .ref o), (4, .ref oD), (5, .int (nI i9))]) (hDy : DyW G d C WD) (hMd : MdW G m0 M th WM) (hLw : LawI C M N) : W p l e room_1 s m #[Value.ref b] below meth c H locs cl sl Q (F0 m 457 ls []) := by
  obtain ⟨cf, hKB, hE, hA, hX9, hbl, hbA, hNc, hL96⟩ := F
  have hx := cf.1
  have hb := cf.2.1
  have hml := cf.2.2.1
  have hown : s.vm.findClass RX0 = some m.cls := cf.2.2.2.1
  have hts := cf.2.2.2.2
  have hK := hKB.1
  have hIc := hDy.inv.1
  have hIm : Inv (dC M) := Inv_sim hLw.1 hIc
  have hRk : RkOk (dC M) := RkOk_sim hLw.1 (RkOk_srt hDy.inv.2.2)
  have hl := hl
  refine lv_aload_n hx hb dL_law_457 rfl (lv_at hl 1 rfl) ?_
  have hpm_3853 : (([(o, .inl (G.2 5, 1, .inr (.inl of))), (oD, .inl (G.2 6, 1, .inr (.inr (.inr (.inl og)))))] ++ (WD ++ (WM ++ []))) : va_W).Perm ((WD ++ []) ++ ([(o, .inl (G.2 5, 1, .inr (.inl of))), (oD, .inl (G.2 6, 1, .inr (.inr (.inr (.inl og)))))] ++ (WM ++ []))) := segs_perm [[(o, .inl (G.2 5, 1, .inr (.inl of)))], [(oD, .inl (G.2 6, 1, .inr (.inr (.inr (.inl og)))))], WD, WM] [2] [0, 1, 3] rfl
  have hF := hF_ofP (wc := (WD ++ [])) hD hS hA hpm_3853
  refine go_ctP hS hP hD hpm_3853 hF
      (va_runV (As := []) (rest := []) cf (dX1_testCount l G d C WD (hDy) H.size) (cwV 0 hts (lw_V q255 q256 q257 q47 q258) rfl rfl rfl (by decide +kernel) ⟨Nat.le_of_ble_eq_true rfl, Nat.le_of_ble_eq_true rfl⟩) (preV_of hKB hE hS hF (DyW.recv hK hDy (seg_at [[(o, .inl (G.2 5, 1, .inr (.inl of)))], [(oD, .inl (G.2 6, 1, .inr (.inr (.inr (.inl og)))))], WD, WM] 2 rfl hP)) (P_left (P_perm hpm_3853 hP)) ((D_left (D_perm hpm_3853 hD)).weaken (fun _ _ _ _ => trivial)) trivial) rfl rfl hl.1 rfl (lv_room (Nat.le_of_ble_eq_true rfl)) dL_law_458 ⟨show cl + 1 ≤ 1200144 from by first | decide | omega, show sl + 2 ≤ 5495674 from by first | decide | omega⟩)
      (fun u_ H locs hq hph (hP : va_P G.1 CL (([(o, .inl (G.2 5, 1, .inr (.inl of))), (oD, .inl (G.2 6, 1, .inr (.inr (.inr (.inl og)))))] ++ (WM ++ [])) ++ (u_.2 ++ [])) H) (hD : va_D A (([(o, .inl (G.2 5, 1, .inr (.inl of))), (oD, .inl (G.2 6, 1, .inr (.inr (.inr (.inl og)))))] ++ (WM ++ [])) ++ (u_.2 ++ []))) hS hfz hfk => ?_)
  obtain ⟨rr_3854, W2_3855⟩ := u_
  obtain ⟨hq_3856, hq_3857⟩ : q_testCount (dC C) = (0, rr_3854) ∧ DyW G d C W2_3855 := hq
  have hpm_3858 : (([(o, .inl (G.2 5, 1, .inr (.inl of))), (oD, .inl (G.2 6, 1, .inr (.inr (.inr (.inl og)))))] ++ (WM ++ [])) ++ (W2_3855 ++ []) : va_W).Perm ([(o, .inl (G.2 5, 1, .inr (.inl of))), (oD, .inl (G.2 6, 1, .inr (.inr (.inr (.inl og)))))] ++ (WM ++ (W2_3855 ++ []))) := segs_perm2 [[(o, .inl (G.2 5, 1, .inr (.inl of)))], [(oD, .inl (G.2 6, 1, .inr (.inr (.inr (.inl og)))))], WM] [W2_3855] [0, 1, 2, 3] rfl
  have hP : va_P G.1 CL ([(o, .inl (G.2 5, 1, .inr (.inl of))), (oD, .inl (G.2 6, 1, .inr (.inr (.inr (.inl og)))))] ++ (WM ++ (W2_3855 ++ []))) H := P_perm hpm_3858 hP
  have hD : va_D A ([(o, .inl (G.2 5, 1, .inr (.inl of))), (oD, .inl (G.2 6, 1, .inr (.inr (.inr (.inl og)))))] ++ (WM ++ (W2_3855 ++ []))) := D_perm hpm_3858 hD
  refine W.eq (g2 := F0 m 461 ls [.int rr_3854]) rfl ?_
  have hqs : (q_testCount (dC M)) = (q_testCount (dC C)) := q_testCount_sim hLw.1.symm hIm 
  refine lv_toi (y := ((q_testCount (dC C))).2) ((congrArg Prod.snd hq_3856).symm) ?_
  refine lv_aload_n hx hb dL_law_461 rfl (lv_at hl 2 rfl) ?_
  have hpm_3859 : (([(o, .inl (G.2 5, 1, .inr (.inl of))), (oD, .inl (G.2 6, 1, .inr (.inr (.inr (.inl og)))))] ++ (WM ++ (W2_3855 ++ []))) : va_W).Perm ((WM ++ []) ++ ([(o, .inl (G.2 5, 1, .inr (.inl of))), (oD, .inl (G.2 6, 1, .inr (.inr (.inr (.inl og)))))] ++ (W2_3855 ++ []))) := segs_perm [[(o, .inl (G.2 5, 1, .inr (.inl of)))], [(oD, .inl (G.2 6, 1, .inr (.inr (.inr (.inl og)))))], WM, W2_3855] [2] [0, 1, 3] rfl
  have hF := hF_ofP (wc := (WM ++ [])) hD hS hA hpm_3859
  refine go_ctP hS hP hD hpm_3859 hF
      (va_runV (As := []) (rest := [.int (((q_testCount (dC C))).2)]) cf (eX4_testCount l G m0 M th WM (hMd) (hIm) H.size) (cwV 0 hts (lw_V q1703 q1704 q1705 q58 q1706) rfl rfl rfl (by decide +kernel) ⟨Nat.le_of_ble_eq_true rfl, Nat.le_of_ble_eq_true rfl⟩) (preV_of hKB hE hS hF (MdW.recv hK hMd (seg_at [[(o, .inl (G.2 5, 1, .inr (.inl of)))], [(oD, .inl (G.2 6, 1, .inr (.inr (.inr (.inl og)))))], WM, W2_3855] 2 rfl hP)) (P_left (P_perm hpm_3859 hP)) ((D_left (D_perm hpm_3859 hD)).weaken (fun _ _ _ _ => trivial)) trivial) rfl rfl hl.1 rfl (lv_room (Nat.le_of_ble_eq_true rfl)) dL_law_462 ⟨show cl + 1 + 0 ≤ 1200144 from by first | decide | omega, show sl + 2 + 0 ≤ 5495674 from by first | decide | omega⟩)
      (fun u_ H locs hq hph (hP : va_P G.1 CL (([(o, .inl (G.2 5, 1, .inr (.inl of))), (oD, .inl (G.2 6, 1, .inr (.inr (.inr (.inl og)))))] ++ (W2_3855 ++ [])) ++ (u_.2 ++ [])) H) (hD : va_D A (([(o, .inl (G.2 5, 1, .inr (.inl of))), (oD, .inl (G.2 6, 1, .inr (.inr (.inr (.inl og)))))] ++ (W2_3855 ++ [])) ++ (u_.2 ++ []))) hS hfz hfk => ?_)
  obtain ⟨rr_3860, W2_3861⟩ := u_
  obtain ⟨hq_3862, hq_3863⟩ : ((q_testCount (dC M)).1 = 0 → rr_3860 = (q_testCount (dC M)).2) ∧ MdW G m0 M (q_testCount (dC M)).1 W2_3861 := hq
  have hpm_3864 : (([(o, .inl (G.2 5, 1, .inr (.inl of))), (oD, .inl (G.2 6, 1, .inr (.inr (.inr (.inl og)))))] ++ (W2_3855 ++ [])) ++ (W2_3861 ++ []) : va_W).Perm ([(o, .inl (G.2 5, 1, .inr (.inl of))), (oD, .inl (G.2 6, 1, .inr (.inr (.inr (.inl og)))))] ++ (W2_3855 ++ (W2_3861 ++ []))) := segs_perm2 [[(o, .inl (G.2 5, 1, .inr (.inl of)))], [(oD, .inl (G.2 6, 1, .inr (.inr (.inr (.inl og)))))], W2_3855] [W2_3861] [0, 1, 2, 3] rfl
  have hP : va_P G.1 CL ([(o, .inl (G.2 5, 1, .inr (.inl of))), (oD, .inl (G.2 6, 1, .inr (.inr (.inr (.inl og)))))] ++ (W2_3855 ++ (W2_3861 ++ []))) H := P_perm hpm_3864 hP
  have hD : va_D A ([(o, .inl (G.2 5, 1, .inr (.inl of))), (oD, .inl (G.2 6, 1, .inr (.inr (.inr (.inl og)))))] ++ (W2_3855 ++ (W2_3861 ++ []))) := D_perm hpm_3864 hD
  refine W.eq (g2 := F0 m 465 ls [.int rr_3860, .int (((q_testCount (dC C))).2)]) rfl ?_
  refine lv_toi (y := ((q_testCount (dC C))).2) ((hq_3862 (by rw [hqs, hq_3856])).trans (by rw [hqs])) ?_
  refine lv_icmp_eq (tgt := 2788) hx hb dL_law_465 (by decide) (fun _ => ?_) (fun c9 => absurd rfl c9)
  have hpm_3865 : (([(o, .inl (G.2 5, 1, .inr (.inl of))), (oD, .inl (G.2 6, 1, .inr (.inr (.inr (.inl og)))))] ++ (W2_3855 ++ (W2_3861 ++ []))) : va_W).Perm (([(o, .inl (G.2 5, 1, .inr (.inl of))), (oD, .inl (G.2 6, 1, .inr (.inr (.inr (.inl og)))))] ++ (W2_3855 ++ (W2_3861 ++ []))) ++ []) := segs_perm [[(o, .inl (G.2 5, 1, .inr (.inl of)))], [(oD, .inl (G.2 6, 1, .inr (.inr (.inr (.inl og)))))], W2_3855, W2_3861] [0, 1, 2, 3] [] rfl
  have hP : va_P G.1 CL ([(o, .inl (G.2 5, 1, .inr (.inl of))), (oD, .inl (G.2 6, 1, .inr (.inr (.inr (.inl og)))))] ++ (W2_3855 ++ (W2_3861 ++ []))) H := P_left (P_perm hpm_3865 hP)
  have hD : va_D A ([(o, .inl (G.2 5, 1, .inr (.inl of))), (oD, .inl (G.2 6, 1, .inr (.inr (.inr (.inl og)))))] ++ (W2_3855 ++ (W2_3861 ++ []))) := D_left (D_perm hpm_3865 hD)
  have hl := lv_sub hl [0, 1, 2, 3, 4, 5] (l' := [(0, .ref b), (1, .ref d), (2, .ref m0), (3, .ref o), (4, .ref oD), (5, .int (nI i9))]) rfl
  exact W.widen (show cl + 1 ≤ cl + 20000 from by omega) (show sl + 2 ≤ sl + 45000 from by omega) (kk ls H locs C M (((q_testCount (dC M))).1) W2_3855 W2_3861 of og hP hD hS hl hq_3857 hq_3863 hLw.up)

set_option maxHeartbeats 4000000 in
theorem lawK_5 {p : Program} {l : Launch} {e : Env} {s : State} {m : MethodId} {below : List Frame} {meth : Method} {c : Code} {G : Gt} {A : Nat → Prop} {b L : Nat} {xs : Nat → Int32} {Q : State → Prop} {d m0 o oD i9 N cl sl : Nat} (hfl : l.stackTraces = false) (F : LwF G A p s m c b L xs) (hi9 : i9 + 4 ≤ L) (hN24 : N ≤ 24) (hcl : cl + 20000 ≤ 1200144) (hsl : sl + 45000 ≤ 5495674) (kk : ∀ (ls : Array Slot) (H : Heap) (locs : List Loc) (C M : DS) (th : Nat) (WD WM : va_W) (of : Nat → Int64) (og : Nat → UInt64), va_P G.1 CL ([(o, .inl (G.2 5, 1, .inr (.inl of))), (oD, .inl (G.2 6, 1, .inr (.inr (.inr (.inl og)))))] ++ (WD ++ (WM ++ []))) H → va_D A ([(o, .inl (G.2 5, 1, .inr (.inl of))), (oD, .inl (G.2 6, 1, .inr (.inr (.inr (.inl og)))))] ++ (WD ++ (WM ++ []))) → va_S A s.heap H locs → lv_has ls 10 [(0, .ref b), (1, .ref d), (2, .ref m0), (3, .ref o), (4, .ref oD), (5, .int (nI i9))] → DyW G d C WD → MdW G m0 M th WM → LawI C M (N + 1) → W p l e room_1 s m #[Value.ref b] below meth c H locs (cl + 20000) (sl + 45000) Q (F0 m 2788 ls [])) {ls : Array Slot} {H : Heap} {locs : List Loc} {C M : DS} {th : Nat} {WD WM : va_W} {of : Nat → Int64} {og : Nat → UInt64} (hP : va_P G.1 CL ([(o, .inl (G.2 5, 1, .inr (.inl of))), (oD, .inl (G.2 6, 1, .inr (.inr (.inr (.inl og)))))] ++ (WD ++ (WM ++ []))) H) (hD : va_D A ([(o, .inl (G.2 5, 1, .inr (.inl of))), (oD, .inl (G.2 6, 1, .inr (.inr (.inr (.inl og)))))] ++ (WD ++ (WM ++ [])))) (hS : va_S A s.heap H locs) (hl : lv_has ls 10 [(0, .ref b), (1, .ref d), (2, .ref m0), (3, .ref o), (4, .ref oD), (5, .int (nI i9))]) (hDy : DyW G d C WD) (hMd : MdW G m0 M th WM) (hLw : LawI C M N) : W p l e room_1 s m #[Value.ref b] below meth c H locs cl sl Q (F0 m 470 ls []) := by
  obtain ⟨cf, hKB, hE, hA, hX9, hbl, hbA, hNc, hL96⟩ := F
  have hx := cf.1
  have hb := cf.2.1
  have hml := cf.2.2.1
  have hown : s.vm.findClass RX0 = some m.cls := cf.2.2.2.1
  have hts := cf.2.2.2.2
  have hK := hKB.1
  have hIc := hDy.inv.1
  have hIm : Inv (dC M) := Inv_sim hLw.1 hIc
  have hRk : RkOk (dC M) := RkOk_sim hLw.1 (RkOk_srt hDy.inv.2.2)
  have hl := hl
  refine lv_aload_n hx hb dL_law_470 rfl (lv_at hl 1 rfl) ?_
  refine lv_aload_n hx hb dL_law_471 rfl (lv_at hl 0 rfl) ?_
  refine lv_iload hx hb dL_law_472 (lv_at hl 5 rfl) ?_
  refine lv_iconst (v := nI 1) hx hb dL_law_474 (by decide) ?_
  refine lv_iadd hx hb dL_law_475 ?_
  refine lv_ton (n := i9 + 1) (nadd (by omega)) ?_
  refine va_sld hx hb hX9 hbl hbA hS (i := nI (i9 + 1)) (vp9 (by omega) hL96) dL_law_476 ?_
  refine W.eq (g2 := F0 m 477 ls [.int (sx9 xs (i9 + 1)), .ref d]) rfl ?_
  refine lv_aload_n hx hb dL_law_477 rfl (lv_at hl 3 rfl) ?_
  have hpm_3866 : (([(o, .inl (G.2 5, 1, .inr (.inl of))), (oD, .inl (G.2 6, 1, .inr (.inr (.inr (.inl og)))))] ++ (WD ++ (WM ++ []))) : va_W).Perm (([(o, .inl (G.2 5, 1, .inr (.inl of)))] ++ (WD ++ [])) ++ ([(oD, .inl (G.2 6, 1, .inr (.inr (.inr (.inl og)))))] ++ (WM ++ []))) := segs_perm [[(o, .inl (G.2 5, 1, .inr (.inl of)))], [(oD, .inl (G.2 6, 1, .inr (.inr (.inr (.inl og)))))], WD, WM] [0, 2] [1, 3] rfl
  have hF := hF_ofP (wc := ([(o, .inl (G.2 5, 1, .inr (.inl of)))] ++ (WD ++ []))) hD hS hA hpm_3866
  refine go_ctP hS hP hD hpm_3866 hF
      (vx_runSW (As := [.ref d, .int (sx9 xs (i9 + 1)), .ref o]) (rest := []) cf (wX0_thresholdOn l G d C WD o of (sx9 xs (i9 + 1)) (hDy) hfl H.size) (vx_cwSW 3 hts (lw_SW q1035 q1036 q46 q1037) rfl rfl rfl (by decide +kernel) ⟨Nat.le_of_ble_eq_true rfl, Nat.le_of_ble_eq_true rfl⟩) (preS_ofW hNc hKB hE hS hF (P_left (P_perm hpm_3866 hP)) ((D_left (D_perm hpm_3866 hD)).weaken (fun _ _ _ _ => trivial)) trivial) rfl rfl hl.1 rfl (lv_room (Nat.le_of_ble_eq_true rfl)) dL_law_478 ⟨show cl + 2 ≤ 1200144 from by first | decide | omega, show sl + 8 ≤ 5495674 from by first | decide | omega⟩)
      (fun u_ H locs hq hph (hP : va_P G.1 CL (([(oD, .inl (G.2 6, 1, .inr (.inr (.inr (.inl og)))))] ++ (WM ++ [])) ++ ([(o, .inl (G.2 5, 1, .inr (.inl u_.1)))] ++ (u_.2 ++ []))) H) (hD : va_D A (([(oD, .inl (G.2 6, 1, .inr (.inr (.inr (.inl og)))))] ++ (WM ++ [])) ++ ([(o, .inl (G.2 5, 1, .inr (.inl u_.1)))] ++ (u_.2 ++ [])))) hS hfz hfk => ?_)
  obtain ⟨of2_3867, W2_3868⟩ := u_
  obtain ⟨hq_3869, hq_3870, hq_3871⟩ : ((q_thr (dC C) (sx9 xs (i9 + 1))).1 = 0 → of2_3867 0 = ((q_thr (dC C) (sx9 xs (i9 + 1))).2).toInt64) ∧ (q_thr (dC C) (sx9 xs (i9 + 1))).1 < 10 ∧ DyW G d C W2_3868 := hq
  have hpm_3872 : (([(oD, .inl (G.2 6, 1, .inr (.inr (.inr (.inl og)))))] ++ (WM ++ [])) ++ ([(o, .inl (G.2 5, 1, .inr (.inl of2_3867)))] ++ (W2_3868 ++ [])) : va_W).Perm ([(oD, .inl (G.2 6, 1, .inr (.inr (.inr (.inl og))))), (o, .inl (G.2 5, 1, .inr (.inl of2_3867)))] ++ (WM ++ (W2_3868 ++ []))) := segs_perm2 [[(oD, .inl (G.2 6, 1, .inr (.inr (.inr (.inl og)))))], WM] [[(o, .inl (G.2 5, 1, .inr (.inl of2_3867)))], W2_3868] [0, 2, 1, 3] rfl
  have hP : va_P G.1 CL ([(oD, .inl (G.2 6, 1, .inr (.inr (.inr (.inl og))))), (o, .inl (G.2 5, 1, .inr (.inl of2_3867)))] ++ (WM ++ (W2_3868 ++ []))) H := P_perm hpm_3872 hP
  have hD : va_D A ([(oD, .inl (G.2 6, 1, .inr (.inr (.inr (.inl og))))), (o, .inl (G.2 5, 1, .inr (.inl of2_3867)))] ++ (WM ++ (W2_3868 ++ []))) := D_perm hpm_3872 hD
  refine W.eq (g2 := F0 m 481 ls [.int (nI ((q_thr (dC C) (sx9 xs (i9 + 1))).1))]) rfl ?_
  have hqs : (q_thr (dC M) (sx9 xs (i9 + 1))) = (q_thr (dC C) (sx9 xs (i9 + 1))) := q_thr_sim hLw.1.symm hIm (sx9 xs (i9 + 1))
  refine lv_istore (lv' := [(6, .int (nI ((q_thr (dC C) (sx9 xs (i9 + 1))).1))), (0, .ref b), (1, .ref d), (2, .ref m0), (3, .ref o), (4, .ref oD), (5, .int (nI i9))]) hx hb dL_law_481 hl (by decide) rfl (fun ls hl => ?_)
  refine lv_aload_n hx hb dL_law_483 rfl (lv_at hl 3 rfl) ?_
  refine lv_aload_n hx hb dL_law_484 rfl (lv_at hl 1 rfl) ?_
  refine lv_iload hx hb dL_law_485 (lv_at hl 6 rfl) ?_
  refine lv_iconst (v := nI 1) hx hb dL_law_487 (by decide) ?_
  refine lv_iadd hx hb dL_law_488 ?_
  refine lv_ton (n := i9 + 1) (nadd (by omega)) ?_
  refine va_sld hx hb hX9 hbl hbA hS (i := nI (i9 + 1)) (vp9 (by omega) hL96) dL_law_489 ?_
  refine W.eq (g2 := F0 m 490 ls [.int (sx9 xs (i9 + 1)), .ref m0]) rfl ?_
  have hpm_3873 : (([(oD, .inl (G.2 6, 1, .inr (.inr (.inr (.inl og))))), (o, .inl (G.2 5, 1, .inr (.inl of2_3867)))] ++ (WM ++ (W2_3868 ++ []))) : va_W).Perm ((WM ++ []) ++ ([(oD, .inl (G.2 6, 1, .inr (.inr (.inr (.inl og))))), (o, .inl (G.2 5, 1, .inr (.inl of2_3867)))] ++ (W2_3868 ++ []))) := segs_perm [[(oD, .inl (G.2 6, 1, .inr (.inr (.inr (.inl og)))))], [(o, .inl (G.2 5, 1, .inr (.inl of2_3867)))], WM, W2_3868] [2] [0, 1, 3] rfl
  have hF := hF_ofP (wc := (WM ++ [])) hD hS hA hpm_3873
  refine go_ctP hS hP hD hpm_3873 hF
      (va_runV (As := [.int (sx9 xs (i9 + 1))]) (rest := []) cf (eX4_thresholdOn l G m0 M th WM (sx9 xs (i9 + 1)) (hMd) (hIm) H.size) (cwV 1 hts (lw_V q1707 q1708 q1709 q58 q1710) rfl rfl rfl (by decide +kernel) ⟨Nat.le_of_ble_eq_true rfl, Nat.le_of_ble_eq_true rfl⟩) (preV_of hKB hE hS hF (MdW.recv hK hMd (seg_at [[(oD, .inl (G.2 6, 1, .inr (.inr (.inr (.inl og)))))], [(o, .inl (G.2 5, 1, .inr (.inl of2_3867)))], WM, W2_3868] 2 rfl hP)) (P_left (P_perm hpm_3873 hP)) ((D_left (D_perm hpm_3873 hD)).weaken (fun _ _ _ _ => trivial)) trivial) rfl rfl hl.1 rfl (lv_room (Nat.le_of_ble_eq_true rfl)) dL_law_490 ⟨show cl + 2 + 0 ≤ 1200144 from by first | decide | omega, show sl + 8 + 0 ≤ 5495674 from by first | decide | omega⟩)
      (fun u_ H locs hq hph (hP : va_P G.1 CL (([(oD, .inl (G.2 6, 1, .inr (.inr (.inr (.inl og))))), (o, .inl (G.2 5, 1, .inr (.inl of2_3867)))] ++ (W2_3868 ++ [])) ++ (u_.2 ++ [])) H) (hD : va_D A (([(oD, .inl (G.2 6, 1, .inr (.inr (.inr (.inl og))))), (o, .inl (G.2 5, 1, .inr (.inl of2_3867)))] ++ (W2_3868 ++ [])) ++ (u_.2 ++ []))) hS hfz hfk => ?_)
  obtain ⟨rr_3874, W2_3875⟩ := u_
  obtain ⟨hq_3876, hq_3877⟩ : ((q_thr (dC M) (sx9 xs (i9 + 1))).1 = 0 → rr_3874 = (q_thr (dC M) (sx9 xs (i9 + 1))).2) ∧ MdW G m0 M (q_thr (dC M) (sx9 xs (i9 + 1))).1 W2_3875 := hq
  have hpm_3878 : (([(oD, .inl (G.2 6, 1, .inr (.inr (.inr (.inl og))))), (o, .inl (G.2 5, 1, .inr (.inl of2_3867)))] ++ (W2_3868 ++ [])) ++ (W2_3875 ++ []) : va_W).Perm ([(oD, .inl (G.2 6, 1, .inr (.inr (.inr (.inl og))))), (o, .inl (G.2 5, 1, .inr (.inl of2_3867)))] ++ (W2_3868 ++ (W2_3875 ++ []))) := segs_perm2 [[(oD, .inl (G.2 6, 1, .inr (.inr (.inr (.inl og)))))], [(o, .inl (G.2 5, 1, .inr (.inl of2_3867)))], W2_3868] [W2_3875] [0, 1, 2, 3] rfl
  have hP : va_P G.1 CL ([(oD, .inl (G.2 6, 1, .inr (.inr (.inr (.inl og))))), (o, .inl (G.2 5, 1, .inr (.inl of2_3867)))] ++ (W2_3868 ++ (W2_3875 ++ []))) H := P_perm hpm_3878 hP
  have hD : va_D A ([(oD, .inl (G.2 6, 1, .inr (.inr (.inr (.inl og))))), (o, .inl (G.2 5, 1, .inr (.inl of2_3867)))] ++ (W2_3868 ++ (W2_3875 ++ []))) := D_perm hpm_3878 hD
  refine W.eq (g2 := F0 m 493 ls [.int rr_3874]) rfl ?_
  refine lv_istore (lv' := [(7, .int rr_3874), (6, .int (nI ((q_thr (dC C) (sx9 xs (i9 + 1))).1))), (0, .ref b), (1, .ref d), (2, .ref m0), (3, .ref o), (4, .ref oD), (5, .int (nI i9))]) hx hb dL_law_493 hl (by decide) rfl (fun ls hl => ?_)
  refine lv_aload_n hx hb dL_law_495 rfl (lv_at hl 4 rfl) ?_
  have hpm_3879 : (([(oD, .inl (G.2 6, 1, .inr (.inr (.inr (.inl og))))), (o, .inl (G.2 5, 1, .inr (.inl of2_3867)))] ++ (W2_3868 ++ (W2_3875 ++ []))) : va_W).Perm ([] ++ ([(oD, .inl (G.2 6, 1, .inr (.inr (.inr (.inl og))))), (o, .inl (G.2 5, 1, .inr (.inl of2_3867)))] ++ (W2_3868 ++ (W2_3875 ++ [])))) := segs_perm [[(oD, .inl (G.2 6, 1, .inr (.inr (.inr (.inl og)))))], [(o, .inl (G.2 5, 1, .inr (.inl of2_3867)))], W2_3868, W2_3875] [] [0, 1, 2, 3] rfl
  have hF := hF_ofP (wc := []) hD hS hA hpm_3879
  refine go_ctP hS hP hD hpm_3879 hF
      (va_runV (As := []) (rest := []) cf (eX4_thrown l G m0 M (((q_thr (dC M) (sx9 xs (i9 + 1)))).1) W2_3875 (hq_3877) H.size) (cwV 0 hts (lw_V q1639 q1640 q1641 q58 q1642) rfl rfl rfl (by decide +kernel) ⟨Nat.le_of_ble_eq_true rfl, Nat.le_of_ble_eq_true rfl⟩) (preV_of hKB hE hS hF (MdW.recv hK hq_3877 (seg_at [[(oD, .inl (G.2 6, 1, .inr (.inr (.inr (.inl og)))))], [(o, .inl (G.2 5, 1, .inr (.inl of2_3867)))], W2_3868, W2_3875] 3 rfl hP)) (P_left (P_perm hpm_3879 hP)) ((D_left (D_perm hpm_3879 hD)).weaken (fun _ _ _ _ => trivial)) (roW.nil (seg_at [[(oD, .inl (G.2 6, 1, .inr (.inr (.inr (.inl og)))))], [(o, .inl (G.2 5, 1, .inr (.inl of2_3867)))], W2_3868, W2_3875] 3 rfl hP))) rfl rfl hl.1 rfl (lv_room (Nat.le_of_ble_eq_true rfl)) dL_law_496 ⟨show cl + 2 + 0 ≤ 1200144 from by first | decide | omega, show sl + 8 + 0 ≤ 5495674 from by first | decide | omega⟩)
      (fun u_ H locs hq hph (hP : va_P G.1 CL (([(oD, .inl (G.2 6, 1, .inr (.inr (.inr (.inl og))))), (o, .inl (G.2 5, 1, .inr (.inl of2_3867)))] ++ (W2_3868 ++ (W2_3875 ++ []))) ++ []) H) (hD : va_D A (([(oD, .inl (G.2 6, 1, .inr (.inr (.inr (.inl og))))), (o, .inl (G.2 5, 1, .inr (.inl of2_3867)))] ++ (W2_3868 ++ (W2_3875 ++ []))) ++ [])) hS hfz hfk => ?_)
  have hpm_3880 : (([(oD, .inl (G.2 6, 1, .inr (.inr (.inr (.inl og))))), (o, .inl (G.2 5, 1, .inr (.inl of2_3867)))] ++ (W2_3868 ++ (W2_3875 ++ []))) ++ [] : va_W).Perm ([(oD, .inl (G.2 6, 1, .inr (.inr (.inr (.inl og))))), (o, .inl (G.2 5, 1, .inr (.inl of2_3867)))] ++ (W2_3868 ++ (W2_3875 ++ []))) := segs_perm2 [[(oD, .inl (G.2 6, 1, .inr (.inr (.inr (.inl og)))))], [(o, .inl (G.2 5, 1, .inr (.inl of2_3867)))], W2_3868, W2_3875] [] [0, 1, 2, 3] rfl
  have hP : va_P G.1 CL ([(oD, .inl (G.2 6, 1, .inr (.inr (.inr (.inl og))))), (o, .inl (G.2 5, 1, .inr (.inl of2_3867)))] ++ (W2_3868 ++ (W2_3875 ++ []))) H := P_perm hpm_3880 hP
  have hD : va_D A ([(oD, .inl (G.2 6, 1, .inr (.inr (.inr (.inl og))))), (o, .inl (G.2 5, 1, .inr (.inl of2_3867)))] ++ (W2_3868 ++ (W2_3875 ++ []))) := D_perm hpm_3880 hD
  refine W.eq (g2 := F0 m 499 ls [.int (nI (((q_thr (dC M) (sx9 xs (i9 + 1)))).1))]) rfl ?_
  refine lv_ton (n := ((q_thr (dC C) (sx9 xs (i9 + 1))).1)) (congrArg nI (by rw [hqs])) ?_
  refine lv_iload hx hb dL_law_499 (lv_at hl 1 rfl) ?_
  refine lv_icmp_eq (tgt := 506) hx hb dL_law_501 (by decide) (fun _ => ?_) (fun c9 => absurd rfl c9)
  refine lv_iload hx hb dL_law_506 (lv_at hl 1 rfl) ?_
  refine n_if_ne (tgt := 523) hx hb (by omega) dL_law_508 (by decide) (fun c_3881 => ?_) (fun c_3881 => ?_)
  · refine lv_goto (tgt := 2788) hx hb dL_law_523 (by decide) ?_
    have hpm_3882 : (([(oD, .inl (G.2 6, 1, .inr (.inr (.inr (.inl og))))), (o, .inl (G.2 5, 1, .inr (.inl of2_3867)))] ++ (W2_3868 ++ (W2_3875 ++ []))) : va_W).Perm (([(o, .inl (G.2 5, 1, .inr (.inl of2_3867))), (oD, .inl (G.2 6, 1, .inr (.inr (.inr (.inl og)))))] ++ (W2_3868 ++ (W2_3875 ++ []))) ++ []) := segs_perm [[(oD, .inl (G.2 6, 1, .inr (.inr (.inr (.inl og)))))], [(o, .inl (G.2 5, 1, .inr (.inl of2_3867)))], W2_3868, W2_3875] [1, 0, 2, 3] [] rfl
    have hP : va_P G.1 CL ([(o, .inl (G.2 5, 1, .inr (.inl of2_3867))), (oD, .inl (G.2 6, 1, .inr (.inr (.inr (.inl og)))))] ++ (W2_3868 ++ (W2_3875 ++ []))) H := P_left (P_perm hpm_3882 hP)
    have hD : va_D A ([(o, .inl (G.2 5, 1, .inr (.inl of2_3867))), (oD, .inl (G.2 6, 1, .inr (.inr (.inr (.inl og)))))] ++ (W2_3868 ++ (W2_3875 ++ []))) := D_left (D_perm hpm_3882 hD)
    have hl := lv_sub hl [2, 3, 4, 5, 6, 7] (l' := [(0, .ref b), (1, .ref d), (2, .ref m0), (3, .ref o), (4, .ref oD), (5, .int (nI i9))]) rfl
    exact W.widen (show cl + 2 ≤ cl + 20000 from by omega) (show sl + 8 ≤ sl + 45000 from by omega) (kk ls H locs C M (((q_thr (dC M) (sx9 xs (i9 + 1)))).1) W2_3868 W2_3875 of2_3867 og hP hD hS hl hq_3871 hq_3877 hLw.up)
  · refine lv_aload_n hx hb dL_law_511 rfl (lv_at hl 5 rfl) ?_
    refine lv_iconst (v := nI 0) hx hb dL_law_512 (by decide) ?_
    refine r_lald (v := (((q_thr (dC C) (sx9 xs (i9 + 1)))).2).toInt64) hx hb hK hP 1 5 rfl rfl (i := 0) (by omega) (by omega) ((hq_3869 (by omega))) dL_law_513 ?_
    refine lv_iload hx hb dL_law_514 (lv_at hl 0 rfl) ?_
    refine lv_toi (y := ((q_thr (dC C) (sx9 xs (i9 + 1)))).2) ((hq_3876 (by rw [hqs]; omega)).trans (by rw [hqs])) ?_
    refine lv_i2l (v := (((q_thr (dC C) (sx9 xs (i9 + 1)))).2).toInt64) hx hb dL_law_516 rfl ?_
    refine W.lcmp hx hb dL_law_517 ?_
    refine lv_ton (n := 0) (lcmp0 _) ?_
    refine n_if_eq (tgt := 523) hx hb (by omega) dL_law_518 (by decide) (fun c_3883 => ?_) (fun c_3883 => absurd c_3883 (by omega))
    refine lv_goto (tgt := 2788) hx hb dL_law_523 (by decide) ?_
    have hpm_3884 : (([(oD, .inl (G.2 6, 1, .inr (.inr (.inr (.inl og))))), (o, .inl (G.2 5, 1, .inr (.inl of2_3867)))] ++ (W2_3868 ++ (W2_3875 ++ []))) : va_W).Perm (([(o, .inl (G.2 5, 1, .inr (.inl of2_3867))), (oD, .inl (G.2 6, 1, .inr (.inr (.inr (.inl og)))))] ++ (W2_3868 ++ (W2_3875 ++ []))) ++ []) := segs_perm [[(oD, .inl (G.2 6, 1, .inr (.inr (.inr (.inl og)))))], [(o, .inl (G.2 5, 1, .inr (.inl of2_3867)))], W2_3868, W2_3875] [1, 0, 2, 3] [] rfl
    have hP : va_P G.1 CL ([(o, .inl (G.2 5, 1, .inr (.inl of2_3867))), (oD, .inl (G.2 6, 1, .inr (.inr (.inr (.inl og)))))] ++ (W2_3868 ++ (W2_3875 ++ []))) H := P_left (P_perm hpm_3884 hP)
    have hD : va_D A ([(o, .inl (G.2 5, 1, .inr (.inl of2_3867))), (oD, .inl (G.2 6, 1, .inr (.inr (.inr (.inl og)))))] ++ (W2_3868 ++ (W2_3875 ++ []))) := D_left (D_perm hpm_3884 hD)
    have hl := lv_sub hl [2, 3, 4, 5, 6, 7] (l' := [(0, .ref b), (1, .ref d), (2, .ref m0), (3, .ref o), (4, .ref oD), (5, .int (nI i9))]) rfl
    exact W.widen (show cl + 2 ≤ cl + 20000 from by omega) (show sl + 8 ≤ sl + 45000 from by omega) (kk ls H locs C M (((q_thr (dC M) (sx9 xs (i9 + 1)))).1) W2_3868 W2_3875 of2_3867 og hP hD hS hl hq_3871 hq_3877 hLw.up)

set_option maxHeartbeats 4000000 in
theorem lawK_6 {p : Program} {l : Launch} {e : Env} {s : State} {m : MethodId} {below : List Frame} {meth : Method} {c : Code} {G : Gt} {A : Nat → Prop} {b L : Nat} {xs : Nat → Int32} {Q : State → Prop} {d m0 o oD i9 N cl sl : Nat} (hfl : l.stackTraces = false) (F : LwF G A p s m c b L xs) (hi9 : i9 + 4 ≤ L) (hN24 : N ≤ 24) (hcl : cl + 20000 ≤ 1200144) (hsl : sl + 45000 ≤ 5495674) (kk : ∀ (ls : Array Slot) (H : Heap) (locs : List Loc) (C M : DS) (th : Nat) (WD WM : va_W) (of : Nat → Int64) (og : Nat → UInt64), va_P G.1 CL ([(o, .inl (G.2 5, 1, .inr (.inl of))), (oD, .inl (G.2 6, 1, .inr (.inr (.inr (.inl og)))))] ++ (WD ++ (WM ++ []))) H → va_D A ([(o, .inl (G.2 5, 1, .inr (.inl of))), (oD, .inl (G.2 6, 1, .inr (.inr (.inr (.inl og)))))] ++ (WD ++ (WM ++ []))) → va_S A s.heap H locs → lv_has ls 10 [(0, .ref b), (1, .ref d), (2, .ref m0), (3, .ref o), (4, .ref oD), (5, .int (nI i9))] → DyW G d C WD → MdW G m0 M th WM → LawI C M (N + 1) → W p l e room_1 s m #[Value.ref b] below meth c H locs (cl + 20000) (sl + 45000) Q (F0 m 2788 ls [])) {ls : Array Slot} {H : Heap} {locs : List Loc} {C M : DS} {th : Nat} {WD WM : va_W} {of : Nat → Int64} {og : Nat → UInt64} (hP : va_P G.1 CL ([(o, .inl (G.2 5, 1, .inr (.inl of))), (oD, .inl (G.2 6, 1, .inr (.inr (.inr (.inl og)))))] ++ (WD ++ (WM ++ []))) H) (hD : va_D A ([(o, .inl (G.2 5, 1, .inr (.inl of))), (oD, .inl (G.2 6, 1, .inr (.inr (.inr (.inl og)))))] ++ (WD ++ (WM ++ [])))) (hS : va_S A s.heap H locs) (hl : lv_has ls 10 [(0, .ref b), (1, .ref d), (2, .ref m0), (3, .ref o), (4, .ref oD), (5, .int (nI i9))]) (hDy : DyW G d C WD) (hMd : MdW G m0 M th WM) (hLw : LawI C M N) : W p l e room_1 s m #[Value.ref b] below meth c H locs cl sl Q (F0 m 526 ls []) := by
  obtain ⟨cf, hKB, hE, hA, hX9, hbl, hbA, hNc, hL96⟩ := F
  have hx := cf.1
  have hb := cf.2.1
  have hml := cf.2.2.1
  have hown : s.vm.findClass RX0 = some m.cls := cf.2.2.2.1
  have hts := cf.2.2.2.2
  have hK := hKB.1
  have hIc := hDy.inv.1
  have hIm : Inv (dC M) := Inv_sim hLw.1 hIc
  have hRk : RkOk (dC M) := RkOk_sim hLw.1 (RkOk_srt hDy.inv.2.2)
  have hl := hl
  refine lv_aload_n hx hb dL_law_526 rfl (lv_at hl 1 rfl) ?_
  refine lv_aload_n hx hb dL_law_527 rfl (lv_at hl 0 rfl) ?_
  refine lv_iload hx hb dL_law_528 (lv_at hl 5 rfl) ?_
  refine lv_iconst (v := nI 1) hx hb dL_law_530 (by decide) ?_
  refine lv_iadd hx hb dL_law_531 ?_
  refine lv_ton (n := i9 + 1) (nadd (by omega)) ?_
  refine va_sld hx hb hX9 hbl hbA hS (i := nI (i9 + 1)) (vp9 (by omega) hL96) dL_law_532 ?_
  refine W.eq (g2 := F0 m 533 ls [.int (sx9 xs (i9 + 1)), .ref d]) rfl ?_
  refine lv_aload_n hx hb dL_law_533 rfl (lv_at hl 0 rfl) ?_
  refine lv_iload hx hb dL_law_534 (lv_at hl 5 rfl) ?_
  refine lv_iconst (v := nI 2) hx hb dL_law_536 (by decide) ?_
  refine lv_iadd hx hb dL_law_537 ?_
  refine lv_ton (n := i9 + 2) (nadd (by omega)) ?_
  refine va_sld hx hb hX9 hbl hbA hS (i := nI (i9 + 2)) (vp9 (by omega) hL96) dL_law_538 ?_
  refine W.eq (g2 := F0 m 539 ls [.int (sx9 xs (i9 + 2)), .int (sx9 xs (i9 + 1)), .ref d]) rfl ?_
  refine lv_aload_n hx hb dL_law_539 rfl (lv_at hl 3 rfl) ?_
  have hpm_3885 : (([(o, .inl (G.2 5, 1, .inr (.inl of))), (oD, .inl (G.2 6, 1, .inr (.inr (.inr (.inl og)))))] ++ (WD ++ (WM ++ []))) : va_W).Perm (([(o, .inl (G.2 5, 1, .inr (.inl of)))] ++ (WD ++ [])) ++ ([(oD, .inl (G.2 6, 1, .inr (.inr (.inr (.inl og)))))] ++ (WM ++ []))) := segs_perm [[(o, .inl (G.2 5, 1, .inr (.inl of)))], [(oD, .inl (G.2 6, 1, .inr (.inr (.inr (.inl og)))))], WD, WM] [0, 2] [1, 3] rfl
  have hF := hF_ofP (wc := ([(o, .inl (G.2 5, 1, .inr (.inl of)))] ++ (WD ++ []))) hD hS hA hpm_3885
  refine go_ctP hS hP hD hpm_3885 hF
      (vx_runSW (As := [.ref d, .int (sx9 xs (i9 + 1)), .int (sx9 xs (i9 + 2)), .ref o]) (rest := []) cf (wX0_setBound l G d C WD o of (sx9 xs (i9 + 1)) (sx9 xs (i9 + 2)) (hDy) hfl H.size) (vx_cwSW 4 hts (lw_SW q1045 q1046 q46 q1047) rfl rfl rfl (by decide +kernel) ⟨Nat.le_of_ble_eq_true rfl, Nat.le_of_ble_eq_true rfl⟩) (preS_ofW hNc hKB hE hS hF (P_left (P_perm hpm_3885 hP)) ((D_left (D_perm hpm_3885 hD)).weaken (fun _ _ _ _ => trivial)) trivial) rfl rfl hl.1 rfl (lv_room (Nat.le_of_ble_eq_true rfl)) dL_law_540 ⟨show cl + (1 + 101) ≤ 1200144 from by first | decide | omega, show sl + (6 + 5800) ≤ 5495674 from by first | decide | omega⟩)
      (fun u_ H locs hq hph (hP : va_P G.1 CL (([(oD, .inl (G.2 6, 1, .inr (.inr (.inr (.inl og)))))] ++ (WM ++ [])) ++ ([(o, .inl (G.2 5, 1, .inr (.inl u_.1)))] ++ (u_.2.2 ++ []))) H) (hD : va_D A (([(oD, .inl (G.2 6, 1, .inr (.inr (.inr (.inl og)))))] ++ (WM ++ [])) ++ ([(o, .inl (G.2 5, 1, .inr (.inl u_.1)))] ++ (u_.2.2 ++ [])))) hS hfz hfk => ?_)
  obtain ⟨of2_3886, S2_3887, W2_3888⟩ := u_
  obtain ⟨hq_3889, hq_3890, hq_3891, hq_3892⟩ : ((o_setBound (dC C) (sx9 xs (i9 + 1)) (sx9 xs (i9 + 2))).1 = 0 → of2_3886 0 = ((o_setBound (dC C) (sx9 xs (i9 + 1)) (sx9 xs (i9 + 2))).2.1).toInt64) ∧ NxS C (o_setBound (dC C) (sx9 xs (i9 + 1)) (sx9 xs (i9 + 2))) S2_3887 ∧ (o_setBound (dC C) (sx9 xs (i9 + 1)) (sx9 xs (i9 + 2))).1 < 10 ∧ DyW G d S2_3887 W2_3888 := hq
  have hpm_3893 : (([(oD, .inl (G.2 6, 1, .inr (.inr (.inr (.inl og)))))] ++ (WM ++ [])) ++ ([(o, .inl (G.2 5, 1, .inr (.inl of2_3886)))] ++ (W2_3888 ++ [])) : va_W).Perm ([(oD, .inl (G.2 6, 1, .inr (.inr (.inr (.inl og))))), (o, .inl (G.2 5, 1, .inr (.inl of2_3886)))] ++ (WM ++ (W2_3888 ++ []))) := segs_perm2 [[(oD, .inl (G.2 6, 1, .inr (.inr (.inr (.inl og)))))], WM] [[(o, .inl (G.2 5, 1, .inr (.inl of2_3886)))], W2_3888] [0, 2, 1, 3] rfl
  have hP : va_P G.1 CL ([(oD, .inl (G.2 6, 1, .inr (.inr (.inr (.inl og))))), (o, .inl (G.2 5, 1, .inr (.inl of2_3886)))] ++ (WM ++ (W2_3888 ++ []))) H := P_perm hpm_3893 hP
  have hD : va_D A ([(oD, .inl (G.2 6, 1, .inr (.inr (.inr (.inl og))))), (o, .inl (G.2 5, 1, .inr (.inl of2_3886)))] ++ (WM ++ (W2_3888 ++ []))) := D_perm hpm_3893 hD
  refine W.eq (g2 := F0 m 543 ls [.int (nI ((o_setBound (dC C) (sx9 xs (i9 + 1)) (sx9 xs (i9 + 2))).1))]) rfl ?_
  have hqs : SimR (o_setBound (dC C) (sx9 xs (i9 + 1)) (sx9 xs (i9 + 2))) (o_setBound (dC M) (sx9 xs (i9 + 1)) (sx9 xs (i9 + 2))) := o_setBound_sim hLw.1 hIc (sx9 xs (i9 + 1)) (sx9 xs (i9 + 2))
  refine lv_istore (lv' := [(6, .int (nI ((o_setBound (dC C) (sx9 xs (i9 + 1)) (sx9 xs (i9 + 2))).1))), (0, .ref b), (1, .ref d), (2, .ref m0), (3, .ref o), (4, .ref oD), (5, .int (nI i9))]) hx hb dL_law_543 hl (by decide) rfl (fun ls hl => ?_)
  refine lv_aload_n hx hb dL_law_545 rfl (lv_at hl 3 rfl) ?_
  refine lv_aload_n hx hb dL_law_546 rfl (lv_at hl 1 rfl) ?_
  refine lv_iload hx hb dL_law_547 (lv_at hl 6 rfl) ?_
  refine lv_iconst (v := nI 1) hx hb dL_law_549 (by decide) ?_
  refine lv_iadd hx hb dL_law_550 ?_
  refine lv_ton (n := i9 + 1) (nadd (by omega)) ?_
  refine va_sld hx hb hX9 hbl hbA hS (i := nI (i9 + 1)) (vp9 (by omega) hL96) dL_law_551 ?_
  refine W.eq (g2 := F0 m 552 ls [.int (sx9 xs (i9 + 1)), .ref m0]) rfl ?_
  refine lv_aload_n hx hb dL_law_552 rfl (lv_at hl 1 rfl) ?_
  refine lv_iload hx hb dL_law_553 (lv_at hl 6 rfl) ?_
  refine lv_iconst (v := nI 2) hx hb dL_law_555 (by decide) ?_
  refine lv_iadd hx hb dL_law_556 ?_
  refine lv_ton (n := i9 + 2) (nadd (by omega)) ?_
  refine va_sld hx hb hX9 hbl hbA hS (i := nI (i9 + 2)) (vp9 (by omega) hL96) dL_law_557 ?_
  refine W.eq (g2 := F0 m 558 ls [.int (sx9 xs (i9 + 2)), .int (sx9 xs (i9 + 1)), .ref m0]) rfl ?_
  have hpm_3894 : (([(oD, .inl (G.2 6, 1, .inr (.inr (.inr (.inl og))))), (o, .inl (G.2 5, 1, .inr (.inl of2_3886)))] ++ (WM ++ (W2_3888 ++ []))) : va_W).Perm ((WM ++ []) ++ ([(oD, .inl (G.2 6, 1, .inr (.inr (.inr (.inl og))))), (o, .inl (G.2 5, 1, .inr (.inl of2_3886)))] ++ (W2_3888 ++ []))) := segs_perm [[(oD, .inl (G.2 6, 1, .inr (.inr (.inr (.inl og)))))], [(o, .inl (G.2 5, 1, .inr (.inl of2_3886)))], WM, W2_3888] [2] [0, 1, 3] rfl
  have hF := hF_ofP (wc := (WM ++ [])) hD hS hA hpm_3894
  refine go_ctP hS hP hD hpm_3894 hF
      (va_runV (As := [.int (sx9 xs (i9 + 1)), .int (sx9 xs (i9 + 2))]) (rest := []) cf (eX4_setBound l G m0 M th WM (sx9 xs (i9 + 1)) (sx9 xs (i9 + 2)) (hMd) (hIm) H.size) (cwV 2 hts (lw_V q1711 q1712 q1713 q58 q1714) rfl rfl rfl (by decide +kernel) ⟨Nat.le_of_ble_eq_true rfl, Nat.le_of_ble_eq_true rfl⟩) (preV_of hKB hE hS hF (MdW.recv hK hMd (seg_at [[(oD, .inl (G.2 6, 1, .inr (.inr (.inr (.inl og)))))], [(o, .inl (G.2 5, 1, .inr (.inl of2_3886)))], WM, W2_3888] 2 rfl hP)) (P_left (P_perm hpm_3894 hP)) ((D_left (D_perm hpm_3894 hD)).weaken (fun _ _ _ _ => trivial)) trivial) rfl rfl hl.1 rfl (lv_room (Nat.le_of_ble_eq_true rfl)) dL_law_558 ⟨show cl + (1 + 101) + 0 ≤ 1200144 from by first | decide | omega, show sl + (6 + 5800) + 0 ≤ 5495674 from by first | decide | omega⟩)
      (fun u_ H locs hq hph (hP : va_P G.1 CL (([(oD, .inl (G.2 6, 1, .inr (.inr (.inr (.inl og))))), (o, .inl (G.2 5, 1, .inr (.inl of2_3886)))] ++ (W2_3888 ++ [])) ++ (u_.2 ++ [])) H) (hD : va_D A (([(oD, .inl (G.2 6, 1, .inr (.inr (.inr (.inl og))))), (o, .inl (G.2 5, 1, .inr (.inl of2_3886)))] ++ (W2_3888 ++ [])) ++ (u_.2 ++ []))) hS hfz hfk => ?_)
  obtain ⟨rr_3895, W2_3896⟩ := u_
  obtain ⟨hq_3897, hq_3898⟩ : ((o_setBound (dC M) (sx9 xs (i9 + 1)) (sx9 xs (i9 + 2))).1 = 0 → rr_3895 = (o_setBound (dC M) (sx9 xs (i9 + 1)) (sx9 xs (i9 + 2))).2.1) ∧ MdW G m0 (if (o_setBound (dC M) (sx9 xs (i9 + 1)) (sx9 xs (i9 + 2))).1 = 0 then (((o_setBound (dC M) (sx9 xs (i9 + 1)) (sx9 xs (i9 + 2))).2.2, dS M, min 6 (dK M + 1), hsR (dH M) (dK M) (dC M), dL M, dN M) : DS) else M) (o_setBound (dC M) (sx9 xs (i9 + 1)) (sx9 xs (i9 + 2))).1 W2_3896 := hq
  have hpm_3899 : (([(oD, .inl (G.2 6, 1, .inr (.inr (.inr (.inl og))))), (o, .inl (G.2 5, 1, .inr (.inl of2_3886)))] ++ (W2_3888 ++ [])) ++ (W2_3896 ++ []) : va_W).Perm ([(oD, .inl (G.2 6, 1, .inr (.inr (.inr (.inl og))))), (o, .inl (G.2 5, 1, .inr (.inl of2_3886)))] ++ (W2_3888 ++ (W2_3896 ++ []))) := segs_perm2 [[(oD, .inl (G.2 6, 1, .inr (.inr (.inr (.inl og)))))], [(o, .inl (G.2 5, 1, .inr (.inl of2_3886)))], W2_3888] [W2_3896] [0, 1, 2, 3] rfl
  have hP : va_P G.1 CL ([(oD, .inl (G.2 6, 1, .inr (.inr (.inr (.inl og))))), (o, .inl (G.2 5, 1, .inr (.inl of2_3886)))] ++ (W2_3888 ++ (W2_3896 ++ []))) H := P_perm hpm_3899 hP
  have hD : va_D A ([(oD, .inl (G.2 6, 1, .inr (.inr (.inr (.inl og))))), (o, .inl (G.2 5, 1, .inr (.inl of2_3886)))] ++ (W2_3888 ++ (W2_3896 ++ []))) := D_perm hpm_3899 hD
  refine W.eq (g2 := F0 m 561 ls [.int rr_3895]) rfl ?_
  refine lv_istore (lv' := [(7, .int rr_3895), (6, .int (nI ((o_setBound (dC C) (sx9 xs (i9 + 1)) (sx9 xs (i9 + 2))).1))), (0, .ref b), (1, .ref d), (2, .ref m0), (3, .ref o), (4, .ref oD), (5, .int (nI i9))]) hx hb dL_law_561 hl (by decide) rfl (fun ls hl => ?_)
  refine lv_aload_n hx hb dL_law_563 rfl (lv_at hl 4 rfl) ?_
  have hpm_3900 : (([(oD, .inl (G.2 6, 1, .inr (.inr (.inr (.inl og))))), (o, .inl (G.2 5, 1, .inr (.inl of2_3886)))] ++ (W2_3888 ++ (W2_3896 ++ []))) : va_W).Perm ([] ++ ([(oD, .inl (G.2 6, 1, .inr (.inr (.inr (.inl og))))), (o, .inl (G.2 5, 1, .inr (.inl of2_3886)))] ++ (W2_3888 ++ (W2_3896 ++ [])))) := segs_perm [[(oD, .inl (G.2 6, 1, .inr (.inr (.inr (.inl og)))))], [(o, .inl (G.2 5, 1, .inr (.inl of2_3886)))], W2_3888, W2_3896] [] [0, 1, 2, 3] rfl
  have hF := hF_ofP (wc := []) hD hS hA hpm_3900
  refine go_ctP hS hP hD hpm_3900 hF
      (va_runV (As := []) (rest := []) cf (eX4_thrown l G m0 (if ((o_setBound (dC M) (sx9 xs (i9 + 1)) (sx9 xs (i9 + 2)))).1 = 0 then ((((o_setBound (dC M) (sx9 xs (i9 + 1)) (sx9 xs (i9 + 2)))).2.2, dS M, min 6 (dK M + 1), hsR (dH M) (dK M) (dC M), dL M, dN M) : DS) else M) (((o_setBound (dC M) (sx9 xs (i9 + 1)) (sx9 xs (i9 + 2)))).1) W2_3896 (hq_3898) H.size) (cwV 0 hts (lw_V q1639 q1640 q1641 q58 q1642) rfl rfl rfl (by decide +kernel) ⟨Nat.le_of_ble_eq_true rfl, Nat.le_of_ble_eq_true rfl⟩) (preV_of hKB hE hS hF (MdW.recv hK hq_3898 (seg_at [[(oD, .inl (G.2 6, 1, .inr (.inr (.inr (.inl og)))))], [(o, .inl (G.2 5, 1, .inr (.inl of2_3886)))], W2_3888, W2_3896] 3 rfl hP)) (P_left (P_perm hpm_3900 hP)) ((D_left (D_perm hpm_3900 hD)).weaken (fun _ _ _ _ => trivial)) (roW.nil (seg_at [[(oD, .inl (G.2 6, 1, .inr (.inr (.inr (.inl og)))))], [(o, .inl (G.2 5, 1, .inr (.inl of2_3886)))], W2_3888, W2_3896] 3 rfl hP))) rfl rfl hl.1 rfl (lv_room (Nat.le_of_ble_eq_true rfl)) dL_law_564 ⟨show cl + (1 + 101) + 0 ≤ 1200144 from by first | decide | omega, show sl + (6 + 5800) + 0 ≤ 5495674 from by first | decide | omega⟩)
      (fun u_ H locs hq hph (hP : va_P G.1 CL (([(oD, .inl (G.2 6, 1, .inr (.inr (.inr (.inl og))))), (o, .inl (G.2 5, 1, .inr (.inl of2_3886)))] ++ (W2_3888 ++ (W2_3896 ++ []))) ++ []) H) (hD : va_D A (([(oD, .inl (G.2 6, 1, .inr (.inr (.inr (.inl og))))), (o, .inl (G.2 5, 1, .inr (.inl of2_3886)))] ++ (W2_3888 ++ (W2_3896 ++ []))) ++ [])) hS hfz hfk => ?_)
  have hpm_3901 : (([(oD, .inl (G.2 6, 1, .inr (.inr (.inr (.inl og))))), (o, .inl (G.2 5, 1, .inr (.inl of2_3886)))] ++ (W2_3888 ++ (W2_3896 ++ []))) ++ [] : va_W).Perm ([(oD, .inl (G.2 6, 1, .inr (.inr (.inr (.inl og))))), (o, .inl (G.2 5, 1, .inr (.inl of2_3886)))] ++ (W2_3888 ++ (W2_3896 ++ []))) := segs_perm2 [[(oD, .inl (G.2 6, 1, .inr (.inr (.inr (.inl og)))))], [(o, .inl (G.2 5, 1, .inr (.inl of2_3886)))], W2_3888, W2_3896] [] [0, 1, 2, 3] rfl
  have hP : va_P G.1 CL ([(oD, .inl (G.2 6, 1, .inr (.inr (.inr (.inl og))))), (o, .inl (G.2 5, 1, .inr (.inl of2_3886)))] ++ (W2_3888 ++ (W2_3896 ++ []))) H := P_perm hpm_3901 hP
  have hD : va_D A ([(oD, .inl (G.2 6, 1, .inr (.inr (.inr (.inl og))))), (o, .inl (G.2 5, 1, .inr (.inl of2_3886)))] ++ (W2_3888 ++ (W2_3896 ++ []))) := D_perm hpm_3901 hD
  refine W.eq (g2 := F0 m 567 ls [.int (nI (((o_setBound (dC M) (sx9 xs (i9 + 1)) (sx9 xs (i9 + 2)))).1))]) rfl ?_
  refine lv_ton (n := ((o_setBound (dC C) (sx9 xs (i9 + 1)) (sx9 xs (i9 + 2))).1)) (congrArg nI hqs.1.symm) ?_
  refine lv_iload hx hb dL_law_567 (lv_at hl 1 rfl) ?_
  refine lv_icmp_eq (tgt := 574) hx hb dL_law_569 (by decide) (fun _ => ?_) (fun c9 => absurd rfl c9)
  refine lv_iload hx hb dL_law_574 (lv_at hl 1 rfl) ?_
  refine n_if_ne (tgt := 591) hx hb (by omega) dL_law_576 (by decide) (fun c_3902 => ?_) (fun c_3902 => ?_)
  · refine lv_goto (tgt := 2788) hx hb dL_law_591 (by decide) ?_
    have hpm_3903 : (([(oD, .inl (G.2 6, 1, .inr (.inr (.inr (.inl og))))), (o, .inl (G.2 5, 1, .inr (.inl of2_3886)))] ++ (W2_3888 ++ (W2_3896 ++ []))) : va_W).Perm (([(o, .inl (G.2 5, 1, .inr (.inl of2_3886))), (oD, .inl (G.2 6, 1, .inr (.inr (.inr (.inl og)))))] ++ (W2_3888 ++ (W2_3896 ++ []))) ++ []) := segs_perm [[(oD, .inl (G.2 6, 1, .inr (.inr (.inr (.inl og)))))], [(o, .inl (G.2 5, 1, .inr (.inl of2_3886)))], W2_3888, W2_3896] [1, 0, 2, 3] [] rfl
    have hP : va_P G.1 CL ([(o, .inl (G.2 5, 1, .inr (.inl of2_3886))), (oD, .inl (G.2 6, 1, .inr (.inr (.inr (.inl og)))))] ++ (W2_3888 ++ (W2_3896 ++ []))) H := P_left (P_perm hpm_3903 hP)
    have hD : va_D A ([(o, .inl (G.2 5, 1, .inr (.inl of2_3886))), (oD, .inl (G.2 6, 1, .inr (.inr (.inr (.inl og)))))] ++ (W2_3888 ++ (W2_3896 ++ []))) := D_left (D_perm hpm_3903 hD)
    have hl := lv_sub hl [2, 3, 4, 5, 6, 7] (l' := [(0, .ref b), (1, .ref d), (2, .ref m0), (3, .ref o), (4, .ref oD), (5, .int (nI i9))]) rfl
    exact W.widen (show cl + (1 + 101) ≤ cl + 20000 from by omega) (show sl + (6 + 5800) ≤ sl + 45000 from by omega) (kk ls H locs S2_3887 (if ((o_setBound (dC M) (sx9 xs (i9 + 1)) (sx9 xs (i9 + 2)))).1 = 0 then ((((o_setBound (dC M) (sx9 xs (i9 + 1)) (sx9 xs (i9 + 2)))).2.2, dS M, min 6 (dK M + 1), hsR (dH M) (dK M) (dC M), dL M, dN M) : DS) else M) (((o_setBound (dC M) (sx9 xs (i9 + 1)) (sx9 xs (i9 + 2)))).1) W2_3888 W2_3896 of2_3886 og hP hD hS hl hq_3892 hq_3898 (hLw.mut hqs hq_3890 (o_setBound_b (dC C) (sx9 xs (i9 + 1)) (sx9 xs (i9 + 2)))))
  · refine lv_aload_n hx hb dL_law_579 rfl (lv_at hl 5 rfl) ?_
    refine lv_iconst (v := nI 0) hx hb dL_law_580 (by decide) ?_
    refine r_lald (v := (((o_setBound (dC C) (sx9 xs (i9 + 1)) (sx9 xs (i9 + 2)))).2.1).toInt64) hx hb hK hP 1 5 rfl rfl (i := 0) (by omega) (by omega) ((hq_3889 (by omega))) dL_law_581 ?_
    refine lv_iload hx hb dL_law_582 (lv_at hl 0 rfl) ?_
    refine lv_toi (y := ((o_setBound (dC C) (sx9 xs (i9 + 1)) (sx9 xs (i9 + 2)))).2.1) ((hq_3897 (hqs.1.symm.trans (by omega))).trans hqs.2.1.symm) ?_
    refine lv_i2l (v := (((o_setBound (dC C) (sx9 xs (i9 + 1)) (sx9 xs (i9 + 2)))).2.1).toInt64) hx hb dL_law_584 rfl ?_
    refine W.lcmp hx hb dL_law_585 ?_
    refine lv_ton (n := 0) (lcmp0 _) ?_
    refine n_if_eq (tgt := 591) hx hb (by omega) dL_law_586 (by decide) (fun c_3904 => ?_) (fun c_3904 => absurd c_3904 (by omega))
    refine lv_goto (tgt := 2788) hx hb dL_law_591 (by decide) ?_
    have hpm_3905 : (([(oD, .inl (G.2 6, 1, .inr (.inr (.inr (.inl og))))), (o, .inl (G.2 5, 1, .inr (.inl of2_3886)))] ++ (W2_3888 ++ (W2_3896 ++ []))) : va_W).Perm (([(o, .inl (G.2 5, 1, .inr (.inl of2_3886))), (oD, .inl (G.2 6, 1, .inr (.inr (.inr (.inl og)))))] ++ (W2_3888 ++ (W2_3896 ++ []))) ++ []) := segs_perm [[(oD, .inl (G.2 6, 1, .inr (.inr (.inr (.inl og)))))], [(o, .inl (G.2 5, 1, .inr (.inl of2_3886)))], W2_3888, W2_3896] [1, 0, 2, 3] [] rfl
    have hP : va_P G.1 CL ([(o, .inl (G.2 5, 1, .inr (.inl of2_3886))), (oD, .inl (G.2 6, 1, .inr (.inr (.inr (.inl og)))))] ++ (W2_3888 ++ (W2_3896 ++ []))) H := P_left (P_perm hpm_3905 hP)
    have hD : va_D A ([(o, .inl (G.2 5, 1, .inr (.inl of2_3886))), (oD, .inl (G.2 6, 1, .inr (.inr (.inr (.inl og)))))] ++ (W2_3888 ++ (W2_3896 ++ []))) := D_left (D_perm hpm_3905 hD)
    have hl := lv_sub hl [2, 3, 4, 5, 6, 7] (l' := [(0, .ref b), (1, .ref d), (2, .ref m0), (3, .ref o), (4, .ref oD), (5, .int (nI i9))]) rfl
    exact W.widen (show cl + (1 + 101) ≤ cl + 20000 from by omega) (show sl + (6 + 5800) ≤ sl + 45000 from by omega) (kk ls H locs S2_3887 (if ((o_setBound (dC M) (sx9 xs (i9 + 1)) (sx9 xs (i9 + 2)))).1 = 0 then ((((o_setBound (dC M) (sx9 xs (i9 + 1)) (sx9 xs (i9 + 2)))).2.2, dS M, min 6 (dK M + 1), hsR (dH M) (dK M) (dC M), dL M, dN M) : DS) else M) (((o_setBound (dC M) (sx9 xs (i9 + 1)) (sx9 xs (i9 + 2)))).1) W2_3888 W2_3896 of2_3886 og hP hD hS hl hq_3892 hq_3898 (hLw.mut hqs hq_3890 (o_setBound_b (dC C) (sx9 xs (i9 + 1)) (sx9 xs (i9 + 2)))))

set_option maxHeartbeats 4000000 in
theorem lawK_7 {p : Program} {l : Launch} {e : Env} {s : State} {m : MethodId} {below : List Frame} {meth : Method} {c : Code} {G : Gt} {A : Nat → Prop} {b L : Nat} {xs : Nat → Int32} {Q : State → Prop} {d m0 o oD i9 N cl sl : Nat} (hfl : l.stackTraces = false) (F : LwF G A p s m c b L xs) (hi9 : i9 + 4 ≤ L) (hN24 : N ≤ 24) (hcl : cl + 20000 ≤ 1200144) (hsl : sl + 45000 ≤ 5495674) (kk : ∀ (ls : Array Slot) (H : Heap) (locs : List Loc) (C M : DS) (th : Nat) (WD WM : va_W) (of : Nat → Int64) (og : Nat → UInt64), va_P G.1 CL ([(o, .inl (G.2 5, 1, .inr (.inl of))), (oD, .inl (G.2 6, 1, .inr (.inr (.inr (.inl og)))))] ++ (WD ++ (WM ++ []))) H → va_D A ([(o, .inl (G.2 5, 1, .inr (.inl of))), (oD, .inl (G.2 6, 1, .inr (.inr (.inr (.inl og)))))] ++ (WD ++ (WM ++ []))) → va_S A s.heap H locs → lv_has ls 10 [(0, .ref b), (1, .ref d), (2, .ref m0), (3, .ref o), (4, .ref oD), (5, .int (nI i9))] → DyW G d C WD → MdW G m0 M th WM → LawI C M (N + 1) → W p l e room_1 s m #[Value.ref b] below meth c H locs (cl + 20000) (sl + 45000) Q (F0 m 2788 ls [])) {ls : Array Slot} {H : Heap} {locs : List Loc} {C M : DS} {th : Nat} {WD WM : va_W} {of : Nat → Int64} {og : Nat → UInt64} (hP : va_P G.1 CL ([(o, .inl (G.2 5, 1, .inr (.inl of))), (oD, .inl (G.2 6, 1, .inr (.inr (.inr (.inl og)))))] ++ (WD ++ (WM ++ []))) H) (hD : va_D A ([(o, .inl (G.2 5, 1, .inr (.inl of))), (oD, .inl (G.2 6, 1, .inr (.inr (.inr (.inl og)))))] ++ (WD ++ (WM ++ [])))) (hS : va_S A s.heap H locs) (hl : lv_has ls 10 [(0, .ref b), (1, .ref d), (2, .ref m0), (3, .ref o), (4, .ref oD), (5, .int (nI i9))]) (hDy : DyW G d C WD) (hMd : MdW G m0 M th WM) (hLw : LawI C M N) : W p l e room_1 s m #[Value.ref b] below meth c H locs cl sl Q (F0 m 594 ls []) := by
  obtain ⟨cf, hKB, hE, hA, hX9, hbl, hbA, hNc, hL96⟩ := F
  have hx := cf.1
  have hb := cf.2.1
  have hml := cf.2.2.1
  have hown : s.vm.findClass RX0 = some m.cls := cf.2.2.2.1
  have hts := cf.2.2.2.2
  have hK := hKB.1
  have hIc := hDy.inv.1
  have hIm : Inv (dC M) := Inv_sim hLw.1 hIc
  have hRk : RkOk (dC M) := RkOk_sim hLw.1 (RkOk_srt hDy.inv.2.2)
  have hl := hl
  refine lv_aload_n hx hb dL_law_594 rfl (lv_at hl 1 rfl) ?_
  refine lv_aload_n hx hb dL_law_595 rfl (lv_at hl 0 rfl) ?_
  refine lv_iload hx hb dL_law_596 (lv_at hl 5 rfl) ?_
  refine lv_iconst (v := nI 1) hx hb dL_law_598 (by decide) ?_
  refine lv_iadd hx hb dL_law_599 ?_
  refine lv_ton (n := i9 + 1) (nadd (by omega)) ?_
  refine va_sld hx hb hX9 hbl hbA hS (i := nI (i9 + 1)) (vp9 (by omega) hL96) dL_law_600 ?_
  refine W.eq (g2 := F0 m 601 ls [.int (sx9 xs (i9 + 1)), .ref d]) rfl ?_
  refine lv_aload_n hx hb dL_law_601 rfl (lv_at hl 3 rfl) ?_
  have hpm_3906 : (([(o, .inl (G.2 5, 1, .inr (.inl of))), (oD, .inl (G.2 6, 1, .inr (.inr (.inr (.inl og)))))] ++ (WD ++ (WM ++ []))) : va_W).Perm (([(o, .inl (G.2 5, 1, .inr (.inl of)))] ++ (WD ++ [])) ++ ([(oD, .inl (G.2 6, 1, .inr (.inr (.inr (.inl og)))))] ++ (WM ++ []))) := segs_perm [[(o, .inl (G.2 5, 1, .inr (.inl of)))], [(oD, .inl (G.2 6, 1, .inr (.inr (.inr (.inl og)))))], WD, WM] [0, 2] [1, 3] rfl
  have hF := hF_ofP (wc := ([(o, .inl (G.2 5, 1, .inr (.inl of)))] ++ (WD ++ []))) hD hS hA hpm_3906
  refine go_ctP hS hP hD hpm_3906 hF
      (vx_runSW (As := [.ref d, .int (sx9 xs (i9 + 1)), .ref o]) (rest := []) cf (wX0_boundOf l G d C WD o of (sx9 xs (i9 + 1)) (hDy) hfl H.size) (vx_cwSW 3 hts (lw_SW q1056 q1057 q46 q1058) rfl rfl rfl (by decide +kernel) ⟨Nat.le_of_ble_eq_true rfl, Nat.le_of_ble_eq_true rfl⟩) (preS_ofW hNc hKB hE hS hF (P_left (P_perm hpm_3906 hP)) ((D_left (D_perm hpm_3906 hD)).weaken (fun _ _ _ _ => trivial)) trivial) rfl rfl hl.1 rfl (lv_room (Nat.le_of_ble_eq_true rfl)) dL_law_602 ⟨show cl + 2 ≤ 1200144 from by first | decide | omega, show sl + 8 ≤ 5495674 from by first | decide | omega⟩)
      (fun u_ H locs hq hph (hP : va_P G.1 CL (([(oD, .inl (G.2 6, 1, .inr (.inr (.inr (.inl og)))))] ++ (WM ++ [])) ++ ([(o, .inl (G.2 5, 1, .inr (.inl u_.1)))] ++ (u_.2 ++ []))) H) (hD : va_D A (([(oD, .inl (G.2 6, 1, .inr (.inr (.inr (.inl og)))))] ++ (WM ++ [])) ++ ([(o, .inl (G.2 5, 1, .inr (.inl u_.1)))] ++ (u_.2 ++ [])))) hS hfz hfk => ?_)
  obtain ⟨of2_3907, W2_3908⟩ := u_
  obtain ⟨hq_3909, hq_3910, hq_3911⟩ : ((q_bound (dC C) (sx9 xs (i9 + 1))).1 = 0 → of2_3907 0 = ((q_bound (dC C) (sx9 xs (i9 + 1))).2).toInt64) ∧ (q_bound (dC C) (sx9 xs (i9 + 1))).1 < 10 ∧ DyW G d C W2_3908 := hq
  have hpm_3912 : (([(oD, .inl (G.2 6, 1, .inr (.inr (.inr (.inl og)))))] ++ (WM ++ [])) ++ ([(o, .inl (G.2 5, 1, .inr (.inl of2_3907)))] ++ (W2_3908 ++ [])) : va_W).Perm ([(oD, .inl (G.2 6, 1, .inr (.inr (.inr (.inl og))))), (o, .inl (G.2 5, 1, .inr (.inl of2_3907)))] ++ (WM ++ (W2_3908 ++ []))) := segs_perm2 [[(oD, .inl (G.2 6, 1, .inr (.inr (.inr (.inl og)))))], WM] [[(o, .inl (G.2 5, 1, .inr (.inl of2_3907)))], W2_3908] [0, 2, 1, 3] rfl
  have hP : va_P G.1 CL ([(oD, .inl (G.2 6, 1, .inr (.inr (.inr (.inl og))))), (o, .inl (G.2 5, 1, .inr (.inl of2_3907)))] ++ (WM ++ (W2_3908 ++ []))) H := P_perm hpm_3912 hP
  have hD : va_D A ([(oD, .inl (G.2 6, 1, .inr (.inr (.inr (.inl og))))), (o, .inl (G.2 5, 1, .inr (.inl of2_3907)))] ++ (WM ++ (W2_3908 ++ []))) := D_perm hpm_3912 hD
  refine W.eq (g2 := F0 m 605 ls [.int (nI ((q_bound (dC C) (sx9 xs (i9 + 1))).1))]) rfl ?_
  have hqs : (q_bound (dC M) (sx9 xs (i9 + 1))) = (q_bound (dC C) (sx9 xs (i9 + 1))) := q_bound_sim hLw.1.symm hIm (sx9 xs (i9 + 1))
  refine lv_istore (lv' := [(6, .int (nI ((q_bound (dC C) (sx9 xs (i9 + 1))).1))), (0, .ref b), (1, .ref d), (2, .ref m0), (3, .ref o), (4, .ref oD), (5, .int (nI i9))]) hx hb dL_law_605 hl (by decide) rfl (fun ls hl => ?_)
  refine lv_aload_n hx hb dL_law_607 rfl (lv_at hl 3 rfl) ?_
  refine lv_aload_n hx hb dL_law_608 rfl (lv_at hl 1 rfl) ?_
  refine lv_iload hx hb dL_law_609 (lv_at hl 6 rfl) ?_
  refine lv_iconst (v := nI 1) hx hb dL_law_611 (by decide) ?_
  refine lv_iadd hx hb dL_law_612 ?_
  refine lv_ton (n := i9 + 1) (nadd (by omega)) ?_
  refine va_sld hx hb hX9 hbl hbA hS (i := nI (i9 + 1)) (vp9 (by omega) hL96) dL_law_613 ?_
  refine W.eq (g2 := F0 m 614 ls [.int (sx9 xs (i9 + 1)), .ref m0]) rfl ?_
  have hpm_3913 : (([(oD, .inl (G.2 6, 1, .inr (.inr (.inr (.inl og))))), (o, .inl (G.2 5, 1, .inr (.inl of2_3907)))] ++ (WM ++ (W2_3908 ++ []))) : va_W).Perm ((WM ++ []) ++ ([(oD, .inl (G.2 6, 1, .inr (.inr (.inr (.inl og))))), (o, .inl (G.2 5, 1, .inr (.inl of2_3907)))] ++ (W2_3908 ++ []))) := segs_perm [[(oD, .inl (G.2 6, 1, .inr (.inr (.inr (.inl og)))))], [(o, .inl (G.2 5, 1, .inr (.inl of2_3907)))], WM, W2_3908] [2] [0, 1, 3] rfl
  have hF := hF_ofP (wc := (WM ++ [])) hD hS hA hpm_3913
  refine go_ctP hS hP hD hpm_3913 hF
      (va_runV (As := [.int (sx9 xs (i9 + 1))]) (rest := []) cf (eX4_boundOf l G m0 M th WM (sx9 xs (i9 + 1)) (hMd) (hIm) H.size) (cwV 1 hts (lw_V q1715 q1716 q1717 q58 q1718) rfl rfl rfl (by decide +kernel) ⟨Nat.le_of_ble_eq_true rfl, Nat.le_of_ble_eq_true rfl⟩) (preV_of hKB hE hS hF (MdW.recv hK hMd (seg_at [[(oD, .inl (G.2 6, 1, .inr (.inr (.inr (.inl og)))))], [(o, .inl (G.2 5, 1, .inr (.inl of2_3907)))], WM, W2_3908] 2 rfl hP)) (P_left (P_perm hpm_3913 hP)) ((D_left (D_perm hpm_3913 hD)).weaken (fun _ _ _ _ => trivial)) trivial) rfl rfl hl.1 rfl (lv_room (Nat.le_of_ble_eq_true rfl)) dL_law_614 ⟨show cl + 2 + 0 ≤ 1200144 from by first | decide | omega, show sl + 8 + 0 ≤ 5495674 from by first | decide | omega⟩)
      (fun u_ H locs hq hph (hP : va_P G.1 CL (([(oD, .inl (G.2 6, 1, .inr (.inr (.inr (.inl og))))), (o, .inl (G.2 5, 1, .inr (.inl of2_3907)))] ++ (W2_3908 ++ [])) ++ (u_.2 ++ [])) H) (hD : va_D A (([(oD, .inl (G.2 6, 1, .inr (.inr (.inr (.inl og))))), (o, .inl (G.2 5, 1, .inr (.inl of2_3907)))] ++ (W2_3908 ++ [])) ++ (u_.2 ++ []))) hS hfz hfk => ?_)
  obtain ⟨rr_3914, W2_3915⟩ := u_
  obtain ⟨hq_3916, hq_3917⟩ : ((q_bound (dC M) (sx9 xs (i9 + 1))).1 = 0 → rr_3914 = (q_bound (dC M) (sx9 xs (i9 + 1))).2) ∧ MdW G m0 M (q_bound (dC M) (sx9 xs (i9 + 1))).1 W2_3915 := hq
  have hpm_3918 : (([(oD, .inl (G.2 6, 1, .inr (.inr (.inr (.inl og))))), (o, .inl (G.2 5, 1, .inr (.inl of2_3907)))] ++ (W2_3908 ++ [])) ++ (W2_3915 ++ []) : va_W).Perm ([(oD, .inl (G.2 6, 1, .inr (.inr (.inr (.inl og))))), (o, .inl (G.2 5, 1, .inr (.inl of2_3907)))] ++ (W2_3908 ++ (W2_3915 ++ []))) := segs_perm2 [[(oD, .inl (G.2 6, 1, .inr (.inr (.inr (.inl og)))))], [(o, .inl (G.2 5, 1, .inr (.inl of2_3907)))], W2_3908] [W2_3915] [0, 1, 2, 3] rfl
  have hP : va_P G.1 CL ([(oD, .inl (G.2 6, 1, .inr (.inr (.inr (.inl og))))), (o, .inl (G.2 5, 1, .inr (.inl of2_3907)))] ++ (W2_3908 ++ (W2_3915 ++ []))) H := P_perm hpm_3918 hP
  have hD : va_D A ([(oD, .inl (G.2 6, 1, .inr (.inr (.inr (.inl og))))), (o, .inl (G.2 5, 1, .inr (.inl of2_3907)))] ++ (W2_3908 ++ (W2_3915 ++ []))) := D_perm hpm_3918 hD
  refine W.eq (g2 := F0 m 617 ls [.int rr_3914]) rfl ?_
  refine lv_istore (lv' := [(7, .int rr_3914), (6, .int (nI ((q_bound (dC C) (sx9 xs (i9 + 1))).1))), (0, .ref b), (1, .ref d), (2, .ref m0), (3, .ref o), (4, .ref oD), (5, .int (nI i9))]) hx hb dL_law_617 hl (by decide) rfl (fun ls hl => ?_)
  refine lv_aload_n hx hb dL_law_619 rfl (lv_at hl 4 rfl) ?_
  have hpm_3919 : (([(oD, .inl (G.2 6, 1, .inr (.inr (.inr (.inl og))))), (o, .inl (G.2 5, 1, .inr (.inl of2_3907)))] ++ (W2_3908 ++ (W2_3915 ++ []))) : va_W).Perm ([] ++ ([(oD, .inl (G.2 6, 1, .inr (.inr (.inr (.inl og))))), (o, .inl (G.2 5, 1, .inr (.inl of2_3907)))] ++ (W2_3908 ++ (W2_3915 ++ [])))) := segs_perm [[(oD, .inl (G.2 6, 1, .inr (.inr (.inr (.inl og)))))], [(o, .inl (G.2 5, 1, .inr (.inl of2_3907)))], W2_3908, W2_3915] [] [0, 1, 2, 3] rfl
  have hF := hF_ofP (wc := []) hD hS hA hpm_3919
  refine go_ctP hS hP hD hpm_3919 hF
      (va_runV (As := []) (rest := []) cf (eX4_thrown l G m0 M (((q_bound (dC M) (sx9 xs (i9 + 1)))).1) W2_3915 (hq_3917) H.size) (cwV 0 hts (lw_V q1639 q1640 q1641 q58 q1642) rfl rfl rfl (by decide +kernel) ⟨Nat.le_of_ble_eq_true rfl, Nat.le_of_ble_eq_true rfl⟩) (preV_of hKB hE hS hF (MdW.recv hK hq_3917 (seg_at [[(oD, .inl (G.2 6, 1, .inr (.inr (.inr (.inl og)))))], [(o, .inl (G.2 5, 1, .inr (.inl of2_3907)))], W2_3908, W2_3915] 3 rfl hP)) (P_left (P_perm hpm_3919 hP)) ((D_left (D_perm hpm_3919 hD)).weaken (fun _ _ _ _ => trivial)) (roW.nil (seg_at [[(oD, .inl (G.2 6, 1, .inr (.inr (.inr (.inl og)))))], [(o, .inl (G.2 5, 1, .inr (.inl of2_3907)))], W2_3908, W2_3915] 3 rfl hP))) rfl rfl hl.1 rfl (lv_room (Nat.le_of_ble_eq_true rfl)) dL_law_620 ⟨show cl + 2 + 0 ≤ 1200144 from by first | decide | omega, show sl + 8 + 0 ≤ 5495674 from by first | decide | omega⟩)
      (fun u_ H locs hq hph (hP : va_P G.1 CL (([(oD, .inl (G.2 6, 1, .inr (.inr (.inr (.inl og))))), (o, .inl (G.2 5, 1, .inr (.inl of2_3907)))] ++ (W2_3908 ++ (W2_3915 ++ []))) ++ []) H) (hD : va_D A (([(oD, .inl (G.2 6, 1, .inr (.inr (.inr (.inl og))))), (o, .inl (G.2 5, 1, .inr (.inl of2_3907)))] ++ (W2_3908 ++ (W2_3915 ++ []))) ++ [])) hS hfz hfk => ?_)
  have hpm_3920 : (([(oD, .inl (G.2 6, 1, .inr (.inr (.inr (.inl og))))), (o, .inl (G.2 5, 1, .inr (.inl of2_3907)))] ++ (W2_3908 ++ (W2_3915 ++ []))) ++ [] : va_W).Perm ([(oD, .inl (G.2 6, 1, .inr (.inr (.inr (.inl og))))), (o, .inl (G.2 5, 1, .inr (.inl of2_3907)))] ++ (W2_3908 ++ (W2_3915 ++ []))) := segs_perm2 [[(oD, .inl (G.2 6, 1, .inr (.inr (.inr (.inl og)))))], [(o, .inl (G.2 5, 1, .inr (.inl of2_3907)))], W2_3908, W2_3915] [] [0, 1, 2, 3] rfl
  have hP : va_P G.1 CL ([(oD, .inl (G.2 6, 1, .inr (.inr (.inr (.inl og))))), (o, .inl (G.2 5, 1, .inr (.inl of2_3907)))] ++ (W2_3908 ++ (W2_3915 ++ []))) H := P_perm hpm_3920 hP
  have hD : va_D A ([(oD, .inl (G.2 6, 1, .inr (.inr (.inr (.inl og))))), (o, .inl (G.2 5, 1, .inr (.inl of2_3907)))] ++ (W2_3908 ++ (W2_3915 ++ []))) := D_perm hpm_3920 hD
  refine W.eq (g2 := F0 m 623 ls [.int (nI (((q_bound (dC M) (sx9 xs (i9 + 1)))).1))]) rfl ?_
  refine lv_ton (n := ((q_bound (dC C) (sx9 xs (i9 + 1))).1)) (congrArg nI (by rw [hqs])) ?_
  refine lv_iload hx hb dL_law_623 (lv_at hl 1 rfl) ?_
  refine lv_icmp_eq (tgt := 630) hx hb dL_law_625 (by decide) (fun _ => ?_) (fun c9 => absurd rfl c9)
  refine lv_iload hx hb dL_law_630 (lv_at hl 1 rfl) ?_
  refine n_if_ne (tgt := 647) hx hb (by omega) dL_law_632 (by decide) (fun c_3921 => ?_) (fun c_3921 => ?_)
  · refine lv_goto (tgt := 2788) hx hb dL_law_647 (by decide) ?_
    have hpm_3922 : (([(oD, .inl (G.2 6, 1, .inr (.inr (.inr (.inl og))))), (o, .inl (G.2 5, 1, .inr (.inl of2_3907)))] ++ (W2_3908 ++ (W2_3915 ++ []))) : va_W).Perm (([(o, .inl (G.2 5, 1, .inr (.inl of2_3907))), (oD, .inl (G.2 6, 1, .inr (.inr (.inr (.inl og)))))] ++ (W2_3908 ++ (W2_3915 ++ []))) ++ []) := segs_perm [[(oD, .inl (G.2 6, 1, .inr (.inr (.inr (.inl og)))))], [(o, .inl (G.2 5, 1, .inr (.inl of2_3907)))], W2_3908, W2_3915] [1, 0, 2, 3] [] rfl
    have hP : va_P G.1 CL ([(o, .inl (G.2 5, 1, .inr (.inl of2_3907))), (oD, .inl (G.2 6, 1, .inr (.inr (.inr (.inl og)))))] ++ (W2_3908 ++ (W2_3915 ++ []))) H := P_left (P_perm hpm_3922 hP)
    have hD : va_D A ([(o, .inl (G.2 5, 1, .inr (.inl of2_3907))), (oD, .inl (G.2 6, 1, .inr (.inr (.inr (.inl og)))))] ++ (W2_3908 ++ (W2_3915 ++ []))) := D_left (D_perm hpm_3922 hD)
    have hl := lv_sub hl [2, 3, 4, 5, 6, 7] (l' := [(0, .ref b), (1, .ref d), (2, .ref m0), (3, .ref o), (4, .ref oD), (5, .int (nI i9))]) rfl
    exact W.widen (show cl + 2 ≤ cl + 20000 from by omega) (show sl + 8 ≤ sl + 45000 from by omega) (kk ls H locs C M (((q_bound (dC M) (sx9 xs (i9 + 1)))).1) W2_3908 W2_3915 of2_3907 og hP hD hS hl hq_3911 hq_3917 hLw.up)
  · refine lv_aload_n hx hb dL_law_635 rfl (lv_at hl 5 rfl) ?_
    refine lv_iconst (v := nI 0) hx hb dL_law_636 (by decide) ?_
    refine r_lald (v := (((q_bound (dC C) (sx9 xs (i9 + 1)))).2).toInt64) hx hb hK hP 1 5 rfl rfl (i := 0) (by omega) (by omega) ((hq_3909 (by omega))) dL_law_637 ?_
    refine lv_iload hx hb dL_law_638 (lv_at hl 0 rfl) ?_
    refine lv_toi (y := ((q_bound (dC C) (sx9 xs (i9 + 1)))).2) ((hq_3916 (by rw [hqs]; omega)).trans (by rw [hqs])) ?_
    refine lv_i2l (v := (((q_bound (dC C) (sx9 xs (i9 + 1)))).2).toInt64) hx hb dL_law_640 rfl ?_
    refine W.lcmp hx hb dL_law_641 ?_
    refine lv_ton (n := 0) (lcmp0 _) ?_
    refine n_if_eq (tgt := 647) hx hb (by omega) dL_law_642 (by decide) (fun c_3923 => ?_) (fun c_3923 => absurd c_3923 (by omega))
    refine lv_goto (tgt := 2788) hx hb dL_law_647 (by decide) ?_
    have hpm_3924 : (([(oD, .inl (G.2 6, 1, .inr (.inr (.inr (.inl og))))), (o, .inl (G.2 5, 1, .inr (.inl of2_3907)))] ++ (W2_3908 ++ (W2_3915 ++ []))) : va_W).Perm (([(o, .inl (G.2 5, 1, .inr (.inl of2_3907))), (oD, .inl (G.2 6, 1, .inr (.inr (.inr (.inl og)))))] ++ (W2_3908 ++ (W2_3915 ++ []))) ++ []) := segs_perm [[(oD, .inl (G.2 6, 1, .inr (.inr (.inr (.inl og)))))], [(o, .inl (G.2 5, 1, .inr (.inl of2_3907)))], W2_3908, W2_3915] [1, 0, 2, 3] [] rfl
    have hP : va_P G.1 CL ([(o, .inl (G.2 5, 1, .inr (.inl of2_3907))), (oD, .inl (G.2 6, 1, .inr (.inr (.inr (.inl og)))))] ++ (W2_3908 ++ (W2_3915 ++ []))) H := P_left (P_perm hpm_3924 hP)
    have hD : va_D A ([(o, .inl (G.2 5, 1, .inr (.inl of2_3907))), (oD, .inl (G.2 6, 1, .inr (.inr (.inr (.inl og)))))] ++ (W2_3908 ++ (W2_3915 ++ []))) := D_left (D_perm hpm_3924 hD)
    have hl := lv_sub hl [2, 3, 4, 5, 6, 7] (l' := [(0, .ref b), (1, .ref d), (2, .ref m0), (3, .ref o), (4, .ref oD), (5, .int (nI i9))]) rfl
    exact W.widen (show cl + 2 ≤ cl + 20000 from by omega) (show sl + 8 ≤ sl + 45000 from by omega) (kk ls H locs C M (((q_bound (dC M) (sx9 xs (i9 + 1)))).1) W2_3908 W2_3915 of2_3907 og hP hD hS hl hq_3911 hq_3917 hLw.up)

set_option maxHeartbeats 4000000 in
theorem lawK_8 {p : Program} {l : Launch} {e : Env} {s : State} {m : MethodId} {below : List Frame} {meth : Method} {c : Code} {G : Gt} {A : Nat → Prop} {b L : Nat} {xs : Nat → Int32} {Q : State → Prop} {d m0 o oD i9 N cl sl : Nat} (hfl : l.stackTraces = false) (F : LwF G A p s m c b L xs) (hi9 : i9 + 4 ≤ L) (hN24 : N ≤ 24) (hcl : cl + 20000 ≤ 1200144) (hsl : sl + 45000 ≤ 5495674) (kk : ∀ (ls : Array Slot) (H : Heap) (locs : List Loc) (C M : DS) (th : Nat) (WD WM : va_W) (of : Nat → Int64) (og : Nat → UInt64), va_P G.1 CL ([(o, .inl (G.2 5, 1, .inr (.inl of))), (oD, .inl (G.2 6, 1, .inr (.inr (.inr (.inl og)))))] ++ (WD ++ (WM ++ []))) H → va_D A ([(o, .inl (G.2 5, 1, .inr (.inl of))), (oD, .inl (G.2 6, 1, .inr (.inr (.inr (.inl og)))))] ++ (WD ++ (WM ++ []))) → va_S A s.heap H locs → lv_has ls 10 [(0, .ref b), (1, .ref d), (2, .ref m0), (3, .ref o), (4, .ref oD), (5, .int (nI i9))] → DyW G d C WD → MdW G m0 M th WM → LawI C M (N + 1) → W p l e room_1 s m #[Value.ref b] below meth c H locs (cl + 20000) (sl + 45000) Q (F0 m 2788 ls [])) {ls : Array Slot} {H : Heap} {locs : List Loc} {C M : DS} {th : Nat} {WD WM : va_W} {of : Nat → Int64} {og : Nat → UInt64} (hP : va_P G.1 CL ([(o, .inl (G.2 5, 1, .inr (.inl of))), (oD, .inl (G.2 6, 1, .inr (.inr (.inr (.inl og)))))] ++ (WD ++ (WM ++ []))) H) (hD : va_D A ([(o, .inl (G.2 5, 1, .inr (.inl of))), (oD, .inl (G.2 6, 1, .inr (.inr (.inr (.inl og)))))] ++ (WD ++ (WM ++ [])))) (hS : va_S A s.heap H locs) (hl : lv_has ls 10 [(0, .ref b), (1, .ref d), (2, .ref m0), (3, .ref o), (4, .ref oD), (5, .int (nI i9))]) (hDy : DyW G d C WD) (hMd : MdW G m0 M th WM) (hLw : LawI C M N) : W p l e room_1 s m #[Value.ref b] below meth c H locs cl sl Q (F0 m 650 ls []) := by
  obtain ⟨cf, hKB, hE, hA, hX9, hbl, hbA, hNc, hL96⟩ := F
  have hx := cf.1
  have hb := cf.2.1
  have hml := cf.2.2.1
  have hown : s.vm.findClass RX0 = some m.cls := cf.2.2.2.1
  have hts := cf.2.2.2.2
  have hK := hKB.1
  have hIc := hDy.inv.1
  have hIm : Inv (dC M) := Inv_sim hLw.1 hIc
  have hRk : RkOk (dC M) := RkOk_sim hLw.1 (RkOk_srt hDy.inv.2.2)
  have hl := hl
  refine lv_aload_n hx hb dL_law_650 rfl (lv_at hl 1 rfl) ?_
  refine lv_aload_n hx hb dL_law_651 rfl (lv_at hl 0 rfl) ?_
  refine lv_iload hx hb dL_law_652 (lv_at hl 5 rfl) ?_
  refine lv_iconst (v := nI 1) hx hb dL_law_654 (by decide) ?_
  refine lv_iadd hx hb dL_law_655 ?_
  refine lv_ton (n := i9 + 1) (nadd (by omega)) ?_
  refine va_sld hx hb hX9 hbl hbA hS (i := nI (i9 + 1)) (vp9 (by omega) hL96) dL_law_656 ?_
  refine W.eq (g2 := F0 m 657 ls [.int (sx9 xs (i9 + 1)), .ref d]) rfl ?_
  refine lv_aload_n hx hb dL_law_657 rfl (lv_at hl 0 rfl) ?_
  refine lv_iload hx hb dL_law_658 (lv_at hl 5 rfl) ?_
  refine lv_iconst (v := nI 2) hx hb dL_law_660 (by decide) ?_
  refine lv_iadd hx hb dL_law_661 ?_
  refine lv_ton (n := i9 + 2) (nadd (by omega)) ?_
  refine va_sld hx hb hX9 hbl hbA hS (i := nI (i9 + 2)) (vp9 (by omega) hL96) dL_law_662 ?_
  refine W.eq (g2 := F0 m 663 ls [.int (sx9 xs (i9 + 2)), .int (sx9 xs (i9 + 1)), .ref d]) rfl ?_
  refine lv_aload_n hx hb dL_law_663 rfl (lv_at hl 3 rfl) ?_
  have hpm_3925 : (([(o, .inl (G.2 5, 1, .inr (.inl of))), (oD, .inl (G.2 6, 1, .inr (.inr (.inr (.inl og)))))] ++ (WD ++ (WM ++ []))) : va_W).Perm (([(o, .inl (G.2 5, 1, .inr (.inl of)))] ++ (WD ++ [])) ++ ([(oD, .inl (G.2 6, 1, .inr (.inr (.inr (.inl og)))))] ++ (WM ++ []))) := segs_perm [[(o, .inl (G.2 5, 1, .inr (.inl of)))], [(oD, .inl (G.2 6, 1, .inr (.inr (.inr (.inl og)))))], WD, WM] [0, 2] [1, 3] rfl
  have hF := hF_ofP (wc := ([(o, .inl (G.2 5, 1, .inr (.inl of)))] ++ (WD ++ []))) hD hS hA hpm_3925
  refine go_ctP hS hP hD hpm_3925 hF
      (vx_runSW (As := [.ref d, .int (sx9 xs (i9 + 1)), .int (sx9 xs (i9 + 2)), .ref o]) (rest := []) cf (wX0_setWeight l G d C WD o of (sx9 xs (i9 + 1)) (sx9 xs (i9 + 2)) (hDy) hfl H.size) (vx_cwSW 4 hts (lw_SW q1063 q1064 q46 q1065) rfl rfl rfl (by decide +kernel) ⟨Nat.le_of_ble_eq_true rfl, Nat.le_of_ble_eq_true rfl⟩) (preS_ofW hNc hKB hE hS hF (P_left (P_perm hpm_3925 hP)) ((D_left (D_perm hpm_3925 hD)).weaken (fun _ _ _ _ => trivial)) trivial) rfl rfl hl.1 rfl (lv_room (Nat.le_of_ble_eq_true rfl)) dL_law_664 ⟨show cl + (1 + 101) ≤ 1200144 from by first | decide | omega, show sl + (6 + 5800) ≤ 5495674 from by first | decide | omega⟩)
      (fun u_ H locs hq hph (hP : va_P G.1 CL (([(oD, .inl (G.2 6, 1, .inr (.inr (.inr (.inl og)))))] ++ (WM ++ [])) ++ ([(o, .inl (G.2 5, 1, .inr (.inl u_.1)))] ++ (u_.2.2 ++ []))) H) (hD : va_D A (([(oD, .inl (G.2 6, 1, .inr (.inr (.inr (.inl og)))))] ++ (WM ++ [])) ++ ([(o, .inl (G.2 5, 1, .inr (.inl u_.1)))] ++ (u_.2.2 ++ [])))) hS hfz hfk => ?_)
  obtain ⟨of2_3926, S2_3927, W2_3928⟩ := u_
  obtain ⟨hq_3929, hq_3930, hq_3931, hq_3932⟩ : ((o_setWeight (dC C) (sx9 xs (i9 + 1)) (sx9 xs (i9 + 2))).1 = 0 → of2_3926 0 = ((o_setWeight (dC C) (sx9 xs (i9 + 1)) (sx9 xs (i9 + 2))).2.1).toInt64) ∧ NxS C (o_setWeight (dC C) (sx9 xs (i9 + 1)) (sx9 xs (i9 + 2))) S2_3927 ∧ (o_setWeight (dC C) (sx9 xs (i9 + 1)) (sx9 xs (i9 + 2))).1 < 10 ∧ DyW G d S2_3927 W2_3928 := hq
  have hpm_3933 : (([(oD, .inl (G.2 6, 1, .inr (.inr (.inr (.inl og)))))] ++ (WM ++ [])) ++ ([(o, .inl (G.2 5, 1, .inr (.inl of2_3926)))] ++ (W2_3928 ++ [])) : va_W).Perm ([(oD, .inl (G.2 6, 1, .inr (.inr (.inr (.inl og))))), (o, .inl (G.2 5, 1, .inr (.inl of2_3926)))] ++ (WM ++ (W2_3928 ++ []))) := segs_perm2 [[(oD, .inl (G.2 6, 1, .inr (.inr (.inr (.inl og)))))], WM] [[(o, .inl (G.2 5, 1, .inr (.inl of2_3926)))], W2_3928] [0, 2, 1, 3] rfl
  have hP : va_P G.1 CL ([(oD, .inl (G.2 6, 1, .inr (.inr (.inr (.inl og))))), (o, .inl (G.2 5, 1, .inr (.inl of2_3926)))] ++ (WM ++ (W2_3928 ++ []))) H := P_perm hpm_3933 hP
  have hD : va_D A ([(oD, .inl (G.2 6, 1, .inr (.inr (.inr (.inl og))))), (o, .inl (G.2 5, 1, .inr (.inl of2_3926)))] ++ (WM ++ (W2_3928 ++ []))) := D_perm hpm_3933 hD
  refine W.eq (g2 := F0 m 667 ls [.int (nI ((o_setWeight (dC C) (sx9 xs (i9 + 1)) (sx9 xs (i9 + 2))).1))]) rfl ?_
  have hqs : SimR (o_setWeight (dC C) (sx9 xs (i9 + 1)) (sx9 xs (i9 + 2))) (o_setWeight (dC M) (sx9 xs (i9 + 1)) (sx9 xs (i9 + 2))) := o_setWeight_sim hLw.1 hIc (sx9 xs (i9 + 1)) (sx9 xs (i9 + 2))
  refine lv_istore (lv' := [(6, .int (nI ((o_setWeight (dC C) (sx9 xs (i9 + 1)) (sx9 xs (i9 + 2))).1))), (0, .ref b), (1, .ref d), (2, .ref m0), (3, .ref o), (4, .ref oD), (5, .int (nI i9))]) hx hb dL_law_667 hl (by decide) rfl (fun ls hl => ?_)
  refine lv_aload_n hx hb dL_law_669 rfl (lv_at hl 3 rfl) ?_
  refine lv_aload_n hx hb dL_law_670 rfl (lv_at hl 1 rfl) ?_
  refine lv_iload hx hb dL_law_671 (lv_at hl 6 rfl) ?_
  refine lv_iconst (v := nI 1) hx hb dL_law_673 (by decide) ?_
  refine lv_iadd hx hb dL_law_674 ?_
  refine lv_ton (n := i9 + 1) (nadd (by omega)) ?_
  refine va_sld hx hb hX9 hbl hbA hS (i := nI (i9 + 1)) (vp9 (by omega) hL96) dL_law_675 ?_
  refine W.eq (g2 := F0 m 676 ls [.int (sx9 xs (i9 + 1)), .ref m0]) rfl ?_
  refine lv_aload_n hx hb dL_law_676 rfl (lv_at hl 1 rfl) ?_
  refine lv_iload hx hb dL_law_677 (lv_at hl 6 rfl) ?_
  refine lv_iconst (v := nI 2) hx hb dL_law_679 (by decide) ?_
  refine lv_iadd hx hb dL_law_680 ?_
  refine lv_ton (n := i9 + 2) (nadd (by omega)) ?_
  refine va_sld hx hb hX9 hbl hbA hS (i := nI (i9 + 2)) (vp9 (by omega) hL96) dL_law_681 ?_
  refine W.eq (g2 := F0 m 682 ls [.int (sx9 xs (i9 + 2)), .int (sx9 xs (i9 + 1)), .ref m0]) rfl ?_
  have hpm_3934 : (([(oD, .inl (G.2 6, 1, .inr (.inr (.inr (.inl og))))), (o, .inl (G.2 5, 1, .inr (.inl of2_3926)))] ++ (WM ++ (W2_3928 ++ []))) : va_W).Perm ((WM ++ []) ++ ([(oD, .inl (G.2 6, 1, .inr (.inr (.inr (.inl og))))), (o, .inl (G.2 5, 1, .inr (.inl of2_3926)))] ++ (W2_3928 ++ []))) := segs_perm [[(oD, .inl (G.2 6, 1, .inr (.inr (.inr (.inl og)))))], [(o, .inl (G.2 5, 1, .inr (.inl of2_3926)))], WM, W2_3928] [2] [0, 1, 3] rfl
  have hF := hF_ofP (wc := (WM ++ [])) hD hS hA hpm_3934
  refine go_ctP hS hP hD hpm_3934 hF
      (va_runV (As := [.int (sx9 xs (i9 + 1)), .int (sx9 xs (i9 + 2))]) (rest := []) cf (eX4_setWeight l G m0 M th WM (sx9 xs (i9 + 1)) (sx9 xs (i9 + 2)) (hMd) (hIm) H.size) (cwV 2 hts (lw_V q1719 q1720 q1721 q58 q1722) rfl rfl rfl (by decide +kernel) ⟨Nat.le_of_ble_eq_true rfl, Nat.le_of_ble_eq_true rfl⟩) (preV_of hKB hE hS hF (MdW.recv hK hMd (seg_at [[(oD, .inl (G.2 6, 1, .inr (.inr (.inr (.inl og)))))], [(o, .inl (G.2 5, 1, .inr (.inl of2_3926)))], WM, W2_3928] 2 rfl hP)) (P_left (P_perm hpm_3934 hP)) ((D_left (D_perm hpm_3934 hD)).weaken (fun _ _ _ _ => trivial)) trivial) rfl rfl hl.1 rfl (lv_room (Nat.le_of_ble_eq_true rfl)) dL_law_682 ⟨show cl + (1 + 101) + 0 ≤ 1200144 from by first | decide | omega, show sl + (6 + 5800) + 0 ≤ 5495674 from by first | decide | omega⟩)
      (fun u_ H locs hq hph (hP : va_P G.1 CL (([(oD, .inl (G.2 6, 1, .inr (.inr (.inr (.inl og))))), (o, .inl (G.2 5, 1, .inr (.inl of2_3926)))] ++ (W2_3928 ++ [])) ++ (u_.2 ++ [])) H) (hD : va_D A (([(oD, .inl (G.2 6, 1, .inr (.inr (.inr (.inl og))))), (o, .inl (G.2 5, 1, .inr (.inl of2_3926)))] ++ (W2_3928 ++ [])) ++ (u_.2 ++ []))) hS hfz hfk => ?_)
  obtain ⟨rr_3935, W2_3936⟩ := u_
  obtain ⟨hq_3937, hq_3938⟩ : ((o_setWeight (dC M) (sx9 xs (i9 + 1)) (sx9 xs (i9 + 2))).1 = 0 → rr_3935 = (o_setWeight (dC M) (sx9 xs (i9 + 1)) (sx9 xs (i9 + 2))).2.1) ∧ MdW G m0 (if (o_setWeight (dC M) (sx9 xs (i9 + 1)) (sx9 xs (i9 + 2))).1 = 0 then (((o_setWeight (dC M) (sx9 xs (i9 + 1)) (sx9 xs (i9 + 2))).2.2, dS M, min 6 (dK M + 1), hsR (dH M) (dK M) (dC M), dL M, dN M) : DS) else M) (o_setWeight (dC M) (sx9 xs (i9 + 1)) (sx9 xs (i9 + 2))).1 W2_3936 := hq
  have hpm_3939 : (([(oD, .inl (G.2 6, 1, .inr (.inr (.inr (.inl og))))), (o, .inl (G.2 5, 1, .inr (.inl of2_3926)))] ++ (W2_3928 ++ [])) ++ (W2_3936 ++ []) : va_W).Perm ([(oD, .inl (G.2 6, 1, .inr (.inr (.inr (.inl og))))), (o, .inl (G.2 5, 1, .inr (.inl of2_3926)))] ++ (W2_3928 ++ (W2_3936 ++ []))) := segs_perm2 [[(oD, .inl (G.2 6, 1, .inr (.inr (.inr (.inl og)))))], [(o, .inl (G.2 5, 1, .inr (.inl of2_3926)))], W2_3928] [W2_3936] [0, 1, 2, 3] rfl
  have hP : va_P G.1 CL ([(oD, .inl (G.2 6, 1, .inr (.inr (.inr (.inl og))))), (o, .inl (G.2 5, 1, .inr (.inl of2_3926)))] ++ (W2_3928 ++ (W2_3936 ++ []))) H := P_perm hpm_3939 hP
  have hD : va_D A ([(oD, .inl (G.2 6, 1, .inr (.inr (.inr (.inl og))))), (o, .inl (G.2 5, 1, .inr (.inl of2_3926)))] ++ (W2_3928 ++ (W2_3936 ++ []))) := D_perm hpm_3939 hD
  refine W.eq (g2 := F0 m 685 ls [.int rr_3935]) rfl ?_
  refine lv_istore (lv' := [(7, .int rr_3935), (6, .int (nI ((o_setWeight (dC C) (sx9 xs (i9 + 1)) (sx9 xs (i9 + 2))).1))), (0, .ref b), (1, .ref d), (2, .ref m0), (3, .ref o), (4, .ref oD), (5, .int (nI i9))]) hx hb dL_law_685 hl (by decide) rfl (fun ls hl => ?_)
  refine lv_aload_n hx hb dL_law_687 rfl (lv_at hl 4 rfl) ?_
  have hpm_3940 : (([(oD, .inl (G.2 6, 1, .inr (.inr (.inr (.inl og))))), (o, .inl (G.2 5, 1, .inr (.inl of2_3926)))] ++ (W2_3928 ++ (W2_3936 ++ []))) : va_W).Perm ([] ++ ([(oD, .inl (G.2 6, 1, .inr (.inr (.inr (.inl og))))), (o, .inl (G.2 5, 1, .inr (.inl of2_3926)))] ++ (W2_3928 ++ (W2_3936 ++ [])))) := segs_perm [[(oD, .inl (G.2 6, 1, .inr (.inr (.inr (.inl og)))))], [(o, .inl (G.2 5, 1, .inr (.inl of2_3926)))], W2_3928, W2_3936] [] [0, 1, 2, 3] rfl
  have hF := hF_ofP (wc := []) hD hS hA hpm_3940
  refine go_ctP hS hP hD hpm_3940 hF
      (va_runV (As := []) (rest := []) cf (eX4_thrown l G m0 (if ((o_setWeight (dC M) (sx9 xs (i9 + 1)) (sx9 xs (i9 + 2)))).1 = 0 then ((((o_setWeight (dC M) (sx9 xs (i9 + 1)) (sx9 xs (i9 + 2)))).2.2, dS M, min 6 (dK M + 1), hsR (dH M) (dK M) (dC M), dL M, dN M) : DS) else M) (((o_setWeight (dC M) (sx9 xs (i9 + 1)) (sx9 xs (i9 + 2)))).1) W2_3936 (hq_3938) H.size) (cwV 0 hts (lw_V q1639 q1640 q1641 q58 q1642) rfl rfl rfl (by decide +kernel) ⟨Nat.le_of_ble_eq_true rfl, Nat.le_of_ble_eq_true rfl⟩) (preV_of hKB hE hS hF (MdW.recv hK hq_3938 (seg_at [[(oD, .inl (G.2 6, 1, .inr (.inr (.inr (.inl og)))))], [(o, .inl (G.2 5, 1, .inr (.inl of2_3926)))], W2_3928, W2_3936] 3 rfl hP)) (P_left (P_perm hpm_3940 hP)) ((D_left (D_perm hpm_3940 hD)).weaken (fun _ _ _ _ => trivial)) (roW.nil (seg_at [[(oD, .inl (G.2 6, 1, .inr (.inr (.inr (.inl og)))))], [(o, .inl (G.2 5, 1, .inr (.inl of2_3926)))], W2_3928, W2_3936] 3 rfl hP))) rfl rfl hl.1 rfl (lv_room (Nat.le_of_ble_eq_true rfl)) dL_law_688 ⟨show cl + (1 + 101) + 0 ≤ 1200144 from by first | decide | omega, show sl + (6 + 5800) + 0 ≤ 5495674 from by first | decide | omega⟩)
      (fun u_ H locs hq hph (hP : va_P G.1 CL (([(oD, .inl (G.2 6, 1, .inr (.inr (.inr (.inl og))))), (o, .inl (G.2 5, 1, .inr (.inl of2_3926)))] ++ (W2_3928 ++ (W2_3936 ++ []))) ++ []) H) (hD : va_D A (([(oD, .inl (G.2 6, 1, .inr (.inr (.inr (.inl og))))), (o, .inl (G.2 5, 1, .inr (.inl of2_3926)))] ++ (W2_3928 ++ (W2_3936 ++ []))) ++ [])) hS hfz hfk => ?_)
  have hpm_3941 : (([(oD, .inl (G.2 6, 1, .inr (.inr (.inr (.inl og))))), (o, .inl (G.2 5, 1, .inr (.inl of2_3926)))] ++ (W2_3928 ++ (W2_3936 ++ []))) ++ [] : va_W).Perm ([(oD, .inl (G.2 6, 1, .inr (.inr (.inr (.inl og))))), (o, .inl (G.2 5, 1, .inr (.inl of2_3926)))] ++ (W2_3928 ++ (W2_3936 ++ []))) := segs_perm2 [[(oD, .inl (G.2 6, 1, .inr (.inr (.inr (.inl og)))))], [(o, .inl (G.2 5, 1, .inr (.inl of2_3926)))], W2_3928, W2_3936] [] [0, 1, 2, 3] rfl
  have hP : va_P G.1 CL ([(oD, .inl (G.2 6, 1, .inr (.inr (.inr (.inl og))))), (o, .inl (G.2 5, 1, .inr (.inl of2_3926)))] ++ (W2_3928 ++ (W2_3936 ++ []))) H := P_perm hpm_3941 hP
  have hD : va_D A ([(oD, .inl (G.2 6, 1, .inr (.inr (.inr (.inl og))))), (o, .inl (G.2 5, 1, .inr (.inl of2_3926)))] ++ (W2_3928 ++ (W2_3936 ++ []))) := D_perm hpm_3941 hD
  refine W.eq (g2 := F0 m 691 ls [.int (nI (((o_setWeight (dC M) (sx9 xs (i9 + 1)) (sx9 xs (i9 + 2)))).1))]) rfl ?_
  refine lv_ton (n := ((o_setWeight (dC C) (sx9 xs (i9 + 1)) (sx9 xs (i9 + 2))).1)) (congrArg nI hqs.1.symm) ?_
  refine lv_iload hx hb dL_law_691 (lv_at hl 1 rfl) ?_
  refine lv_icmp_eq (tgt := 698) hx hb dL_law_693 (by decide) (fun _ => ?_) (fun c9 => absurd rfl c9)
  refine lv_iload hx hb dL_law_698 (lv_at hl 1 rfl) ?_
  refine n_if_ne (tgt := 715) hx hb (by omega) dL_law_700 (by decide) (fun c_3942 => ?_) (fun c_3942 => ?_)
  · refine lv_goto (tgt := 2788) hx hb dL_law_715 (by decide) ?_
    have hpm_3943 : (([(oD, .inl (G.2 6, 1, .inr (.inr (.inr (.inl og))))), (o, .inl (G.2 5, 1, .inr (.inl of2_3926)))] ++ (W2_3928 ++ (W2_3936 ++ []))) : va_W).Perm (([(o, .inl (G.2 5, 1, .inr (.inl of2_3926))), (oD, .inl (G.2 6, 1, .inr (.inr (.inr (.inl og)))))] ++ (W2_3928 ++ (W2_3936 ++ []))) ++ []) := segs_perm [[(oD, .inl (G.2 6, 1, .inr (.inr (.inr (.inl og)))))], [(o, .inl (G.2 5, 1, .inr (.inl of2_3926)))], W2_3928, W2_3936] [1, 0, 2, 3] [] rfl
    have hP : va_P G.1 CL ([(o, .inl (G.2 5, 1, .inr (.inl of2_3926))), (oD, .inl (G.2 6, 1, .inr (.inr (.inr (.inl og)))))] ++ (W2_3928 ++ (W2_3936 ++ []))) H := P_left (P_perm hpm_3943 hP)
    have hD : va_D A ([(o, .inl (G.2 5, 1, .inr (.inl of2_3926))), (oD, .inl (G.2 6, 1, .inr (.inr (.inr (.inl og)))))] ++ (W2_3928 ++ (W2_3936 ++ []))) := D_left (D_perm hpm_3943 hD)
    have hl := lv_sub hl [2, 3, 4, 5, 6, 7] (l' := [(0, .ref b), (1, .ref d), (2, .ref m0), (3, .ref o), (4, .ref oD), (5, .int (nI i9))]) rfl
    exact W.widen (show cl + (1 + 101) ≤ cl + 20000 from by omega) (show sl + (6 + 5800) ≤ sl + 45000 from by omega) (kk ls H locs S2_3927 (if ((o_setWeight (dC M) (sx9 xs (i9 + 1)) (sx9 xs (i9 + 2)))).1 = 0 then ((((o_setWeight (dC M) (sx9 xs (i9 + 1)) (sx9 xs (i9 + 2)))).2.2, dS M, min 6 (dK M + 1), hsR (dH M) (dK M) (dC M), dL M, dN M) : DS) else M) (((o_setWeight (dC M) (sx9 xs (i9 + 1)) (sx9 xs (i9 + 2)))).1) W2_3928 W2_3936 of2_3926 og hP hD hS hl hq_3932 hq_3938 (hLw.mut hqs hq_3930 (o_setWeight_b (dC C) (sx9 xs (i9 + 1)) (sx9 xs (i9 + 2)))))
  · refine lv_aload_n hx hb dL_law_703 rfl (lv_at hl 5 rfl) ?_
    refine lv_iconst (v := nI 0) hx hb dL_law_704 (by decide) ?_
    refine r_lald (v := (((o_setWeight (dC C) (sx9 xs (i9 + 1)) (sx9 xs (i9 + 2)))).2.1).toInt64) hx hb hK hP 1 5 rfl rfl (i := 0) (by omega) (by omega) ((hq_3929 (by omega))) dL_law_705 ?_
    refine lv_iload hx hb dL_law_706 (lv_at hl 0 rfl) ?_
    refine lv_toi (y := ((o_setWeight (dC C) (sx9 xs (i9 + 1)) (sx9 xs (i9 + 2)))).2.1) ((hq_3937 (hqs.1.symm.trans (by omega))).trans hqs.2.1.symm) ?_
    refine lv_i2l (v := (((o_setWeight (dC C) (sx9 xs (i9 + 1)) (sx9 xs (i9 + 2)))).2.1).toInt64) hx hb dL_law_708 rfl ?_
    refine W.lcmp hx hb dL_law_709 ?_
    refine lv_ton (n := 0) (lcmp0 _) ?_
    refine n_if_eq (tgt := 715) hx hb (by omega) dL_law_710 (by decide) (fun c_3944 => ?_) (fun c_3944 => absurd c_3944 (by omega))
    refine lv_goto (tgt := 2788) hx hb dL_law_715 (by decide) ?_
    have hpm_3945 : (([(oD, .inl (G.2 6, 1, .inr (.inr (.inr (.inl og))))), (o, .inl (G.2 5, 1, .inr (.inl of2_3926)))] ++ (W2_3928 ++ (W2_3936 ++ []))) : va_W).Perm (([(o, .inl (G.2 5, 1, .inr (.inl of2_3926))), (oD, .inl (G.2 6, 1, .inr (.inr (.inr (.inl og)))))] ++ (W2_3928 ++ (W2_3936 ++ []))) ++ []) := segs_perm [[(oD, .inl (G.2 6, 1, .inr (.inr (.inr (.inl og)))))], [(o, .inl (G.2 5, 1, .inr (.inl of2_3926)))], W2_3928, W2_3936] [1, 0, 2, 3] [] rfl
    have hP : va_P G.1 CL ([(o, .inl (G.2 5, 1, .inr (.inl of2_3926))), (oD, .inl (G.2 6, 1, .inr (.inr (.inr (.inl og)))))] ++ (W2_3928 ++ (W2_3936 ++ []))) H := P_left (P_perm hpm_3945 hP)
    have hD : va_D A ([(o, .inl (G.2 5, 1, .inr (.inl of2_3926))), (oD, .inl (G.2 6, 1, .inr (.inr (.inr (.inl og)))))] ++ (W2_3928 ++ (W2_3936 ++ []))) := D_left (D_perm hpm_3945 hD)
    have hl := lv_sub hl [2, 3, 4, 5, 6, 7] (l' := [(0, .ref b), (1, .ref d), (2, .ref m0), (3, .ref o), (4, .ref oD), (5, .int (nI i9))]) rfl
    exact W.widen (show cl + (1 + 101) ≤ cl + 20000 from by omega) (show sl + (6 + 5800) ≤ sl + 45000 from by omega) (kk ls H locs S2_3927 (if ((o_setWeight (dC M) (sx9 xs (i9 + 1)) (sx9 xs (i9 + 2)))).1 = 0 then ((((o_setWeight (dC M) (sx9 xs (i9 + 1)) (sx9 xs (i9 + 2)))).2.2, dS M, min 6 (dK M + 1), hsR (dH M) (dK M) (dC M), dL M, dN M) : DS) else M) (((o_setWeight (dC M) (sx9 xs (i9 + 1)) (sx9 xs (i9 + 2)))).1) W2_3928 W2_3936 of2_3926 og hP hD hS hl hq_3932 hq_3938 (hLw.mut hqs hq_3930 (o_setWeight_b (dC C) (sx9 xs (i9 + 1)) (sx9 xs (i9 + 2)))))

set_option maxHeartbeats 4000000 in
theorem lawK_9 {p : Program} {l : Launch} {e : Env} {s : State} {m : MethodId} {below : List Frame} {meth : Method} {c : Code} {G : Gt} {A : Nat → Prop} {b L : Nat} {xs : Nat → Int32} {Q : State → Prop} {d m0 o oD i9 N cl sl : Nat} (hfl : l.stackTraces = false) (F : LwF G A p s m c b L xs) (hi9 : i9 + 4 ≤ L) (hN24 : N ≤ 24) (hcl : cl + 20000 ≤ 1200144) (hsl : sl + 45000 ≤ 5495674) (kk : ∀ (ls : Array Slot) (H : Heap) (locs : List Loc) (C M : DS) (th : Nat) (WD WM : va_W) (of : Nat → Int64) (og : Nat → UInt64), va_P G.1 CL ([(o, .inl (G.2 5, 1, .inr (.inl of))), (oD, .inl (G.2 6, 1, .inr (.inr (.inr (.inl og)))))] ++ (WD ++ (WM ++ []))) H → va_D A ([(o, .inl (G.2 5, 1, .inr (.inl of))), (oD, .inl (G.2 6, 1, .inr (.inr (.inr (.inl og)))))] ++ (WD ++ (WM ++ []))) → va_S A s.heap H locs → lv_has ls 10 [(0, .ref b), (1, .ref d), (2, .ref m0), (3, .ref o), (4, .ref oD), (5, .int (nI i9))] → DyW G d C WD → MdW G m0 M th WM → LawI C M (N + 1) → W p l e room_1 s m #[Value.ref b] below meth c H locs (cl + 20000) (sl + 45000) Q (F0 m 2788 ls [])) {ls : Array Slot} {H : Heap} {locs : List Loc} {C M : DS} {th : Nat} {WD WM : va_W} {of : Nat → Int64} {og : Nat → UInt64} (hP : va_P G.1 CL ([(o, .inl (G.2 5, 1, .inr (.inl of))), (oD, .inl (G.2 6, 1, .inr (.inr (.inr (.inl og)))))] ++ (WD ++ (WM ++ []))) H) (hD : va_D A ([(o, .inl (G.2 5, 1, .inr (.inl of))), (oD, .inl (G.2 6, 1, .inr (.inr (.inr (.inl og)))))] ++ (WD ++ (WM ++ [])))) (hS : va_S A s.heap H locs) (hl : lv_has ls 10 [(0, .ref b), (1, .ref d), (2, .ref m0), (3, .ref o), (4, .ref oD), (5, .int (nI i9))]) (hDy : DyW G d C WD) (hMd : MdW G m0 M th WM) (hLw : LawI C M N) : W p l e room_1 s m #[Value.ref b] below meth c H locs cl sl Q (F0 m 718 ls []) := by
  obtain ⟨cf, hKB, hE, hA, hX9, hbl, hbA, hNc, hL96⟩ := F
  have hx := cf.1
  have hb := cf.2.1
  have hml := cf.2.2.1
  have hown : s.vm.findClass RX0 = some m.cls := cf.2.2.2.1
  have hts := cf.2.2.2.2
  have hK := hKB.1
  have hIc := hDy.inv.1
  have hIm : Inv (dC M) := Inv_sim hLw.1 hIc
  have hRk : RkOk (dC M) := RkOk_sim hLw.1 (RkOk_srt hDy.inv.2.2)
  have hl := hl
  refine lv_aload_n hx hb dL_law_718 rfl (lv_at hl 1 rfl) ?_
  refine lv_aload_n hx hb dL_law_719 rfl (lv_at hl 0 rfl) ?_
  refine lv_iload hx hb dL_law_720 (lv_at hl 5 rfl) ?_
  refine lv_iconst (v := nI 1) hx hb dL_law_722 (by decide) ?_
  refine lv_iadd hx hb dL_law_723 ?_
  refine lv_ton (n := i9 + 1) (nadd (by omega)) ?_
  refine va_sld hx hb hX9 hbl hbA hS (i := nI (i9 + 1)) (vp9 (by omega) hL96) dL_law_724 ?_
  refine W.eq (g2 := F0 m 725 ls [.int (sx9 xs (i9 + 1)), .ref d]) rfl ?_
  refine lv_aload_n hx hb dL_law_725 rfl (lv_at hl 3 rfl) ?_
  have hpm_3946 : (([(o, .inl (G.2 5, 1, .inr (.inl of))), (oD, .inl (G.2 6, 1, .inr (.inr (.inr (.inl og)))))] ++ (WD ++ (WM ++ []))) : va_W).Perm (([(o, .inl (G.2 5, 1, .inr (.inl of)))] ++ (WD ++ [])) ++ ([(oD, .inl (G.2 6, 1, .inr (.inr (.inr (.inl og)))))] ++ (WM ++ []))) := segs_perm [[(o, .inl (G.2 5, 1, .inr (.inl of)))], [(oD, .inl (G.2 6, 1, .inr (.inr (.inr (.inl og)))))], WD, WM] [0, 2] [1, 3] rfl
  have hF := hF_ofP (wc := ([(o, .inl (G.2 5, 1, .inr (.inl of)))] ++ (WD ++ []))) hD hS hA hpm_3946
  refine go_ctP hS hP hD hpm_3946 hF
      (vx_runSW (As := [.ref d, .int (sx9 xs (i9 + 1)), .ref o]) (rest := []) cf (wX0_weightOf l G d C WD o of (sx9 xs (i9 + 1)) (hDy) hfl H.size) (vx_cwSW 3 hts (lw_SW q1074 q1075 q46 q1076) rfl rfl rfl (by decide +kernel) ⟨Nat.le_of_ble_eq_true rfl, Nat.le_of_ble_eq_true rfl⟩) (preS_ofW hNc hKB hE hS hF (P_left (P_perm hpm_3946 hP)) ((D_left (D_perm hpm_3946 hD)).weaken (fun _ _ _ _ => trivial)) trivial) rfl rfl hl.1 rfl (lv_room (Nat.le_of_ble_eq_true rfl)) dL_law_726 ⟨show cl + 2 ≤ 1200144 from by first | decide | omega, show sl + 8 ≤ 5495674 from by first | decide | omega⟩)
      (fun u_ H locs hq hph (hP : va_P G.1 CL (([(oD, .inl (G.2 6, 1, .inr (.inr (.inr (.inl og)))))] ++ (WM ++ [])) ++ ([(o, .inl (G.2 5, 1, .inr (.inl u_.1)))] ++ (u_.2 ++ []))) H) (hD : va_D A (([(oD, .inl (G.2 6, 1, .inr (.inr (.inr (.inl og)))))] ++ (WM ++ [])) ++ ([(o, .inl (G.2 5, 1, .inr (.inl u_.1)))] ++ (u_.2 ++ [])))) hS hfz hfk => ?_)
  obtain ⟨of2_3947, W2_3948⟩ := u_
  obtain ⟨hq_3949, hq_3950, hq_3951⟩ : ((q_weight (dC C) (sx9 xs (i9 + 1))).1 = 0 → of2_3947 0 = ((q_weight (dC C) (sx9 xs (i9 + 1))).2).toInt64) ∧ (q_weight (dC C) (sx9 xs (i9 + 1))).1 < 10 ∧ DyW G d C W2_3948 := hq
  have hpm_3952 : (([(oD, .inl (G.2 6, 1, .inr (.inr (.inr (.inl og)))))] ++ (WM ++ [])) ++ ([(o, .inl (G.2 5, 1, .inr (.inl of2_3947)))] ++ (W2_3948 ++ [])) : va_W).Perm ([(oD, .inl (G.2 6, 1, .inr (.inr (.inr (.inl og))))), (o, .inl (G.2 5, 1, .inr (.inl of2_3947)))] ++ (WM ++ (W2_3948 ++ []))) := segs_perm2 [[(oD, .inl (G.2 6, 1, .inr (.inr (.inr (.inl og)))))], WM] [[(o, .inl (G.2 5, 1, .inr (.inl of2_3947)))], W2_3948] [0, 2, 1, 3] rfl
  have hP : va_P G.1 CL ([(oD, .inl (G.2 6, 1, .inr (.inr (.inr (.inl og))))), (o, .inl (G.2 5, 1, .inr (.inl of2_3947)))] ++ (WM ++ (W2_3948 ++ []))) H := P_perm hpm_3952 hP
  have hD : va_D A ([(oD, .inl (G.2 6, 1, .inr (.inr (.inr (.inl og))))), (o, .inl (G.2 5, 1, .inr (.inl of2_3947)))] ++ (WM ++ (W2_3948 ++ []))) := D_perm hpm_3952 hD
  refine W.eq (g2 := F0 m 729 ls [.int (nI ((q_weight (dC C) (sx9 xs (i9 + 1))).1))]) rfl ?_
  have hqs : (q_weight (dC M) (sx9 xs (i9 + 1))) = (q_weight (dC C) (sx9 xs (i9 + 1))) := q_weight_sim hLw.1.symm hIm (sx9 xs (i9 + 1))
  refine lv_istore (lv' := [(6, .int (nI ((q_weight (dC C) (sx9 xs (i9 + 1))).1))), (0, .ref b), (1, .ref d), (2, .ref m0), (3, .ref o), (4, .ref oD), (5, .int (nI i9))]) hx hb dL_law_729 hl (by decide) rfl (fun ls hl => ?_)
  refine lv_aload_n hx hb dL_law_731 rfl (lv_at hl 3 rfl) ?_
  refine lv_aload_n hx hb dL_law_732 rfl (lv_at hl 1 rfl) ?_
  refine lv_iload hx hb dL_law_733 (lv_at hl 6 rfl) ?_
  refine lv_iconst (v := nI 1) hx hb dL_law_735 (by decide) ?_
  refine lv_iadd hx hb dL_law_736 ?_
  refine lv_ton (n := i9 + 1) (nadd (by omega)) ?_
  refine va_sld hx hb hX9 hbl hbA hS (i := nI (i9 + 1)) (vp9 (by omega) hL96) dL_law_737 ?_
  refine W.eq (g2 := F0 m 738 ls [.int (sx9 xs (i9 + 1)), .ref m0]) rfl ?_
  have hpm_3953 : (([(oD, .inl (G.2 6, 1, .inr (.inr (.inr (.inl og))))), (o, .inl (G.2 5, 1, .inr (.inl of2_3947)))] ++ (WM ++ (W2_3948 ++ []))) : va_W).Perm ((WM ++ []) ++ ([(oD, .inl (G.2 6, 1, .inr (.inr (.inr (.inl og))))), (o, .inl (G.2 5, 1, .inr (.inl of2_3947)))] ++ (W2_3948 ++ []))) := segs_perm [[(oD, .inl (G.2 6, 1, .inr (.inr (.inr (.inl og)))))], [(o, .inl (G.2 5, 1, .inr (.inl of2_3947)))], WM, W2_3948] [2] [0, 1, 3] rfl
  have hF := hF_ofP (wc := (WM ++ [])) hD hS hA hpm_3953
  refine go_ctP hS hP hD hpm_3953 hF
      (va_runV (As := [.int (sx9 xs (i9 + 1))]) (rest := []) cf (eX4_weightOf l G m0 M th WM (sx9 xs (i9 + 1)) (hMd) (hIm) H.size) (cwV 1 hts (lw_V q1723 q1724 q1725 q58 q1726) rfl rfl rfl (by decide +kernel) ⟨Nat.le_of_ble_eq_true rfl, Nat.le_of_ble_eq_true rfl⟩) (preV_of hKB hE hS hF (MdW.recv hK hMd (seg_at [[(oD, .inl (G.2 6, 1, .inr (.inr (.inr (.inl og)))))], [(o, .inl (G.2 5, 1, .inr (.inl of2_3947)))], WM, W2_3948] 2 rfl hP)) (P_left (P_perm hpm_3953 hP)) ((D_left (D_perm hpm_3953 hD)).weaken (fun _ _ _ _ => trivial)) trivial) rfl rfl hl.1 rfl (lv_room (Nat.le_of_ble_eq_true rfl)) dL_law_738 ⟨show cl + 2 + 0 ≤ 1200144 from by first | decide | omega, show sl + 8 + 0 ≤ 5495674 from by first | decide | omega⟩)
      (fun u_ H locs hq hph (hP : va_P G.1 CL (([(oD, .inl (G.2 6, 1, .inr (.inr (.inr (.inl og))))), (o, .inl (G.2 5, 1, .inr (.inl of2_3947)))] ++ (W2_3948 ++ [])) ++ (u_.2 ++ [])) H) (hD : va_D A (([(oD, .inl (G.2 6, 1, .inr (.inr (.inr (.inl og))))), (o, .inl (G.2 5, 1, .inr (.inl of2_3947)))] ++ (W2_3948 ++ [])) ++ (u_.2 ++ []))) hS hfz hfk => ?_)
  obtain ⟨rr_3954, W2_3955⟩ := u_
  obtain ⟨hq_3956, hq_3957⟩ : ((q_weight (dC M) (sx9 xs (i9 + 1))).1 = 0 → rr_3954 = (q_weight (dC M) (sx9 xs (i9 + 1))).2) ∧ MdW G m0 M (q_weight (dC M) (sx9 xs (i9 + 1))).1 W2_3955 := hq
  have hpm_3958 : (([(oD, .inl (G.2 6, 1, .inr (.inr (.inr (.inl og))))), (o, .inl (G.2 5, 1, .inr (.inl of2_3947)))] ++ (W2_3948 ++ [])) ++ (W2_3955 ++ []) : va_W).Perm ([(oD, .inl (G.2 6, 1, .inr (.inr (.inr (.inl og))))), (o, .inl (G.2 5, 1, .inr (.inl of2_3947)))] ++ (W2_3948 ++ (W2_3955 ++ []))) := segs_perm2 [[(oD, .inl (G.2 6, 1, .inr (.inr (.inr (.inl og)))))], [(o, .inl (G.2 5, 1, .inr (.inl of2_3947)))], W2_3948] [W2_3955] [0, 1, 2, 3] rfl
  have hP : va_P G.1 CL ([(oD, .inl (G.2 6, 1, .inr (.inr (.inr (.inl og))))), (o, .inl (G.2 5, 1, .inr (.inl of2_3947)))] ++ (W2_3948 ++ (W2_3955 ++ []))) H := P_perm hpm_3958 hP
  have hD : va_D A ([(oD, .inl (G.2 6, 1, .inr (.inr (.inr (.inl og))))), (o, .inl (G.2 5, 1, .inr (.inl of2_3947)))] ++ (W2_3948 ++ (W2_3955 ++ []))) := D_perm hpm_3958 hD
  refine W.eq (g2 := F0 m 741 ls [.int rr_3954]) rfl ?_
  refine lv_istore (lv' := [(7, .int rr_3954), (6, .int (nI ((q_weight (dC C) (sx9 xs (i9 + 1))).1))), (0, .ref b), (1, .ref d), (2, .ref m0), (3, .ref o), (4, .ref oD), (5, .int (nI i9))]) hx hb dL_law_741 hl (by decide) rfl (fun ls hl => ?_)
  refine lv_aload_n hx hb dL_law_743 rfl (lv_at hl 4 rfl) ?_
  have hpm_3959 : (([(oD, .inl (G.2 6, 1, .inr (.inr (.inr (.inl og))))), (o, .inl (G.2 5, 1, .inr (.inl of2_3947)))] ++ (W2_3948 ++ (W2_3955 ++ []))) : va_W).Perm ([] ++ ([(oD, .inl (G.2 6, 1, .inr (.inr (.inr (.inl og))))), (o, .inl (G.2 5, 1, .inr (.inl of2_3947)))] ++ (W2_3948 ++ (W2_3955 ++ [])))) := segs_perm [[(oD, .inl (G.2 6, 1, .inr (.inr (.inr (.inl og)))))], [(o, .inl (G.2 5, 1, .inr (.inl of2_3947)))], W2_3948, W2_3955] [] [0, 1, 2, 3] rfl
  have hF := hF_ofP (wc := []) hD hS hA hpm_3959
  refine go_ctP hS hP hD hpm_3959 hF
      (va_runV (As := []) (rest := []) cf (eX4_thrown l G m0 M (((q_weight (dC M) (sx9 xs (i9 + 1)))).1) W2_3955 (hq_3957) H.size) (cwV 0 hts (lw_V q1639 q1640 q1641 q58 q1642) rfl rfl rfl (by decide +kernel) ⟨Nat.le_of_ble_eq_true rfl, Nat.le_of_ble_eq_true rfl⟩) (preV_of hKB hE hS hF (MdW.recv hK hq_3957 (seg_at [[(oD, .inl (G.2 6, 1, .inr (.inr (.inr (.inl og)))))], [(o, .inl (G.2 5, 1, .inr (.inl of2_3947)))], W2_3948, W2_3955] 3 rfl hP)) (P_left (P_perm hpm_3959 hP)) ((D_left (D_perm hpm_3959 hD)).weaken (fun _ _ _ _ => trivial)) (roW.nil (seg_at [[(oD, .inl (G.2 6, 1, .inr (.inr (.inr (.inl og)))))], [(o, .inl (G.2 5, 1, .inr (.inl of2_3947)))], W2_3948, W2_3955] 3 rfl hP))) rfl rfl hl.1 rfl (lv_room (Nat.le_of_ble_eq_true rfl)) dL_law_744 ⟨show cl + 2 + 0 ≤ 1200144 from by first | decide | omega, show sl + 8 + 0 ≤ 5495674 from by first | decide | omega⟩)
      (fun u_ H locs hq hph (hP : va_P G.1 CL (([(oD, .inl (G.2 6, 1, .inr (.inr (.inr (.inl og))))), (o, .inl (G.2 5, 1, .inr (.inl of2_3947)))] ++ (W2_3948 ++ (W2_3955 ++ []))) ++ []) H) (hD : va_D A (([(oD, .inl (G.2 6, 1, .inr (.inr (.inr (.inl og))))), (o, .inl (G.2 5, 1, .inr (.inl of2_3947)))] ++ (W2_3948 ++ (W2_3955 ++ []))) ++ [])) hS hfz hfk => ?_)
  have hpm_3960 : (([(oD, .inl (G.2 6, 1, .inr (.inr (.inr (.inl og))))), (o, .inl (G.2 5, 1, .inr (.inl of2_3947)))] ++ (W2_3948 ++ (W2_3955 ++ []))) ++ [] : va_W).Perm ([(oD, .inl (G.2 6, 1, .inr (.inr (.inr (.inl og))))), (o, .inl (G.2 5, 1, .inr (.inl of2_3947)))] ++ (W2_3948 ++ (W2_3955 ++ []))) := segs_perm2 [[(oD, .inl (G.2 6, 1, .inr (.inr (.inr (.inl og)))))], [(o, .inl (G.2 5, 1, .inr (.inl of2_3947)))], W2_3948, W2_3955] [] [0, 1, 2, 3] rfl
  have hP : va_P G.1 CL ([(oD, .inl (G.2 6, 1, .inr (.inr (.inr (.inl og))))), (o, .inl (G.2 5, 1, .inr (.inl of2_3947)))] ++ (W2_3948 ++ (W2_3955 ++ []))) H := P_perm hpm_3960 hP
  have hD : va_D A ([(oD, .inl (G.2 6, 1, .inr (.inr (.inr (.inl og))))), (o, .inl (G.2 5, 1, .inr (.inl of2_3947)))] ++ (W2_3948 ++ (W2_3955 ++ []))) := D_perm hpm_3960 hD
  refine W.eq (g2 := F0 m 747 ls [.int (nI (((q_weight (dC M) (sx9 xs (i9 + 1)))).1))]) rfl ?_
  refine lv_ton (n := ((q_weight (dC C) (sx9 xs (i9 + 1))).1)) (congrArg nI (by rw [hqs])) ?_
  refine lv_iload hx hb dL_law_747 (lv_at hl 1 rfl) ?_
  refine lv_icmp_eq (tgt := 754) hx hb dL_law_749 (by decide) (fun _ => ?_) (fun c9 => absurd rfl c9)
  refine lv_iload hx hb dL_law_754 (lv_at hl 1 rfl) ?_
  refine n_if_ne (tgt := 771) hx hb (by omega) dL_law_756 (by decide) (fun c_3961 => ?_) (fun c_3961 => ?_)
  · refine lv_goto (tgt := 2788) hx hb dL_law_771 (by decide) ?_
    have hpm_3962 : (([(oD, .inl (G.2 6, 1, .inr (.inr (.inr (.inl og))))), (o, .inl (G.2 5, 1, .inr (.inl of2_3947)))] ++ (W2_3948 ++ (W2_3955 ++ []))) : va_W).Perm (([(o, .inl (G.2 5, 1, .inr (.inl of2_3947))), (oD, .inl (G.2 6, 1, .inr (.inr (.inr (.inl og)))))] ++ (W2_3948 ++ (W2_3955 ++ []))) ++ []) := segs_perm [[(oD, .inl (G.2 6, 1, .inr (.inr (.inr (.inl og)))))], [(o, .inl (G.2 5, 1, .inr (.inl of2_3947)))], W2_3948, W2_3955] [1, 0, 2, 3] [] rfl
    have hP : va_P G.1 CL ([(o, .inl (G.2 5, 1, .inr (.inl of2_3947))), (oD, .inl (G.2 6, 1, .inr (.inr (.inr (.inl og)))))] ++ (W2_3948 ++ (W2_3955 ++ []))) H := P_left (P_perm hpm_3962 hP)
    have hD : va_D A ([(o, .inl (G.2 5, 1, .inr (.inl of2_3947))), (oD, .inl (G.2 6, 1, .inr (.inr (.inr (.inl og)))))] ++ (W2_3948 ++ (W2_3955 ++ []))) := D_left (D_perm hpm_3962 hD)
    have hl := lv_sub hl [2, 3, 4, 5, 6, 7] (l' := [(0, .ref b), (1, .ref d), (2, .ref m0), (3, .ref o), (4, .ref oD), (5, .int (nI i9))]) rfl
    exact W.widen (show cl + 2 ≤ cl + 20000 from by omega) (show sl + 8 ≤ sl + 45000 from by omega) (kk ls H locs C M (((q_weight (dC M) (sx9 xs (i9 + 1)))).1) W2_3948 W2_3955 of2_3947 og hP hD hS hl hq_3951 hq_3957 hLw.up)
  · refine lv_aload_n hx hb dL_law_759 rfl (lv_at hl 5 rfl) ?_
    refine lv_iconst (v := nI 0) hx hb dL_law_760 (by decide) ?_
    refine r_lald (v := (((q_weight (dC C) (sx9 xs (i9 + 1)))).2).toInt64) hx hb hK hP 1 5 rfl rfl (i := 0) (by omega) (by omega) ((hq_3949 (by omega))) dL_law_761 ?_
    refine lv_iload hx hb dL_law_762 (lv_at hl 0 rfl) ?_
    refine lv_toi (y := ((q_weight (dC C) (sx9 xs (i9 + 1)))).2) ((hq_3956 (by rw [hqs]; omega)).trans (by rw [hqs])) ?_
    refine lv_i2l (v := (((q_weight (dC C) (sx9 xs (i9 + 1)))).2).toInt64) hx hb dL_law_764 rfl ?_
    refine W.lcmp hx hb dL_law_765 ?_
    refine lv_ton (n := 0) (lcmp0 _) ?_
    refine n_if_eq (tgt := 771) hx hb (by omega) dL_law_766 (by decide) (fun c_3963 => ?_) (fun c_3963 => absurd c_3963 (by omega))
    refine lv_goto (tgt := 2788) hx hb dL_law_771 (by decide) ?_
    have hpm_3964 : (([(oD, .inl (G.2 6, 1, .inr (.inr (.inr (.inl og))))), (o, .inl (G.2 5, 1, .inr (.inl of2_3947)))] ++ (W2_3948 ++ (W2_3955 ++ []))) : va_W).Perm (([(o, .inl (G.2 5, 1, .inr (.inl of2_3947))), (oD, .inl (G.2 6, 1, .inr (.inr (.inr (.inl og)))))] ++ (W2_3948 ++ (W2_3955 ++ []))) ++ []) := segs_perm [[(oD, .inl (G.2 6, 1, .inr (.inr (.inr (.inl og)))))], [(o, .inl (G.2 5, 1, .inr (.inl of2_3947)))], W2_3948, W2_3955] [1, 0, 2, 3] [] rfl
    have hP : va_P G.1 CL ([(o, .inl (G.2 5, 1, .inr (.inl of2_3947))), (oD, .inl (G.2 6, 1, .inr (.inr (.inr (.inl og)))))] ++ (W2_3948 ++ (W2_3955 ++ []))) H := P_left (P_perm hpm_3964 hP)
    have hD : va_D A ([(o, .inl (G.2 5, 1, .inr (.inl of2_3947))), (oD, .inl (G.2 6, 1, .inr (.inr (.inr (.inl og)))))] ++ (W2_3948 ++ (W2_3955 ++ []))) := D_left (D_perm hpm_3964 hD)
    have hl := lv_sub hl [2, 3, 4, 5, 6, 7] (l' := [(0, .ref b), (1, .ref d), (2, .ref m0), (3, .ref o), (4, .ref oD), (5, .int (nI i9))]) rfl
    exact W.widen (show cl + 2 ≤ cl + 20000 from by omega) (show sl + 8 ≤ sl + 45000 from by omega) (kk ls H locs C M (((q_weight (dC M) (sx9 xs (i9 + 1)))).1) W2_3948 W2_3955 of2_3947 og hP hD hS hl hq_3951 hq_3957 hLw.up)

set_option maxHeartbeats 4000000 in
theorem lawK_10 {p : Program} {l : Launch} {e : Env} {s : State} {m : MethodId} {below : List Frame} {meth : Method} {c : Code} {G : Gt} {A : Nat → Prop} {b L : Nat} {xs : Nat → Int32} {Q : State → Prop} {d m0 o oD i9 N cl sl : Nat} (hfl : l.stackTraces = false) (F : LwF G A p s m c b L xs) (hi9 : i9 + 4 ≤ L) (hN24 : N ≤ 24) (hcl : cl + 20000 ≤ 1200144) (hsl : sl + 45000 ≤ 5495674) (kk : ∀ (ls : Array Slot) (H : Heap) (locs : List Loc) (C M : DS) (th : Nat) (WD WM : va_W) (of : Nat → Int64) (og : Nat → UInt64), va_P G.1 CL ([(o, .inl (G.2 5, 1, .inr (.inl of))), (oD, .inl (G.2 6, 1, .inr (.inr (.inr (.inl og)))))] ++ (WD ++ (WM ++ []))) H → va_D A ([(o, .inl (G.2 5, 1, .inr (.inl of))), (oD, .inl (G.2 6, 1, .inr (.inr (.inr (.inl og)))))] ++ (WD ++ (WM ++ []))) → va_S A s.heap H locs → lv_has ls 10 [(0, .ref b), (1, .ref d), (2, .ref m0), (3, .ref o), (4, .ref oD), (5, .int (nI i9))] → DyW G d C WD → MdW G m0 M th WM → LawI C M (N + 1) → W p l e room_1 s m #[Value.ref b] below meth c H locs (cl + 20000) (sl + 45000) Q (F0 m 2788 ls [])) {ls : Array Slot} {H : Heap} {locs : List Loc} {C M : DS} {th : Nat} {WD WM : va_W} {of : Nat → Int64} {og : Nat → UInt64} (hP : va_P G.1 CL ([(o, .inl (G.2 5, 1, .inr (.inl of))), (oD, .inl (G.2 6, 1, .inr (.inr (.inr (.inl og)))))] ++ (WD ++ (WM ++ []))) H) (hD : va_D A ([(o, .inl (G.2 5, 1, .inr (.inl of))), (oD, .inl (G.2 6, 1, .inr (.inr (.inr (.inl og)))))] ++ (WD ++ (WM ++ [])))) (hS : va_S A s.heap H locs) (hl : lv_has ls 10 [(0, .ref b), (1, .ref d), (2, .ref m0), (3, .ref o), (4, .ref oD), (5, .int (nI i9))]) (hDy : DyW G d C WD) (hMd : MdW G m0 M th WM) (hLw : LawI C M N) : W p l e room_1 s m #[Value.ref b] below meth c H locs cl sl Q (F0 m 774 ls []) := by
  obtain ⟨cf, hKB, hE, hA, hX9, hbl, hbA, hNc, hL96⟩ := F
  have hx := cf.1
  have hb := cf.2.1
  have hml := cf.2.2.1
  have hown : s.vm.findClass RX0 = some m.cls := cf.2.2.2.1
  have hts := cf.2.2.2.2
  have hK := hKB.1
  have hIc := hDy.inv.1
  have hIm : Inv (dC M) := Inv_sim hLw.1 hIc
  have hRk : RkOk (dC M) := RkOk_sim hLw.1 (RkOk_srt hDy.inv.2.2)
  have hl := hl
  refine lv_aload_n hx hb dL_law_774 rfl (lv_at hl 1 rfl) ?_
  refine lv_aload_n hx hb dL_law_775 rfl (lv_at hl 0 rfl) ?_
  refine lv_iload hx hb dL_law_776 (lv_at hl 5 rfl) ?_
  refine lv_iconst (v := nI 1) hx hb dL_law_778 (by decide) ?_
  refine lv_iadd hx hb dL_law_779 ?_
  refine lv_ton (n := i9 + 1) (nadd (by omega)) ?_
  refine va_sld hx hb hX9 hbl hbA hS (i := nI (i9 + 1)) (vp9 (by omega) hL96) dL_law_780 ?_
  refine W.eq (g2 := F0 m 781 ls [.int (sx9 xs (i9 + 1)), .ref d]) rfl ?_
  refine lv_aload_n hx hb dL_law_781 rfl (lv_at hl 0 rfl) ?_
  refine lv_iload hx hb dL_law_782 (lv_at hl 5 rfl) ?_
  refine lv_iconst (v := nI 2) hx hb dL_law_784 (by decide) ?_
  refine lv_iadd hx hb dL_law_785 ?_
  refine lv_ton (n := i9 + 2) (nadd (by omega)) ?_
  refine va_sld hx hb hX9 hbl hbA hS (i := nI (i9 + 2)) (vp9 (by omega) hL96) dL_law_786 ?_
  refine W.eq (g2 := F0 m 787 ls [.int (sx9 xs (i9 + 2)), .int (sx9 xs (i9 + 1)), .ref d]) rfl ?_
  refine lv_aload_n hx hb dL_law_787 rfl (lv_at hl 3 rfl) ?_
  have hpm_3965 : (([(o, .inl (G.2 5, 1, .inr (.inl of))), (oD, .inl (G.2 6, 1, .inr (.inr (.inr (.inl og)))))] ++ (WD ++ (WM ++ []))) : va_W).Perm (([(o, .inl (G.2 5, 1, .inr (.inl of)))] ++ (WD ++ [])) ++ ([(oD, .inl (G.2 6, 1, .inr (.inr (.inr (.inl og)))))] ++ (WM ++ []))) := segs_perm [[(o, .inl (G.2 5, 1, .inr (.inl of)))], [(oD, .inl (G.2 6, 1, .inr (.inr (.inr (.inl og)))))], WD, WM] [0, 2] [1, 3] rfl
  have hF := hF_ofP (wc := ([(o, .inl (G.2 5, 1, .inr (.inl of)))] ++ (WD ++ []))) hD hS hA hpm_3965
  refine go_ctP hS hP hD hpm_3965 hF
      (vx_runSW (As := [.ref d, .int (sx9 xs (i9 + 1)), .int (sx9 xs (i9 + 2)), .ref o]) (rest := []) cf (wX0_zoneOf l G d C WD o of (sx9 xs (i9 + 1)) (sx9 xs (i9 + 2)) (hDy) hfl H.size) (vx_cwSW 4 hts (lw_SW q1084 q1085 q46 q1086) rfl rfl rfl (by decide +kernel) ⟨Nat.le_of_ble_eq_true rfl, Nat.le_of_ble_eq_true rfl⟩) (preS_ofW hNc hKB hE hS hF (P_left (P_perm hpm_3965 hP)) ((D_left (D_perm hpm_3965 hD)).weaken (fun _ _ _ _ => trivial)) trivial) rfl rfl hl.1 rfl (lv_room (Nat.le_of_ble_eq_true rfl)) dL_law_788 ⟨show cl + 2 ≤ 1200144 from by first | decide | omega, show sl + 8 ≤ 5495674 from by first | decide | omega⟩)
      (fun u_ H locs hq hph (hP : va_P G.1 CL (([(oD, .inl (G.2 6, 1, .inr (.inr (.inr (.inl og)))))] ++ (WM ++ [])) ++ ([(o, .inl (G.2 5, 1, .inr (.inl u_.1)))] ++ (u_.2 ++ []))) H) (hD : va_D A (([(oD, .inl (G.2 6, 1, .inr (.inr (.inr (.inl og)))))] ++ (WM ++ [])) ++ ([(o, .inl (G.2 5, 1, .inr (.inl u_.1)))] ++ (u_.2 ++ [])))) hS hfz hfk => ?_)
  obtain ⟨of2_3966, W2_3967⟩ := u_
  obtain ⟨hq_3968, hq_3969, hq_3970⟩ : ((q_zone (dC C) (sx9 xs (i9 + 1)) (sx9 xs (i9 + 2))).1 = 0 → of2_3966 0 = ((q_zone (dC C) (sx9 xs (i9 + 1)) (sx9 xs (i9 + 2))).2).toInt64) ∧ (q_zone (dC C) (sx9 xs (i9 + 1)) (sx9 xs (i9 + 2))).1 < 10 ∧ DyW G d C W2_3967 := hq
  have hpm_3971 : (([(oD, .inl (G.2 6, 1, .inr (.inr (.inr (.inl og)))))] ++ (WM ++ [])) ++ ([(o, .inl (G.2 5, 1, .inr (.inl of2_3966)))] ++ (W2_3967 ++ [])) : va_W).Perm ([(oD, .inl (G.2 6, 1, .inr (.inr (.inr (.inl og))))), (o, .inl (G.2 5, 1, .inr (.inl of2_3966)))] ++ (WM ++ (W2_3967 ++ []))) := segs_perm2 [[(oD, .inl (G.2 6, 1, .inr (.inr (.inr (.inl og)))))], WM] [[(o, .inl (G.2 5, 1, .inr (.inl of2_3966)))], W2_3967] [0, 2, 1, 3] rfl
  have hP : va_P G.1 CL ([(oD, .inl (G.2 6, 1, .inr (.inr (.inr (.inl og))))), (o, .inl (G.2 5, 1, .inr (.inl of2_3966)))] ++ (WM ++ (W2_3967 ++ []))) H := P_perm hpm_3971 hP
  have hD : va_D A ([(oD, .inl (G.2 6, 1, .inr (.inr (.inr (.inl og))))), (o, .inl (G.2 5, 1, .inr (.inl of2_3966)))] ++ (WM ++ (W2_3967 ++ []))) := D_perm hpm_3971 hD
  refine W.eq (g2 := F0 m 791 ls [.int (nI ((q_zone (dC C) (sx9 xs (i9 + 1)) (sx9 xs (i9 + 2))).1))]) rfl ?_
  have hqs : (q_zone (dC M) (sx9 xs (i9 + 1)) (sx9 xs (i9 + 2))) = (q_zone (dC C) (sx9 xs (i9 + 1)) (sx9 xs (i9 + 2))) := q_zone_sim hLw.1.symm hIm (sx9 xs (i9 + 1)) (sx9 xs (i9 + 2))
  refine lv_istore (lv' := [(6, .int (nI ((q_zone (dC C) (sx9 xs (i9 + 1)) (sx9 xs (i9 + 2))).1))), (0, .ref b), (1, .ref d), (2, .ref m0), (3, .ref o), (4, .ref oD), (5, .int (nI i9))]) hx hb dL_law_791 hl (by decide) rfl (fun ls hl => ?_)
  refine lv_aload_n hx hb dL_law_793 rfl (lv_at hl 3 rfl) ?_
  refine lv_aload_n hx hb dL_law_794 rfl (lv_at hl 1 rfl) ?_
  refine lv_iload hx hb dL_law_795 (lv_at hl 6 rfl) ?_
  refine lv_iconst (v := nI 1) hx hb dL_law_797 (by decide) ?_
  refine lv_iadd hx hb dL_law_798 ?_
  refine lv_ton (n := i9 + 1) (nadd (by omega)) ?_
  refine va_sld hx hb hX9 hbl hbA hS (i := nI (i9 + 1)) (vp9 (by omega) hL96) dL_law_799 ?_
  refine W.eq (g2 := F0 m 800 ls [.int (sx9 xs (i9 + 1)), .ref m0]) rfl ?_
  refine lv_aload_n hx hb dL_law_800 rfl (lv_at hl 1 rfl) ?_
  refine lv_iload hx hb dL_law_801 (lv_at hl 6 rfl) ?_
  refine lv_iconst (v := nI 2) hx hb dL_law_803 (by decide) ?_
  refine lv_iadd hx hb dL_law_804 ?_
  refine lv_ton (n := i9 + 2) (nadd (by omega)) ?_
  refine va_sld hx hb hX9 hbl hbA hS (i := nI (i9 + 2)) (vp9 (by omega) hL96) dL_law_805 ?_
  refine W.eq (g2 := F0 m 806 ls [.int (sx9 xs (i9 + 2)), .int (sx9 xs (i9 + 1)), .ref m0]) rfl ?_
  have hpm_3972 : (([(oD, .inl (G.2 6, 1, .inr (.inr (.inr (.inl og))))), (o, .inl (G.2 5, 1, .inr (.inl of2_3966)))] ++ (WM ++ (W2_3967 ++ []))) : va_W).Perm ((WM ++ []) ++ ([(oD, .inl (G.2 6, 1, .inr (.inr (.inr (.inl og))))), (o, .inl (G.2 5, 1, .inr (.inl of2_3966)))] ++ (W2_3967 ++ []))) := segs_perm [[(oD, .inl (G.2 6, 1, .inr (.inr (.inr (.inl og)))))], [(o, .inl (G.2 5, 1, .inr (.inl of2_3966)))], WM, W2_3967] [2] [0, 1, 3] rfl
  have hF := hF_ofP (wc := (WM ++ [])) hD hS hA hpm_3972
  refine go_ctP hS hP hD hpm_3972 hF
      (va_runV (As := [.int (sx9 xs (i9 + 1)), .int (sx9 xs (i9 + 2))]) (rest := []) cf (eX4_zoneOf l G m0 M th WM (sx9 xs (i9 + 1)) (sx9 xs (i9 + 2)) (hMd) (hIm) H.size) (cwV 2 hts (lw_V q1727 q1728 q1729 q58 q1730) rfl rfl rfl (by decide +kernel) ⟨Nat.le_of_ble_eq_true rfl, Nat.le_of_ble_eq_true rfl⟩) (preV_of hKB hE hS hF (MdW.recv hK hMd (seg_at [[(oD, .inl (G.2 6, 1, .inr (.inr (.inr (.inl og)))))], [(o, .inl (G.2 5, 1, .inr (.inl of2_3966)))], WM, W2_3967] 2 rfl hP)) (P_left (P_perm hpm_3972 hP)) ((D_left (D_perm hpm_3972 hD)).weaken (fun _ _ _ _ => trivial)) trivial) rfl rfl hl.1 rfl (lv_room (Nat.le_of_ble_eq_true rfl)) dL_law_806 ⟨show cl + 2 + 0 ≤ 1200144 from by first | decide | omega, show sl + 8 + 0 ≤ 5495674 from by first | decide | omega⟩)
      (fun u_ H locs hq hph (hP : va_P G.1 CL (([(oD, .inl (G.2 6, 1, .inr (.inr (.inr (.inl og))))), (o, .inl (G.2 5, 1, .inr (.inl of2_3966)))] ++ (W2_3967 ++ [])) ++ (u_.2 ++ [])) H) (hD : va_D A (([(oD, .inl (G.2 6, 1, .inr (.inr (.inr (.inl og))))), (o, .inl (G.2 5, 1, .inr (.inl of2_3966)))] ++ (W2_3967 ++ [])) ++ (u_.2 ++ []))) hS hfz hfk => ?_)
  obtain ⟨rr_3973, W2_3974⟩ := u_
  obtain ⟨hq_3975, hq_3976⟩ : ((q_zone (dC M) (sx9 xs (i9 + 1)) (sx9 xs (i9 + 2))).1 = 0 → rr_3973 = (q_zone (dC M) (sx9 xs (i9 + 1)) (sx9 xs (i9 + 2))).2) ∧ MdW G m0 M (q_zone (dC M) (sx9 xs (i9 + 1)) (sx9 xs (i9 + 2))).1 W2_3974 := hq
  have hpm_3977 : (([(oD, .inl (G.2 6, 1, .inr (.inr (.inr (.inl og))))), (o, .inl (G.2 5, 1, .inr (.inl of2_3966)))] ++ (W2_3967 ++ [])) ++ (W2_3974 ++ []) : va_W).Perm ([(oD, .inl (G.2 6, 1, .inr (.inr (.inr (.inl og))))), (o, .inl (G.2 5, 1, .inr (.inl of2_3966)))] ++ (W2_3967 ++ (W2_3974 ++ []))) := segs_perm2 [[(oD, .inl (G.2 6, 1, .inr (.inr (.inr (.inl og)))))], [(o, .inl (G.2 5, 1, .inr (.inl of2_3966)))], W2_3967] [W2_3974] [0, 1, 2, 3] rfl
  have hP : va_P G.1 CL ([(oD, .inl (G.2 6, 1, .inr (.inr (.inr (.inl og))))), (o, .inl (G.2 5, 1, .inr (.inl of2_3966)))] ++ (W2_3967 ++ (W2_3974 ++ []))) H := P_perm hpm_3977 hP
  have hD : va_D A ([(oD, .inl (G.2 6, 1, .inr (.inr (.inr (.inl og))))), (o, .inl (G.2 5, 1, .inr (.inl of2_3966)))] ++ (W2_3967 ++ (W2_3974 ++ []))) := D_perm hpm_3977 hD
  refine W.eq (g2 := F0 m 809 ls [.int rr_3973]) rfl ?_
  refine lv_istore (lv' := [(7, .int rr_3973), (6, .int (nI ((q_zone (dC C) (sx9 xs (i9 + 1)) (sx9 xs (i9 + 2))).1))), (0, .ref b), (1, .ref d), (2, .ref m0), (3, .ref o), (4, .ref oD), (5, .int (nI i9))]) hx hb dL_law_809 hl (by decide) rfl (fun ls hl => ?_)
  refine lv_aload_n hx hb dL_law_811 rfl (lv_at hl 4 rfl) ?_
  have hpm_3978 : (([(oD, .inl (G.2 6, 1, .inr (.inr (.inr (.inl og))))), (o, .inl (G.2 5, 1, .inr (.inl of2_3966)))] ++ (W2_3967 ++ (W2_3974 ++ []))) : va_W).Perm ([] ++ ([(oD, .inl (G.2 6, 1, .inr (.inr (.inr (.inl og))))), (o, .inl (G.2 5, 1, .inr (.inl of2_3966)))] ++ (W2_3967 ++ (W2_3974 ++ [])))) := segs_perm [[(oD, .inl (G.2 6, 1, .inr (.inr (.inr (.inl og)))))], [(o, .inl (G.2 5, 1, .inr (.inl of2_3966)))], W2_3967, W2_3974] [] [0, 1, 2, 3] rfl
  have hF := hF_ofP (wc := []) hD hS hA hpm_3978
  refine go_ctP hS hP hD hpm_3978 hF
      (va_runV (As := []) (rest := []) cf (eX4_thrown l G m0 M (((q_zone (dC M) (sx9 xs (i9 + 1)) (sx9 xs (i9 + 2)))).1) W2_3974 (hq_3976) H.size) (cwV 0 hts (lw_V q1639 q1640 q1641 q58 q1642) rfl rfl rfl (by decide +kernel) ⟨Nat.le_of_ble_eq_true rfl, Nat.le_of_ble_eq_true rfl⟩) (preV_of hKB hE hS hF (MdW.recv hK hq_3976 (seg_at [[(oD, .inl (G.2 6, 1, .inr (.inr (.inr (.inl og)))))], [(o, .inl (G.2 5, 1, .inr (.inl of2_3966)))], W2_3967, W2_3974] 3 rfl hP)) (P_left (P_perm hpm_3978 hP)) ((D_left (D_perm hpm_3978 hD)).weaken (fun _ _ _ _ => trivial)) (roW.nil (seg_at [[(oD, .inl (G.2 6, 1, .inr (.inr (.inr (.inl og)))))], [(o, .inl (G.2 5, 1, .inr (.inl of2_3966)))], W2_3967, W2_3974] 3 rfl hP))) rfl rfl hl.1 rfl (lv_room (Nat.le_of_ble_eq_true rfl)) dL_law_812 ⟨show cl + 2 + 0 ≤ 1200144 from by first | decide | omega, show sl + 8 + 0 ≤ 5495674 from by first | decide | omega⟩)
      (fun u_ H locs hq hph (hP : va_P G.1 CL (([(oD, .inl (G.2 6, 1, .inr (.inr (.inr (.inl og))))), (o, .inl (G.2 5, 1, .inr (.inl of2_3966)))] ++ (W2_3967 ++ (W2_3974 ++ []))) ++ []) H) (hD : va_D A (([(oD, .inl (G.2 6, 1, .inr (.inr (.inr (.inl og))))), (o, .inl (G.2 5, 1, .inr (.inl of2_3966)))] ++ (W2_3967 ++ (W2_3974 ++ []))) ++ [])) hS hfz hfk => ?_)
  have hpm_3979 : (([(oD, .inl (G.2 6, 1, .inr (.inr (.inr (.inl og))))), (o, .inl (G.2 5, 1, .inr (.inl of2_3966)))] ++ (W2_3967 ++ (W2_3974 ++ []))) ++ [] : va_W).Perm ([(oD, .inl (G.2 6, 1, .inr (.inr (.inr (.inl og))))), (o, .inl (G.2 5, 1, .inr (.inl of2_3966)))] ++ (W2_3967 ++ (W2_3974 ++ []))) := segs_perm2 [[(oD, .inl (G.2 6, 1, .inr (.inr (.inr (.inl og)))))], [(o, .inl (G.2 5, 1, .inr (.inl of2_3966)))], W2_3967, W2_3974] [] [0, 1, 2, 3] rfl
  have hP : va_P G.1 CL ([(oD, .inl (G.2 6, 1, .inr (.inr (.inr (.inl og))))), (o, .inl (G.2 5, 1, .inr (.inl of2_3966)))] ++ (W2_3967 ++ (W2_3974 ++ []))) H := P_perm hpm_3979 hP
  have hD : va_D A ([(oD, .inl (G.2 6, 1, .inr (.inr (.inr (.inl og))))), (o, .inl (G.2 5, 1, .inr (.inl of2_3966)))] ++ (W2_3967 ++ (W2_3974 ++ []))) := D_perm hpm_3979 hD
  refine W.eq (g2 := F0 m 815 ls [.int (nI (((q_zone (dC M) (sx9 xs (i9 + 1)) (sx9 xs (i9 + 2)))).1))]) rfl ?_
  refine lv_ton (n := ((q_zone (dC C) (sx9 xs (i9 + 1)) (sx9 xs (i9 + 2))).1)) (congrArg nI (by rw [hqs])) ?_
  refine lv_iload hx hb dL_law_815 (lv_at hl 1 rfl) ?_
  refine lv_icmp_eq (tgt := 822) hx hb dL_law_817 (by decide) (fun _ => ?_) (fun c9 => absurd rfl c9)
  refine lv_iload hx hb dL_law_822 (lv_at hl 1 rfl) ?_
  refine n_if_ne (tgt := 839) hx hb (by omega) dL_law_824 (by decide) (fun c_3980 => ?_) (fun c_3980 => ?_)
  · refine lv_goto (tgt := 2788) hx hb dL_law_839 (by decide) ?_
    have hpm_3981 : (([(oD, .inl (G.2 6, 1, .inr (.inr (.inr (.inl og))))), (o, .inl (G.2 5, 1, .inr (.inl of2_3966)))] ++ (W2_3967 ++ (W2_3974 ++ []))) : va_W).Perm (([(o, .inl (G.2 5, 1, .inr (.inl of2_3966))), (oD, .inl (G.2 6, 1, .inr (.inr (.inr (.inl og)))))] ++ (W2_3967 ++ (W2_3974 ++ []))) ++ []) := segs_perm [[(oD, .inl (G.2 6, 1, .inr (.inr (.inr (.inl og)))))], [(o, .inl (G.2 5, 1, .inr (.inl of2_3966)))], W2_3967, W2_3974] [1, 0, 2, 3] [] rfl
    have hP : va_P G.1 CL ([(o, .inl (G.2 5, 1, .inr (.inl of2_3966))), (oD, .inl (G.2 6, 1, .inr (.inr (.inr (.inl og)))))] ++ (W2_3967 ++ (W2_3974 ++ []))) H := P_left (P_perm hpm_3981 hP)
    have hD : va_D A ([(o, .inl (G.2 5, 1, .inr (.inl of2_3966))), (oD, .inl (G.2 6, 1, .inr (.inr (.inr (.inl og)))))] ++ (W2_3967 ++ (W2_3974 ++ []))) := D_left (D_perm hpm_3981 hD)
    have hl := lv_sub hl [2, 3, 4, 5, 6, 7] (l' := [(0, .ref b), (1, .ref d), (2, .ref m0), (3, .ref o), (4, .ref oD), (5, .int (nI i9))]) rfl
    exact W.widen (show cl + 2 ≤ cl + 20000 from by omega) (show sl + 8 ≤ sl + 45000 from by omega) (kk ls H locs C M (((q_zone (dC M) (sx9 xs (i9 + 1)) (sx9 xs (i9 + 2)))).1) W2_3967 W2_3974 of2_3966 og hP hD hS hl hq_3970 hq_3976 hLw.up)
  · refine lv_aload_n hx hb dL_law_827 rfl (lv_at hl 5 rfl) ?_
    refine lv_iconst (v := nI 0) hx hb dL_law_828 (by decide) ?_
    refine r_lald (v := (((q_zone (dC C) (sx9 xs (i9 + 1)) (sx9 xs (i9 + 2)))).2).toInt64) hx hb hK hP 1 5 rfl rfl (i := 0) (by omega) (by omega) ((hq_3968 (by omega))) dL_law_829 ?_
    refine lv_iload hx hb dL_law_830 (lv_at hl 0 rfl) ?_
    refine lv_toi (y := ((q_zone (dC C) (sx9 xs (i9 + 1)) (sx9 xs (i9 + 2)))).2) ((hq_3975 (by rw [hqs]; omega)).trans (by rw [hqs])) ?_
    refine lv_i2l (v := (((q_zone (dC C) (sx9 xs (i9 + 1)) (sx9 xs (i9 + 2)))).2).toInt64) hx hb dL_law_832 rfl ?_
    refine W.lcmp hx hb dL_law_833 ?_
    refine lv_ton (n := 0) (lcmp0 _) ?_
    refine n_if_eq (tgt := 839) hx hb (by omega) dL_law_834 (by decide) (fun c_3982 => ?_) (fun c_3982 => absurd c_3982 (by omega))
    refine lv_goto (tgt := 2788) hx hb dL_law_839 (by decide) ?_
    have hpm_3983 : (([(oD, .inl (G.2 6, 1, .inr (.inr (.inr (.inl og))))), (o, .inl (G.2 5, 1, .inr (.inl of2_3966)))] ++ (W2_3967 ++ (W2_3974 ++ []))) : va_W).Perm (([(o, .inl (G.2 5, 1, .inr (.inl of2_3966))), (oD, .inl (G.2 6, 1, .inr (.inr (.inr (.inl og)))))] ++ (W2_3967 ++ (W2_3974 ++ []))) ++ []) := segs_perm [[(oD, .inl (G.2 6, 1, .inr (.inr (.inr (.inl og)))))], [(o, .inl (G.2 5, 1, .inr (.inl of2_3966)))], W2_3967, W2_3974] [1, 0, 2, 3] [] rfl
    have hP : va_P G.1 CL ([(o, .inl (G.2 5, 1, .inr (.inl of2_3966))), (oD, .inl (G.2 6, 1, .inr (.inr (.inr (.inl og)))))] ++ (W2_3967 ++ (W2_3974 ++ []))) H := P_left (P_perm hpm_3983 hP)
    have hD : va_D A ([(o, .inl (G.2 5, 1, .inr (.inl of2_3966))), (oD, .inl (G.2 6, 1, .inr (.inr (.inr (.inl og)))))] ++ (W2_3967 ++ (W2_3974 ++ []))) := D_left (D_perm hpm_3983 hD)
    have hl := lv_sub hl [2, 3, 4, 5, 6, 7] (l' := [(0, .ref b), (1, .ref d), (2, .ref m0), (3, .ref o), (4, .ref oD), (5, .int (nI i9))]) rfl
    exact W.widen (show cl + 2 ≤ cl + 20000 from by omega) (show sl + 8 ≤ sl + 45000 from by omega) (kk ls H locs C M (((q_zone (dC M) (sx9 xs (i9 + 1)) (sx9 xs (i9 + 2)))).1) W2_3967 W2_3974 of2_3966 og hP hD hS hl hq_3970 hq_3976 hLw.up)

set_option maxHeartbeats 4000000 in
theorem lawK_11 {p : Program} {l : Launch} {e : Env} {s : State} {m : MethodId} {below : List Frame} {meth : Method} {c : Code} {G : Gt} {A : Nat → Prop} {b L : Nat} {xs : Nat → Int32} {Q : State → Prop} {d m0 o oD i9 N cl sl : Nat} (hfl : l.stackTraces = false) (F : LwF G A p s m c b L xs) (hi9 : i9 + 4 ≤ L) (hN24 : N ≤ 24) (hcl : cl + 20000 ≤ 1200144) (hsl : sl + 45000 ≤ 5495674) (kk : ∀ (ls : Array Slot) (H : Heap) (locs : List Loc) (C M : DS) (th : Nat) (WD WM : va_W) (of : Nat → Int64) (og : Nat → UInt64), va_P G.1 CL ([(o, .inl (G.2 5, 1, .inr (.inl of))), (oD, .inl (G.2 6, 1, .inr (.inr (.inr (.inl og)))))] ++ (WD ++ (WM ++ []))) H → va_D A ([(o, .inl (G.2 5, 1, .inr (.inl of))), (oD, .inl (G.2 6, 1, .inr (.inr (.inr (.inl og)))))] ++ (WD ++ (WM ++ []))) → va_S A s.heap H locs → lv_has ls 10 [(0, .ref b), (1, .ref d), (2, .ref m0), (3, .ref o), (4, .ref oD), (5, .int (nI i9))] → DyW G d C WD → MdW G m0 M th WM → LawI C M (N + 1) → W p l e room_1 s m #[Value.ref b] below meth c H locs (cl + 20000) (sl + 45000) Q (F0 m 2788 ls [])) {ls : Array Slot} {H : Heap} {locs : List Loc} {C M : DS} {th : Nat} {WD WM : va_W} {of : Nat → Int64} {og : Nat → UInt64} (hP : va_P G.1 CL ([(o, .inl (G.2 5, 1, .inr (.inl of))), (oD, .inl (G.2 6, 1, .inr (.inr (.inr (.inl og)))))] ++ (WD ++ (WM ++ []))) H) (hD : va_D A ([(o, .inl (G.2 5, 1, .inr (.inl of))), (oD, .inl (G.2 6, 1, .inr (.inr (.inr (.inl og)))))] ++ (WD ++ (WM ++ [])))) (hS : va_S A s.heap H locs) (hl : lv_has ls 10 [(0, .ref b), (1, .ref d), (2, .ref m0), (3, .ref o), (4, .ref oD), (5, .int (nI i9))]) (hDy : DyW G d C WD) (hMd : MdW G m0 M th WM) (hLw : LawI C M N) : W p l e room_1 s m #[Value.ref b] below meth c H locs cl sl Q (F0 m 842 ls []) := by
  obtain ⟨cf, hKB, hE, hA, hX9, hbl, hbA, hNc, hL96⟩ := F
  have hx := cf.1
  have hb := cf.2.1
  have hml := cf.2.2.1
  have hown : s.vm.findClass RX0 = some m.cls := cf.2.2.2.1
  have hts := cf.2.2.2.2
  have hK := hKB.1
  have hIc := hDy.inv.1
  have hIm : Inv (dC M) := Inv_sim hLw.1 hIc
  have hRk : RkOk (dC M) := RkOk_sim hLw.1 (RkOk_srt hDy.inv.2.2)
  have hl := hl
  refine lv_aload_n hx hb dL_law_842 rfl (lv_at hl 1 rfl) ?_
  refine lv_aload_n hx hb dL_law_843 rfl (lv_at hl 0 rfl) ?_
  refine lv_iload hx hb dL_law_844 (lv_at hl 5 rfl) ?_
  refine lv_iconst (v := nI 1) hx hb dL_law_846 (by decide) ?_
  refine lv_iadd hx hb dL_law_847 ?_
  refine lv_ton (n := i9 + 1) (nadd (by omega)) ?_
  refine va_sld hx hb hX9 hbl hbA hS (i := nI (i9 + 1)) (vp9 (by omega) hL96) dL_law_848 ?_
  refine W.eq (g2 := F0 m 849 ls [.int (sx9 xs (i9 + 1)), .ref d]) rfl ?_
  refine lv_aload_n hx hb dL_law_849 rfl (lv_at hl 3 rfl) ?_
  have hpm_3984 : (([(o, .inl (G.2 5, 1, .inr (.inl of))), (oD, .inl (G.2 6, 1, .inr (.inr (.inr (.inl og)))))] ++ (WD ++ (WM ++ []))) : va_W).Perm (([(o, .inl (G.2 5, 1, .inr (.inl of)))] ++ (WD ++ [])) ++ ([(oD, .inl (G.2 6, 1, .inr (.inr (.inr (.inl og)))))] ++ (WM ++ []))) := segs_perm [[(o, .inl (G.2 5, 1, .inr (.inl of)))], [(oD, .inl (G.2 6, 1, .inr (.inr (.inr (.inl og)))))], WD, WM] [0, 2] [1, 3] rfl
  have hF := hF_ofP (wc := ([(o, .inl (G.2 5, 1, .inr (.inl of)))] ++ (WD ++ []))) hD hS hA hpm_3984
  refine go_ctP hS hP hD hpm_3984 hF
      (vx_runSW (As := [.ref d, .int (sx9 xs (i9 + 1)), .ref o]) (rest := []) cf (wX0_addSession l G d C WD o of (sx9 xs (i9 + 1)) (hDy) (Nat.lt_of_le_of_lt hLw.2.2.2.2.2.2.2.1 (by omega)) hfl H.size) (vx_cwSW 3 hts (lw_SW q1092 q1093 q46 q1094) rfl rfl rfl (by decide +kernel) ⟨Nat.le_of_ble_eq_true rfl, Nat.le_of_ble_eq_true rfl⟩) (preS_ofW hNc hKB hE hS hF (P_left (P_perm hpm_3984 hP)) ((D_left (D_perm hpm_3984 hD)).weaken (fun _ _ _ _ => trivial)) trivial) rfl rfl hl.1 rfl (lv_room (Nat.le_of_ble_eq_true rfl)) dL_law_850 ⟨show cl + (4 + 101) ≤ 1200144 from by first | decide | omega, show sl + (64 + 5800) ≤ 5495674 from by first | decide | omega⟩)
      (fun u_ H locs hq hph (hP : va_P G.1 CL (([(oD, .inl (G.2 6, 1, .inr (.inr (.inr (.inl og)))))] ++ (WM ++ [])) ++ ([(o, .inl (G.2 5, 1, .inr (.inl u_.1)))] ++ (u_.2.2 ++ []))) H) (hD : va_D A (([(oD, .inl (G.2 6, 1, .inr (.inr (.inr (.inl og)))))] ++ (WM ++ [])) ++ ([(o, .inl (G.2 5, 1, .inr (.inl u_.1)))] ++ (u_.2.2 ++ [])))) hS hfz hfk => ?_)
  obtain ⟨of2_3985, S2_3986, W2_3987⟩ := u_
  obtain ⟨hq_3988, hq_3989, hq_3990, hq_3991⟩ : ((o_addSes (dC C) (sx9 xs (i9 + 1))).1 = 0 → of2_3985 0 = ((o_addSes (dC C) (sx9 xs (i9 + 1))).2.1).toInt64) ∧ NxS C (o_addSes (dC C) (sx9 xs (i9 + 1))) S2_3986 ∧ (o_addSes (dC C) (sx9 xs (i9 + 1))).1 < 10 ∧ DyW G d S2_3986 W2_3987 := hq
  have hpm_3992 : (([(oD, .inl (G.2 6, 1, .inr (.inr (.inr (.inl og)))))] ++ (WM ++ [])) ++ ([(o, .inl (G.2 5, 1, .inr (.inl of2_3985)))] ++ (W2_3987 ++ [])) : va_W).Perm ([(oD, .inl (G.2 6, 1, .inr (.inr (.inr (.inl og))))), (o, .inl (G.2 5, 1, .inr (.inl of2_3985)))] ++ (WM ++ (W2_3987 ++ []))) := segs_perm2 [[(oD, .inl (G.2 6, 1, .inr (.inr (.inr (.inl og)))))], WM] [[(o, .inl (G.2 5, 1, .inr (.inl of2_3985)))], W2_3987] [0, 2, 1, 3] rfl
  have hP : va_P G.1 CL ([(oD, .inl (G.2 6, 1, .inr (.inr (.inr (.inl og))))), (o, .inl (G.2 5, 1, .inr (.inl of2_3985)))] ++ (WM ++ (W2_3987 ++ []))) H := P_perm hpm_3992 hP
  have hD : va_D A ([(oD, .inl (G.2 6, 1, .inr (.inr (.inr (.inl og))))), (o, .inl (G.2 5, 1, .inr (.inl of2_3985)))] ++ (WM ++ (W2_3987 ++ []))) := D_perm hpm_3992 hD
  refine W.eq (g2 := F0 m 853 ls [.int (nI ((o_addSes (dC C) (sx9 xs (i9 + 1))).1))]) rfl ?_
  have hqs : SimR (o_addSes (dC C) (sx9 xs (i9 + 1))) (o_addSes (dC M) d) := o_addSes_sim hLw.1 hIc (sx9 xs (i9 + 1))
  refine lv_istore (lv' := [(6, .int (nI ((o_addSes (dC C) (sx9 xs (i9 + 1))).1))), (0, .ref b), (1, .ref d), (2, .ref m0), (3, .ref o), (4, .ref oD), (5, .int (nI i9))]) hx hb dL_law_853 hl (by decide) rfl (fun ls hl => ?_)
  refine lv_aload_n hx hb dL_law_855 rfl (lv_at hl 3 rfl) ?_
  refine lv_aload_n hx hb dL_law_856 rfl (lv_at hl 1 rfl) ?_
  refine lv_iload hx hb dL_law_857 (lv_at hl 6 rfl) ?_
  refine lv_iconst (v := nI 1) hx hb dL_law_859 (by decide) ?_
  refine lv_iadd hx hb dL_law_860 ?_
  refine lv_ton (n := i9 + 1) (nadd (by omega)) ?_
  refine va_sld hx hb hX9 hbl hbA hS (i := nI (i9 + 1)) (vp9 (by omega) hL96) dL_law_861 ?_
  refine W.eq (g2 := F0 m 862 ls [.int (sx9 xs (i9 + 1)), .ref m0]) rfl ?_
  have hpm_3993 : (([(oD, .inl (G.2 6, 1, .inr (.inr (.inr (.inl og))))), (o, .inl (G.2 5, 1, .inr (.inl of2_3985)))] ++ (WM ++ (W2_3987 ++ []))) : va_W).Perm ((WM ++ []) ++ ([(oD, .inl (G.2 6, 1, .inr (.inr (.inr (.inl og))))), (o, .inl (G.2 5, 1, .inr (.inl of2_3985)))] ++ (W2_3987 ++ []))) := segs_perm [[(oD, .inl (G.2 6, 1, .inr (.inr (.inr (.inl og)))))], [(o, .inl (G.2 5, 1, .inr (.inl of2_3985)))], WM, W2_3987] [2] [0, 1, 3] rfl
  have hF := hF_ofP (wc := (WM ++ [])) hD hS hA hpm_3993
  refine go_ctP hS hP hD hpm_3993 hF
      (va_runV (As := [.int (sx9 xs (i9 + 1))]) (rest := []) cf (eX4_addSession l G m0 M th WM (sx9 xs (i9 + 1)) (hMd) (hIm) H.size) (cwV 1 hts (lw_V q1731 q1732 q1733 q58 q1734) rfl rfl rfl (by decide +kernel) ⟨Nat.le_of_ble_eq_true rfl, Nat.le_of_ble_eq_true rfl⟩) (preV_of hKB hE hS hF (MdW.recv hK hMd (seg_at [[(oD, .inl (G.2 6, 1, .inr (.inr (.inr (.inl og)))))], [(o, .inl (G.2 5, 1, .inr (.inl of2_3985)))], WM, W2_3987] 2 rfl hP)) (P_left (P_perm hpm_3993 hP)) ((D_left (D_perm hpm_3993 hD)).weaken (fun _ _ _ _ => trivial)) trivial) rfl rfl hl.1 rfl (lv_room (Nat.le_of_ble_eq_true rfl)) dL_law_862 ⟨show cl + (4 + 101) + 0 ≤ 1200144 from by first | decide | omega, show sl + (64 + 5800) + 0 ≤ 5495674 from by first | decide | omega⟩)
      (fun u_ H locs hq hph (hP : va_P G.1 CL (([(oD, .inl (G.2 6, 1, .inr (.inr (.inr (.inl og))))), (o, .inl (G.2 5, 1, .inr (.inl of2_3985)))] ++ (W2_3987 ++ [])) ++ (u_.2 ++ [])) H) (hD : va_D A (([(oD, .inl (G.2 6, 1, .inr (.inr (.inr (.inl og))))), (o, .inl (G.2 5, 1, .inr (.inl of2_3985)))] ++ (W2_3987 ++ [])) ++ (u_.2 ++ []))) hS hfz hfk => ?_)
  obtain ⟨rr_3994, W2_3995⟩ := u_
  obtain ⟨hq_3996, hq_3997⟩ : ((o_addSes (dC M) (sx9 xs (i9 + 1))).1 = 0 → rr_3994 = (o_addSes (dC M) (sx9 xs (i9 + 1))).2.1) ∧ MdW G m0 (if (o_addSes (dC M) (sx9 xs (i9 + 1))).1 = 0 then (((o_addSes (dC M) (sx9 xs (i9 + 1))).2.2, dS M, min 6 (dK M + 1), hsR (dH M) (dK M) (dC M), dL M, dN M) : DS) else M) (o_addSes (dC M) (sx9 xs (i9 + 1))).1 W2_3995 := hq
  have hpm_3998 : (([(oD, .inl (G.2 6, 1, .inr (.inr (.inr (.inl og))))), (o, .inl (G.2 5, 1, .inr (.inl of2_3985)))] ++ (W2_3987 ++ [])) ++ (W2_3995 ++ []) : va_W).Perm ([(oD, .inl (G.2 6, 1, .inr (.inr (.inr (.inl og))))), (o, .inl (G.2 5, 1, .inr (.inl of2_3985)))] ++ (W2_3987 ++ (W2_3995 ++ []))) := segs_perm2 [[(oD, .inl (G.2 6, 1, .inr (.inr (.inr (.inl og)))))], [(o, .inl (G.2 5, 1, .inr (.inl of2_3985)))], W2_3987] [W2_3995] [0, 1, 2, 3] rfl
  have hP : va_P G.1 CL ([(oD, .inl (G.2 6, 1, .inr (.inr (.inr (.inl og))))), (o, .inl (G.2 5, 1, .inr (.inl of2_3985)))] ++ (W2_3987 ++ (W2_3995 ++ []))) H := P_perm hpm_3998 hP
  have hD : va_D A ([(oD, .inl (G.2 6, 1, .inr (.inr (.inr (.inl og))))), (o, .inl (G.2 5, 1, .inr (.inl of2_3985)))] ++ (W2_3987 ++ (W2_3995 ++ []))) := D_perm hpm_3998 hD
  refine W.eq (g2 := F0 m 865 ls [.int rr_3994]) rfl ?_
  refine lv_istore (lv' := [(7, .int rr_3994), (6, .int (nI ((o_addSes (dC C) (sx9 xs (i9 + 1))).1))), (0, .ref b), (1, .ref d), (2, .ref m0), (3, .ref o), (4, .ref oD), (5, .int (nI i9))]) hx hb dL_law_865 hl (by decide) rfl (fun ls hl => ?_)
  refine lv_aload_n hx hb dL_law_867 rfl (lv_at hl 4 rfl) ?_
  have hpm_3999 : (([(oD, .inl (G.2 6, 1, .inr (.inr (.inr (.inl og))))), (o, .inl (G.2 5, 1, .inr (.inl of2_3985)))] ++ (W2_3987 ++ (W2_3995 ++ []))) : va_W).Perm ([] ++ ([(oD, .inl (G.2 6, 1, .inr (.inr (.inr (.inl og))))), (o, .inl (G.2 5, 1, .inr (.inl of2_3985)))] ++ (W2_3987 ++ (W2_3995 ++ [])))) := segs_perm [[(oD, .inl (G.2 6, 1, .inr (.inr (.inr (.inl og)))))], [(o, .inl (G.2 5, 1, .inr (.inl of2_3985)))], W2_3987, W2_3995] [] [0, 1, 2, 3] rfl
  have hF := hF_ofP (wc := []) hD hS hA hpm_3999
  refine go_ctP hS hP hD hpm_3999 hF
      (va_runV (As := []) (rest := []) cf (eX4_thrown l G m0 (if ((o_addSes (dC M) d)).1 = 0 then ((((o_addSes (dC M) d)).2.2, dS M, min 6 (dK M + 1), hsR (dH M) (dK M) (dC M), dL M, dN M) : DS) else M) (((o_addSes (dC M) d)).1) W2_3995 (hq_3997) H.size) (cwV 0 hts (lw_V q1639 q1640 q1641 q58 q1642) rfl rfl rfl (by decide +kernel) ⟨Nat.le_of_ble_eq_true rfl, Nat.le_of_ble_eq_true rfl⟩) (preV_of hKB hE hS hF (MdW.recv hK hq_3997 (seg_at [[(oD, .inl (G.2 6, 1, .inr (.inr (.inr (.inl og)))))], [(o, .inl (G.2 5, 1, .inr (.inl of2_3985)))], W2_3987, W2_3995] 3 rfl hP)) (P_left (P_perm hpm_3999 hP)) ((D_left (D_perm hpm_3999 hD)).weaken (fun _ _ _ _ => trivial)) (roW.nil (seg_at [[(oD, .inl (G.2 6, 1, .inr (.inr (.inr (.inl og)))))], [(o, .inl (G.2 5, 1, .inr (.inl of2_3985)))], W2_3987, W2_3995] 3 rfl hP))) rfl rfl hl.1 rfl (lv_room (Nat.le_of_ble_eq_true rfl)) dL_law_868 ⟨show cl + (4 + 101) + 0 ≤ 1200144 from by first | decide | omega, show sl + (64 + 5800) + 0 ≤ 5495674 from by first | decide | omega⟩)
      (fun u_ H locs hq hph (hP : va_P G.1 CL (([(oD, .inl (G.2 6, 1, .inr (.inr (.inr (.inl og))))), (o, .inl (G.2 5, 1, .inr (.inl of2_3985)))] ++ (W2_3987 ++ (W2_3995 ++ []))) ++ []) H) (hD : va_D A (([(oD, .inl (G.2 6, 1, .inr (.inr (.inr (.inl og))))), (o, .inl (G.2 5, 1, .inr (.inl of2_3985)))] ++ (W2_3987 ++ (W2_3995 ++ []))) ++ [])) hS hfz hfk => ?_)
  have hpm_4000 : (([(oD, .inl (G.2 6, 1, .inr (.inr (.inr (.inl og))))), (o, .inl (G.2 5, 1, .inr (.inl of2_3985)))] ++ (W2_3987 ++ (W2_3995 ++ []))) ++ [] : va_W).Perm ([(oD, .inl (G.2 6, 1, .inr (.inr (.inr (.inl og))))), (o, .inl (G.2 5, 1, .inr (.inl of2_3985)))] ++ (W2_3987 ++ (W2_3995 ++ []))) := segs_perm2 [[(oD, .inl (G.2 6, 1, .inr (.inr (.inr (.inl og)))))], [(o, .inl (G.2 5, 1, .inr (.inl of2_3985)))], W2_3987, W2_3995] [] [0, 1, 2, 3] rfl
  have hP : va_P G.1 CL ([(oD, .inl (G.2 6, 1, .inr (.inr (.inr (.inl og))))), (o, .inl (G.2 5, 1, .inr (.inl of2_3985)))] ++ (W2_3987 ++ (W2_3995 ++ []))) H := P_perm hpm_4000 hP
  have hD : va_D A ([(oD, .inl (G.2 6, 1, .inr (.inr (.inr (.inl og))))), (o, .inl (G.2 5, 1, .inr (.inl of2_3985)))] ++ (W2_3987 ++ (W2_3995 ++ []))) := D_perm hpm_4000 hD
  refine W.eq (g2 := F0 m 871 ls [.int (nI (((o_addSes (dC M) d)).1))]) rfl ?_
  refine lv_ton (n := ((o_addSes (dC C) (sx9 xs (i9 + 1))).1)) (congrArg nI hqs.1.symm) ?_
  refine lv_iload hx hb dL_law_871 (lv_at hl 1 rfl) ?_
  refine lv_icmp_eq (tgt := 878) hx hb dL_law_873 (by decide) (fun _ => ?_) (fun c9 => absurd rfl c9)
  refine lv_iload hx hb dL_law_878 (lv_at hl 1 rfl) ?_
  refine n_if_ne (tgt := 895) hx hb (by omega) dL_law_880 (by decide) (fun c_4001 => ?_) (fun c_4001 => ?_)
  · refine lv_goto (tgt := 2788) hx hb dL_law_895 (by decide) ?_
    have hpm_4002 : (([(oD, .inl (G.2 6, 1, .inr (.inr (.inr (.inl og))))), (o, .inl (G.2 5, 1, .inr (.inl of2_3985)))] ++ (W2_3987 ++ (W2_3995 ++ []))) : va_W).Perm (([(o, .inl (G.2 5, 1, .inr (.inl of2_3985))), (oD, .inl (G.2 6, 1, .inr (.inr (.inr (.inl og)))))] ++ (W2_3987 ++ (W2_3995 ++ []))) ++ []) := segs_perm [[(oD, .inl (G.2 6, 1, .inr (.inr (.inr (.inl og)))))], [(o, .inl (G.2 5, 1, .inr (.inl of2_3985)))], W2_3987, W2_3995] [1, 0, 2, 3] [] rfl
    have hP : va_P G.1 CL ([(o, .inl (G.2 5, 1, .inr (.inl of2_3985))), (oD, .inl (G.2 6, 1, .inr (.inr (.inr (.inl og)))))] ++ (W2_3987 ++ (W2_3995 ++ []))) H := P_left (P_perm hpm_4002 hP)
    have hD : va_D A ([(o, .inl (G.2 5, 1, .inr (.inl of2_3985))), (oD, .inl (G.2 6, 1, .inr (.inr (.inr (.inl og)))))] ++ (W2_3987 ++ (W2_3995 ++ []))) := D_left (D_perm hpm_4002 hD)
    have hl := lv_sub hl [2, 3, 4, 5, 6, 7] (l' := [(0, .ref b), (1, .ref d), (2, .ref m0), (3, .ref o), (4, .ref oD), (5, .int (nI i9))]) rfl
    exact W.widen (show cl + (4 + 101) ≤ cl + 20000 from by omega) (show sl + (64 + 5800) ≤ sl + 45000 from by omega) (kk ls H locs S2_3986 (if ((o_addSes (dC M) d)).1 = 0 then ((((o_addSes (dC M) d)).2.2, dS M, min 6 (dK M + 1), hsR (dH M) (dK M) (dC M), dL M, dN M) : DS) else M) (((o_addSes (dC M) d)).1) W2_3987 W2_3995 of2_3985 og hP hD hS hl hq_3991 hq_3997 (hLw.mut hqs hq_3989 (o_addSes_b (dC C) (sx9 xs (i9 + 1)))))
  · refine lv_aload_n hx hb dL_law_883 rfl (lv_at hl 5 rfl) ?_
    refine lv_iconst (v := nI 0) hx hb dL_law_884 (by decide) ?_
    refine r_lald (v := (((o_addSes (dC C) (sx9 xs (i9 + 1)))).2.1).toInt64) hx hb hK hP 1 5 rfl rfl (i := 0) (by omega) (by omega) ((hq_3988 (by omega))) dL_law_885 ?_
    refine lv_iload hx hb dL_law_886 (lv_at hl 0 rfl) ?_
    refine lv_toi (y := ((o_addSes (dC C) (sx9 xs (i9 + 1)))).2.1) ((hq_3996 (hqs.1.symm.trans (by omega))).trans hqs.2.1.symm) ?_
    refine lv_i2l (v := (((o_addSes (dC C) (sx9 xs (i9 + 1)))).2.1).toInt64) hx hb dL_law_888 rfl ?_
    refine W.lcmp hx hb dL_law_889 ?_
    refine lv_ton (n := 0) (lcmp0 _) ?_
    refine n_if_eq (tgt := 895) hx hb (by omega) dL_law_890 (by decide) (fun c_4003 => ?_) (fun c_4003 => absurd c_4003 (by omega))
    refine lv_goto (tgt := 2788) hx hb dL_law_895 (by decide) ?_
    have hpm_4004 : (([(oD, .inl (G.2 6, 1, .inr (.inr (.inr (.inl og))))), (o, .inl (G.2 5, 1, .inr (.inl of2_3985)))] ++ (W2_3987 ++ (W2_3995 ++ []))) : va_W).Perm (([(o, .inl (G.2 5, 1, .inr (.inl of2_3985))), (oD, .inl (G.2 6, 1, .inr (.inr (.inr (.inl og)))))] ++ (W2_3987 ++ (W2_3995 ++ []))) ++ []) := segs_perm [[(oD, .inl (G.2 6, 1, .inr (.inr (.inr (.inl og)))))], [(o, .inl (G.2 5, 1, .inr (.inl of2_3985)))], W2_3987, W2_3995] [1, 0, 2, 3] [] rfl
    have hP : va_P G.1 CL ([(o, .inl (G.2 5, 1, .inr (.inl of2_3985))), (oD, .inl (G.2 6, 1, .inr (.inr (.inr (.inl og)))))] ++ (W2_3987 ++ (W2_3995 ++ []))) H := P_left (P_perm hpm_4004 hP)
    have hD : va_D A ([(o, .inl (G.2 5, 1, .inr (.inl of2_3985))), (oD, .inl (G.2 6, 1, .inr (.inr (.inr (.inl og)))))] ++ (W2_3987 ++ (W2_3995 ++ []))) := D_left (D_perm hpm_4004 hD)
    have hl := lv_sub hl [2, 3, 4, 5, 6, 7] (l' := [(0, .ref b), (1, .ref d), (2, .ref m0), (3, .ref o), (4, .ref oD), (5, .int (nI i9))]) rfl
    exact W.widen (show cl + (4 + 101) ≤ cl + 20000 from by omega) (show sl + (64 + 5800) ≤ sl + 45000 from by omega) (kk ls H locs S2_3986 (if ((o_addSes (dC M) d)).1 = 0 then ((((o_addSes (dC M) d)).2.2, dS M, min 6 (dK M + 1), hsR (dH M) (dK M) (dC M), dL M, dN M) : DS) else M) (((o_addSes (dC M) d)).1) W2_3987 W2_3995 of2_3985 og hP hD hS hl hq_3991 hq_3997 (hLw.mut hqs hq_3989 (o_addSes_b (dC C) (sx9 xs (i9 + 1)))))

set_option maxHeartbeats 4000000 in
theorem lawK_12 {p : Program} {l : Launch} {e : Env} {s : State} {m : MethodId} {below : List Frame} {meth : Method} {c : Code} {G : Gt} {A : Nat → Prop} {b L : Nat} {xs : Nat → Int32} {Q : State → Prop} {d m0 o oD i9 N cl sl : Nat} (hfl : l.stackTraces = false) (F : LwF G A p s m c b L xs) (hi9 : i9 + 4 ≤ L) (hN24 : N ≤ 24) (hcl : cl + 20000 ≤ 1200144) (hsl : sl + 45000 ≤ 5495674) (kk : ∀ (ls : Array Slot) (H : Heap) (locs : List Loc) (C M : DS) (th : Nat) (WD WM : va_W) (of : Nat → Int64) (og : Nat → UInt64), va_P G.1 CL ([(o, .inl (G.2 5, 1, .inr (.inl of))), (oD, .inl (G.2 6, 1, .inr (.inr (.inr (.inl og)))))] ++ (WD ++ (WM ++ []))) H → va_D A ([(o, .inl (G.2 5, 1, .inr (.inl of))), (oD, .inl (G.2 6, 1, .inr (.inr (.inr (.inl og)))))] ++ (WD ++ (WM ++ []))) → va_S A s.heap H locs → lv_has ls 10 [(0, .ref b), (1, .ref d), (2, .ref m0), (3, .ref o), (4, .ref oD), (5, .int (nI i9))] → DyW G d C WD → MdW G m0 M th WM → LawI C M (N + 1) → W p l e room_1 s m #[Value.ref b] below meth c H locs (cl + 20000) (sl + 45000) Q (F0 m 2788 ls [])) {ls : Array Slot} {H : Heap} {locs : List Loc} {C M : DS} {th : Nat} {WD WM : va_W} {of : Nat → Int64} {og : Nat → UInt64} (hP : va_P G.1 CL ([(o, .inl (G.2 5, 1, .inr (.inl of))), (oD, .inl (G.2 6, 1, .inr (.inr (.inr (.inl og)))))] ++ (WD ++ (WM ++ []))) H) (hD : va_D A ([(o, .inl (G.2 5, 1, .inr (.inl of))), (oD, .inl (G.2 6, 1, .inr (.inr (.inr (.inl og)))))] ++ (WD ++ (WM ++ [])))) (hS : va_S A s.heap H locs) (hl : lv_has ls 10 [(0, .ref b), (1, .ref d), (2, .ref m0), (3, .ref o), (4, .ref oD), (5, .int (nI i9))]) (hDy : DyW G d C WD) (hMd : MdW G m0 M th WM) (hLw : LawI C M N) : W p l e room_1 s m #[Value.ref b] below meth c H locs cl sl Q (F0 m 898 ls []) := by
  obtain ⟨cf, hKB, hE, hA, hX9, hbl, hbA, hNc, hL96⟩ := F
  have hx := cf.1
  have hb := cf.2.1
  have hml := cf.2.2.1
  have hown : s.vm.findClass RX0 = some m.cls := cf.2.2.2.1
  have hts := cf.2.2.2.2
  have hK := hKB.1
  have hIc := hDy.inv.1
  have hIm : Inv (dC M) := Inv_sim hLw.1 hIc
  have hRk : RkOk (dC M) := RkOk_sim hLw.1 (RkOk_srt hDy.inv.2.2)
  have hl := hl
  refine lv_aload_n hx hb dL_law_898 rfl (lv_at hl 1 rfl) ?_
  refine lv_aload_n hx hb dL_law_899 rfl (lv_at hl 0 rfl) ?_
  refine lv_iload hx hb dL_law_900 (lv_at hl 5 rfl) ?_
  refine lv_iconst (v := nI 1) hx hb dL_law_902 (by decide) ?_
  refine lv_iadd hx hb dL_law_903 ?_
  refine lv_ton (n := i9 + 1) (nadd (by omega)) ?_
  refine va_sld hx hb hX9 hbl hbA hS (i := nI (i9 + 1)) (vp9 (by omega) hL96) dL_law_904 ?_
  refine W.eq (g2 := F0 m 905 ls [.int (sx9 xs (i9 + 1)), .ref d]) rfl ?_
  refine lv_aload_n hx hb dL_law_905 rfl (lv_at hl 0 rfl) ?_
  refine lv_iload hx hb dL_law_906 (lv_at hl 5 rfl) ?_
  refine lv_iconst (v := nI 2) hx hb dL_law_908 (by decide) ?_
  refine lv_iadd hx hb dL_law_909 ?_
  refine lv_ton (n := i9 + 2) (nadd (by omega)) ?_
  refine va_sld hx hb hX9 hbl hbA hS (i := nI (i9 + 2)) (vp9 (by omega) hL96) dL_law_910 ?_
  refine W.eq (g2 := F0 m 911 ls [.int (sx9 xs (i9 + 2)), .int (sx9 xs (i9 + 1)), .ref d]) rfl ?_
  refine lv_aload_n hx hb dL_law_911 rfl (lv_at hl 0 rfl) ?_
  refine lv_iload hx hb dL_law_912 (lv_at hl 5 rfl) ?_
  refine lv_iconst (v := nI 3) hx hb dL_law_914 (by decide) ?_
  refine lv_iadd hx hb dL_law_915 ?_
  refine lv_ton (n := i9 + 3) (nadd (by omega)) ?_
  refine va_sld hx hb hX9 hbl hbA hS (i := nI (i9 + 3)) (vp9 (by omega) hL96) dL_law_916 ?_
  refine W.eq (g2 := F0 m 917 ls [.int (sx9 xs (i9 + 3)), .int (sx9 xs (i9 + 2)), .int (sx9 xs (i9 + 1)), .ref d]) rfl ?_
  refine lv_aload_n hx hb dL_law_917 rfl (lv_at hl 3 rfl) ?_
  have hpm_4005 : (([(o, .inl (G.2 5, 1, .inr (.inl of))), (oD, .inl (G.2 6, 1, .inr (.inr (.inr (.inl og)))))] ++ (WD ++ (WM ++ []))) : va_W).Perm (([(o, .inl (G.2 5, 1, .inr (.inl of)))] ++ (WD ++ [])) ++ ([(oD, .inl (G.2 6, 1, .inr (.inr (.inr (.inl og)))))] ++ (WM ++ []))) := segs_perm [[(o, .inl (G.2 5, 1, .inr (.inl of)))], [(oD, .inl (G.2 6, 1, .inr (.inr (.inr (.inl og)))))], WD, WM] [0, 2] [1, 3] rfl
  have hF := hF_ofP (wc := ([(o, .inl (G.2 5, 1, .inr (.inl of)))] ++ (WD ++ []))) hD hS hA hpm_4005
  refine go_ctP hS hP hD hpm_4005 hF
      (vx_runSW (As := [.ref d, .int (sx9 xs (i9 + 1)), .int (sx9 xs (i9 + 2)), .int (sx9 xs (i9 + 3)), .ref o]) (rest := []) cf (wX0_addPart l G d C WD o of (sx9 xs (i9 + 1)) (sx9 xs (i9 + 2)) (sx9 xs (i9 + 3)) (hDy) hfl H.size) (vx_cwSW 5 hts (lw_SW q1127 q1128 q46 q1129) rfl rfl rfl (by decide +kernel) ⟨Nat.le_of_ble_eq_true rfl, Nat.le_of_ble_eq_true rfl⟩) (preS_ofW hNc hKB hE hS hF (P_left (P_perm hpm_4005 hP)) ((D_left (D_perm hpm_4005 hD)).weaken (fun _ _ _ _ => trivial)) trivial) rfl rfl hl.1 rfl (lv_room (Nat.le_of_ble_eq_true rfl)) dL_law_918 ⟨show cl + (5 + 101) ≤ 1200144 from by first | decide | omega, show sl + (90 + 5800) ≤ 5495674 from by first | decide | omega⟩)
      (fun u_ H locs hq hph (hP : va_P G.1 CL (([(oD, .inl (G.2 6, 1, .inr (.inr (.inr (.inl og)))))] ++ (WM ++ [])) ++ ([(o, .inl (G.2 5, 1, .inr (.inl u_.1)))] ++ (u_.2.2 ++ []))) H) (hD : va_D A (([(oD, .inl (G.2 6, 1, .inr (.inr (.inr (.inl og)))))] ++ (WM ++ [])) ++ ([(o, .inl (G.2 5, 1, .inr (.inl u_.1)))] ++ (u_.2.2 ++ [])))) hS hfz hfk => ?_)
  obtain ⟨of2_4006, S2_4007, W2_4008⟩ := u_
  obtain ⟨hq_4009, hq_4010, hq_4011, hq_4012⟩ : ((o_addPart (dC C) (sx9 xs (i9 + 1)) (sx9 xs (i9 + 2)) (sx9 xs (i9 + 3))).1 = 0 → of2_4006 0 = ((o_addPart (dC C) (sx9 xs (i9 + 1)) (sx9 xs (i9 + 2)) (sx9 xs (i9 + 3))).2.1).toInt64) ∧ NxS C (o_addPart (dC C) (sx9 xs (i9 + 1)) (sx9 xs (i9 + 2)) (sx9 xs (i9 + 3))) S2_4007 ∧ (o_addPart (dC C) (sx9 xs (i9 + 1)) (sx9 xs (i9 + 2)) (sx9 xs (i9 + 3))).1 < 10 ∧ DyW G d S2_4007 W2_4008 := hq
  have hpm_4013 : (([(oD, .inl (G.2 6, 1, .inr (.inr (.inr (.inl og)))))] ++ (WM ++ [])) ++ ([(o, .inl (G.2 5, 1, .inr (.inl of2_4006)))] ++ (W2_4008 ++ [])) : va_W).Perm ([(oD, .inl (G.2 6, 1, .inr (.inr (.inr (.inl og))))), (o, .inl (G.2 5, 1, .inr (.inl of2_4006)))] ++ (WM ++ (W2_4008 ++ []))) := segs_perm2 [[(oD, .inl (G.2 6, 1, .inr (.inr (.inr (.inl og)))))], WM] [[(o, .inl (G.2 5, 1, .inr (.inl of2_4006)))], W2_4008] [0, 2, 1, 3] rfl
  have hP : va_P G.1 CL ([(oD, .inl (G.2 6, 1, .inr (.inr (.inr (.inl og))))), (o, .inl (G.2 5, 1, .inr (.inl of2_4006)))] ++ (WM ++ (W2_4008 ++ []))) H := P_perm hpm_4013 hP
  have hD : va_D A ([(oD, .inl (G.2 6, 1, .inr (.inr (.inr (.inl og))))), (o, .inl (G.2 5, 1, .inr (.inl of2_4006)))] ++ (WM ++ (W2_4008 ++ []))) := D_perm hpm_4013 hD
  refine W.eq (g2 := F0 m 921 ls [.int (nI ((o_addPart (dC C) (sx9 xs (i9 + 1)) (sx9 xs (i9 + 2)) (sx9 xs (i9 + 3))).1))]) rfl ?_
  have hqs : SimR (o_addPart (dC C) (sx9 xs (i9 + 1)) (sx9 xs (i9 + 2)) (sx9 xs (i9 + 3))) (o_addPart (dC M) id mn it) := o_addPart_sim hLw.1 hIc (sx9 xs (i9 + 1)) (sx9 xs (i9 + 2)) (sx9 xs (i9 + 3))
  refine lv_istore (lv' := [(6, .int (nI ((o_addPart (dC C) (sx9 xs (i9 + 1)) (sx9 xs (i9 + 2)) (sx9 xs (i9 + 3))).1))), (0, .ref b), (1, .ref d), (2, .ref m0), (3, .ref o), (4, .ref oD), (5, .int (nI i9))]) hx hb dL_law_921 hl (by decide) rfl (fun ls hl => ?_)
  refine lv_aload_n hx hb dL_law_923 rfl (lv_at hl 3 rfl) ?_
  refine lv_aload_n hx hb dL_law_924 rfl (lv_at hl 1 rfl) ?_
  refine lv_iload hx hb dL_law_925 (lv_at hl 6 rfl) ?_
  refine lv_iconst (v := nI 1) hx hb dL_law_927 (by decide) ?_
  refine lv_iadd hx hb dL_law_928 ?_
  refine lv_ton (n := i9 + 1) (nadd (by omega)) ?_
  refine va_sld hx hb hX9 hbl hbA hS (i := nI (i9 + 1)) (vp9 (by omega) hL96) dL_law_929 ?_
  refine W.eq (g2 := F0 m 930 ls [.int (sx9 xs (i9 + 1)), .ref m0]) rfl ?_
  refine lv_aload_n hx hb dL_law_930 rfl (lv_at hl 1 rfl) ?_
  refine lv_iload hx hb dL_law_931 (lv_at hl 6 rfl) ?_
  refine lv_iconst (v := nI 2) hx hb dL_law_933 (by decide) ?_
  refine lv_iadd hx hb dL_law_934 ?_
  refine lv_ton (n := i9 + 2) (nadd (by omega)) ?_
  refine va_sld hx hb hX9 hbl hbA hS (i := nI (i9 + 2)) (vp9 (by omega) hL96) dL_law_935 ?_
  refine W.eq (g2 := F0 m 936 ls [.int (sx9 xs (i9 + 2)), .int (sx9 xs (i9 + 1)), .ref m0]) rfl ?_
  refine lv_aload_n hx hb dL_law_936 rfl (lv_at hl 1 rfl) ?_
  refine lv_iload hx hb dL_law_937 (lv_at hl 6 rfl) ?_
  refine lv_iconst (v := nI 3) hx hb dL_law_939 (by decide) ?_
  refine lv_iadd hx hb dL_law_940 ?_
  refine lv_ton (n := i9 + 3) (nadd (by omega)) ?_
  refine va_sld hx hb hX9 hbl hbA hS (i := nI (i9 + 3)) (vp9 (by omega) hL96) dL_law_941 ?_
  refine W.eq (g2 := F0 m 942 ls [.int (sx9 xs (i9 + 3)), .int (sx9 xs (i9 + 2)), .int (sx9 xs (i9 + 1)), .ref m0]) rfl ?_
  have hpm_4014 : (([(oD, .inl (G.2 6, 1, .inr (.inr (.inr (.inl og))))), (o, .inl (G.2 5, 1, .inr (.inl of2_4006)))] ++ (WM ++ (W2_4008 ++ []))) : va_W).Perm ((WM ++ []) ++ ([(oD, .inl (G.2 6, 1, .inr (.inr (.inr (.inl og))))), (o, .inl (G.2 5, 1, .inr (.inl of2_4006)))] ++ (W2_4008 ++ []))) := segs_perm [[(oD, .inl (G.2 6, 1, .inr (.inr (.inr (.inl og)))))], [(o, .inl (G.2 5, 1, .inr (.inl of2_4006)))], WM, W2_4008] [2] [0, 1, 3] rfl
  have hF := hF_ofP (wc := (WM ++ [])) hD hS hA hpm_4014
  refine go_ctP hS hP hD hpm_4014 hF
      (va_runV (As := [.int (sx9 xs (i9 + 1)), .int (sx9 xs (i9 + 2)), .int (sx9 xs (i9 + 3))]) (rest := []) cf (eX4_addPart l G m0 M th WM (sx9 xs (i9 + 1)) (sx9 xs (i9 + 2)) (sx9 xs (i9 + 3)) (hMd) (hIm) H.size) (cwV 3 hts (lw_V q1735 q1736 q1737 q58 q1738) rfl rfl rfl (by decide +kernel) ⟨Nat.le_of_ble_eq_true rfl, Nat.le_of_ble_eq_true rfl⟩) (preV_of hKB hE hS hF (MdW.recv hK hMd (seg_at [[(oD, .inl (G.2 6, 1, .inr (.inr (.inr (.inl og)))))], [(o, .inl (G.2 5, 1, .inr (.inl of2_4006)))], WM, W2_4008] 2 rfl hP)) (P_left (P_perm hpm_4014 hP)) ((D_left (D_perm hpm_4014 hD)).weaken (fun _ _ _ _ => trivial)) trivial) rfl rfl hl.1 rfl (lv_room (Nat.le_of_ble_eq_true rfl)) dL_law_942 ⟨show cl + (5 + 101) + 0 ≤ 1200144 from by first | decide | omega, show sl + (90 + 5800) + 0 ≤ 5495674 from by first | decide | omega⟩)
      (fun u_ H locs hq hph (hP : va_P G.1 CL (([(oD, .inl (G.2 6, 1, .inr (.inr (.inr (.inl og))))), (o, .inl (G.2 5, 1, .inr (.inl of2_4006)))] ++ (W2_4008 ++ [])) ++ (u_.2 ++ [])) H) (hD : va_D A (([(oD, .inl (G.2 6, 1, .inr (.inr (.inr (.inl og))))), (o, .inl (G.2 5, 1, .inr (.inl of2_4006)))] ++ (W2_4008 ++ [])) ++ (u_.2 ++ []))) hS hfz hfk => ?_)
  obtain ⟨rr_4015, W2_4016⟩ := u_
  obtain ⟨hq_4017, hq_4018⟩ : ((o_addPart (dC M) (sx9 xs (i9 + 1)) (sx9 xs (i9 + 2)) (sx9 xs (i9 + 3))).1 = 0 → rr_4015 = (o_addPart (dC M) (sx9 xs (i9 + 1)) (sx9 xs (i9 + 2)) (sx9 xs (i9 + 3))).2.1) ∧ MdW G m0 (if (o_addPart (dC M) (sx9 xs (i9 + 1)) (sx9 xs (i9 + 2)) (sx9 xs (i9 + 3))).1 = 0 then (((o_addPart (dC M) (sx9 xs (i9 + 1)) (sx9 xs (i9 + 2)) (sx9 xs (i9 + 3))).2.2, dS M, min 6 (dK M + 1), hsR (dH M) (dK M) (dC M), dL M, dN M) : DS) else M) (o_addPart (dC M) (sx9 xs (i9 + 1)) (sx9 xs (i9 + 2)) (sx9 xs (i9 + 3))).1 W2_4016 := hq
  have hpm_4019 : (([(oD, .inl (G.2 6, 1, .inr (.inr (.inr (.inl og))))), (o, .inl (G.2 5, 1, .inr (.inl of2_4006)))] ++ (W2_4008 ++ [])) ++ (W2_4016 ++ []) : va_W).Perm ([(oD, .inl (G.2 6, 1, .inr (.inr (.inr (.inl og))))), (o, .inl (G.2 5, 1, .inr (.inl of2_4006)))] ++ (W2_4008 ++ (W2_4016 ++ []))) := segs_perm2 [[(oD, .inl (G.2 6, 1, .inr (.inr (.inr (.inl og)))))], [(o, .inl (G.2 5, 1, .inr (.inl of2_4006)))], W2_4008] [W2_4016] [0, 1, 2, 3] rfl
  have hP : va_P G.1 CL ([(oD, .inl (G.2 6, 1, .inr (.inr (.inr (.inl og))))), (o, .inl (G.2 5, 1, .inr (.inl of2_4006)))] ++ (W2_4008 ++ (W2_4016 ++ []))) H := P_perm hpm_4019 hP
  have hD : va_D A ([(oD, .inl (G.2 6, 1, .inr (.inr (.inr (.inl og))))), (o, .inl (G.2 5, 1, .inr (.inl of2_4006)))] ++ (W2_4008 ++ (W2_4016 ++ []))) := D_perm hpm_4019 hD
  refine W.eq (g2 := F0 m 945 ls [.int rr_4015]) rfl ?_
  refine lv_istore (lv' := [(7, .int rr_4015), (6, .int (nI ((o_addPart (dC C) (sx9 xs (i9 + 1)) (sx9 xs (i9 + 2)) (sx9 xs (i9 + 3))).1))), (0, .ref b), (1, .ref d), (2, .ref m0), (3, .ref o), (4, .ref oD), (5, .int (nI i9))]) hx hb dL_law_945 hl (by decide) rfl (fun ls hl => ?_)
  refine lv_aload_n hx hb dL_law_947 rfl (lv_at hl 4 rfl) ?_
  have hpm_4020 : (([(oD, .inl (G.2 6, 1, .inr (.inr (.inr (.inl og))))), (o, .inl (G.2 5, 1, .inr (.inl of2_4006)))] ++ (W2_4008 ++ (W2_4016 ++ []))) : va_W).Perm ([] ++ ([(oD, .inl (G.2 6, 1, .inr (.inr (.inr (.inl og))))), (o, .inl (G.2 5, 1, .inr (.inl of2_4006)))] ++ (W2_4008 ++ (W2_4016 ++ [])))) := segs_perm [[(oD, .inl (G.2 6, 1, .inr (.inr (.inr (.inl og)))))], [(o, .inl (G.2 5, 1, .inr (.inl of2_4006)))], W2_4008, W2_4016] [] [0, 1, 2, 3] rfl
  have hF := hF_ofP (wc := []) hD hS hA hpm_4020
  refine go_ctP hS hP hD hpm_4020 hF
      (va_runV (As := []) (rest := []) cf (eX4_thrown l G m0 (if ((o_addPart (dC M) id mn it)).1 = 0 then ((((o_addPart (dC M) id mn it)).2.2, dS M, min 6 (dK M + 1), hsR (dH M) (dK M) (dC M), dL M, dN M) : DS) else M) (((o_addPart (dC M) id mn it)).1) W2_4016 (hq_4018) H.size) (cwV 0 hts (lw_V q1639 q1640 q1641 q58 q1642) rfl rfl rfl (by decide +kernel) ⟨Nat.le_of_ble_eq_true rfl, Nat.le_of_ble_eq_true rfl⟩) (preV_of hKB hE hS hF (MdW.recv hK hq_4018 (seg_at [[(oD, .inl (G.2 6, 1, .inr (.inr (.inr (.inl og)))))], [(o, .inl (G.2 5, 1, .inr (.inl of2_4006)))], W2_4008, W2_4016] 3 rfl hP)) (P_left (P_perm hpm_4020 hP)) ((D_left (D_perm hpm_4020 hD)).weaken (fun _ _ _ _ => trivial)) (roW.nil (seg_at [[(oD, .inl (G.2 6, 1, .inr (.inr (.inr (.inl og)))))], [(o, .inl (G.2 5, 1, .inr (.inl of2_4006)))], W2_4008, W2_4016] 3 rfl hP))) rfl rfl hl.1 rfl (lv_room (Nat.le_of_ble_eq_true rfl)) dL_law_948 ⟨show cl + (5 + 101) + 0 ≤ 1200144 from by first | decide | omega, show sl + (90 + 5800) + 0 ≤ 5495674 from by first | decide | omega⟩)
      (fun u_ H locs hq hph (hP : va_P G.1 CL (([(oD, .inl (G.2 6, 1, .inr (.inr (.inr (.inl og))))), (o, .inl (G.2 5, 1, .inr (.inl of2_4006)))] ++ (W2_4008 ++ (W2_4016 ++ []))) ++ []) H) (hD : va_D A (([(oD, .inl (G.2 6, 1, .inr (.inr (.inr (.inl og))))), (o, .inl (G.2 5, 1, .inr (.inl of2_4006)))] ++ (W2_4008 ++ (W2_4016 ++ []))) ++ [])) hS hfz hfk => ?_)
  have hpm_4021 : (([(oD, .inl (G.2 6, 1, .inr (.inr (.inr (.inl og))))), (o, .inl (G.2 5, 1, .inr (.inl of2_4006)))] ++ (W2_4008 ++ (W2_4016 ++ []))) ++ [] : va_W).Perm ([(oD, .inl (G.2 6, 1, .inr (.inr (.inr (.inl og))))), (o, .inl (G.2 5, 1, .inr (.inl of2_4006)))] ++ (W2_4008 ++ (W2_4016 ++ []))) := segs_perm2 [[(oD, .inl (G.2 6, 1, .inr (.inr (.inr (.inl og)))))], [(o, .inl (G.2 5, 1, .inr (.inl of2_4006)))], W2_4008, W2_4016] [] [0, 1, 2, 3] rfl
  have hP : va_P G.1 CL ([(oD, .inl (G.2 6, 1, .inr (.inr (.inr (.inl og))))), (o, .inl (G.2 5, 1, .inr (.inl of2_4006)))] ++ (W2_4008 ++ (W2_4016 ++ []))) H := P_perm hpm_4021 hP
  have hD : va_D A ([(oD, .inl (G.2 6, 1, .inr (.inr (.inr (.inl og))))), (o, .inl (G.2 5, 1, .inr (.inl of2_4006)))] ++ (W2_4008 ++ (W2_4016 ++ []))) := D_perm hpm_4021 hD
  refine W.eq (g2 := F0 m 951 ls [.int (nI (((o_addPart (dC M) id mn it)).1))]) rfl ?_
  refine lv_ton (n := ((o_addPart (dC C) (sx9 xs (i9 + 1)) (sx9 xs (i9 + 2)) (sx9 xs (i9 + 3))).1)) (congrArg nI hqs.1.symm) ?_
  refine lv_iload hx hb dL_law_951 (lv_at hl 1 rfl) ?_
  refine lv_icmp_eq (tgt := 958) hx hb dL_law_953 (by decide) (fun _ => ?_) (fun c9 => absurd rfl c9)
  refine lv_iload hx hb dL_law_958 (lv_at hl 1 rfl) ?_
  refine n_if_ne (tgt := 975) hx hb (by omega) dL_law_960 (by decide) (fun c_4022 => ?_) (fun c_4022 => ?_)
  · refine lv_goto (tgt := 2788) hx hb dL_law_975 (by decide) ?_
    have hpm_4023 : (([(oD, .inl (G.2 6, 1, .inr (.inr (.inr (.inl og))))), (o, .inl (G.2 5, 1, .inr (.inl of2_4006)))] ++ (W2_4008 ++ (W2_4016 ++ []))) : va_W).Perm (([(o, .inl (G.2 5, 1, .inr (.inl of2_4006))), (oD, .inl (G.2 6, 1, .inr (.inr (.inr (.inl og)))))] ++ (W2_4008 ++ (W2_4016 ++ []))) ++ []) := segs_perm [[(oD, .inl (G.2 6, 1, .inr (.inr (.inr (.inl og)))))], [(o, .inl (G.2 5, 1, .inr (.inl of2_4006)))], W2_4008, W2_4016] [1, 0, 2, 3] [] rfl
    have hP : va_P G.1 CL ([(o, .inl (G.2 5, 1, .inr (.inl of2_4006))), (oD, .inl (G.2 6, 1, .inr (.inr (.inr (.inl og)))))] ++ (W2_4008 ++ (W2_4016 ++ []))) H := P_left (P_perm hpm_4023 hP)
    have hD : va_D A ([(o, .inl (G.2 5, 1, .inr (.inl of2_4006))), (oD, .inl (G.2 6, 1, .inr (.inr (.inr (.inl og)))))] ++ (W2_4008 ++ (W2_4016 ++ []))) := D_left (D_perm hpm_4023 hD)
    have hl := lv_sub hl [2, 3, 4, 5, 6, 7] (l' := [(0, .ref b), (1, .ref d), (2, .ref m0), (3, .ref o), (4, .ref oD), (5, .int (nI i9))]) rfl
    exact W.widen (show cl + (5 + 101) ≤ cl + 20000 from by omega) (show sl + (90 + 5800) ≤ sl + 45000 from by omega) (kk ls H locs S2_4007 (if ((o_addPart (dC M) id mn it)).1 = 0 then ((((o_addPart (dC M) id mn it)).2.2, dS M, min 6 (dK M + 1), hsR (dH M) (dK M) (dC M), dL M, dN M) : DS) else M) (((o_addPart (dC M) id mn it)).1) W2_4008 W2_4016 of2_4006 og hP hD hS hl hq_4012 hq_4018 (hLw.mut hqs hq_4010 (o_addPart_b (dC C) (sx9 xs (i9 + 1)) (sx9 xs (i9 + 2)) (sx9 xs (i9 + 3)))))
  · refine lv_aload_n hx hb dL_law_963 rfl (lv_at hl 5 rfl) ?_
    refine lv_iconst (v := nI 0) hx hb dL_law_964 (by decide) ?_
    refine r_lald (v := (((o_addPart (dC C) (sx9 xs (i9 + 1)) (sx9 xs (i9 + 2)) (sx9 xs (i9 + 3)))).2.1).toInt64) hx hb hK hP 1 5 rfl rfl (i := 0) (by omega) (by omega) ((hq_4009 (by omega))) dL_law_965 ?_
    refine lv_iload hx hb dL_law_966 (lv_at hl 0 rfl) ?_
    refine lv_toi (y := ((o_addPart (dC C) (sx9 xs (i9 + 1)) (sx9 xs (i9 + 2)) (sx9 xs (i9 + 3)))).2.1) ((hq_4017 (hqs.1.symm.trans (by omega))).trans hqs.2.1.symm) ?_
    refine lv_i2l (v := (((o_addPart (dC C) (sx9 xs (i9 + 1)) (sx9 xs (i9 + 2)) (sx9 xs (i9 + 3)))).2.1).toInt64) hx hb dL_law_968 rfl ?_
    refine W.lcmp hx hb dL_law_969 ?_
    refine lv_ton (n := 0) (lcmp0 _) ?_
    refine n_if_eq (tgt := 975) hx hb (by omega) dL_law_970 (by decide) (fun c_4024 => ?_) (fun c_4024 => absurd c_4024 (by omega))
    refine lv_goto (tgt := 2788) hx hb dL_law_975 (by decide) ?_
    have hpm_4025 : (([(oD, .inl (G.2 6, 1, .inr (.inr (.inr (.inl og))))), (o, .inl (G.2 5, 1, .inr (.inl of2_4006)))] ++ (W2_4008 ++ (W2_4016 ++ []))) : va_W).Perm (([(o, .inl (G.2 5, 1, .inr (.inl of2_4006))), (oD, .inl (G.2 6, 1, .inr (.inr (.inr (.inl og)))))] ++ (W2_4008 ++ (W2_4016 ++ []))) ++ []) := segs_perm [[(oD, .inl (G.2 6, 1, .inr (.inr (.inr (.inl og)))))], [(o, .inl (G.2 5, 1, .inr (.inl of2_4006)))], W2_4008, W2_4016] [1, 0, 2, 3] [] rfl
    have hP : va_P G.1 CL ([(o, .inl (G.2 5, 1, .inr (.inl of2_4006))), (oD, .inl (G.2 6, 1, .inr (.inr (.inr (.inl og)))))] ++ (W2_4008 ++ (W2_4016 ++ []))) H := P_left (P_perm hpm_4025 hP)
    have hD : va_D A ([(o, .inl (G.2 5, 1, .inr (.inl of2_4006))), (oD, .inl (G.2 6, 1, .inr (.inr (.inr (.inl og)))))] ++ (W2_4008 ++ (W2_4016 ++ []))) := D_left (D_perm hpm_4025 hD)
    have hl := lv_sub hl [2, 3, 4, 5, 6, 7] (l' := [(0, .ref b), (1, .ref d), (2, .ref m0), (3, .ref o), (4, .ref oD), (5, .int (nI i9))]) rfl
    exact W.widen (show cl + (5 + 101) ≤ cl + 20000 from by omega) (show sl + (90 + 5800) ≤ sl + 45000 from by omega) (kk ls H locs S2_4007 (if ((o_addPart (dC M) id mn it)).1 = 0 then ((((o_addPart (dC M) id mn it)).2.2, dS M, min 6 (dK M + 1), hsR (dH M) (dK M) (dC M), dL M, dN M) : DS) else M) (((o_addPart (dC M) id mn it)).1) W2_4008 W2_4016 of2_4006 og hP hD hS hl hq_4012 hq_4018 (hLw.mut hqs hq_4010 (o_addPart_b (dC C) (sx9 xs (i9 + 1)) (sx9 xs (i9 + 2)) (sx9 xs (i9 + 3)))))

set_option maxHeartbeats 4000000 in
theorem lawK_13 {p : Program} {l : Launch} {e : Env} {s : State} {m : MethodId} {below : List Frame} {meth : Method} {c : Code} {G : Gt} {A : Nat → Prop} {b L : Nat} {xs : Nat → Int32} {Q : State → Prop} {d m0 o oD i9 N cl sl : Nat} (hfl : l.stackTraces = false) (F : LwF G A p s m c b L xs) (hi9 : i9 + 4 ≤ L) (hN24 : N ≤ 24) (hcl : cl + 20000 ≤ 1200144) (hsl : sl + 45000 ≤ 5495674) (kk : ∀ (ls : Array Slot) (H : Heap) (locs : List Loc) (C M : DS) (th : Nat) (WD WM : va_W) (of : Nat → Int64) (og : Nat → UInt64), va_P G.1 CL ([(o, .inl (G.2 5, 1, .inr (.inl of))), (oD, .inl (G.2 6, 1, .inr (.inr (.inr (.inl og)))))] ++ (WD ++ (WM ++ []))) H → va_D A ([(o, .inl (G.2 5, 1, .inr (.inl of))), (oD, .inl (G.2 6, 1, .inr (.inr (.inr (.inl og)))))] ++ (WD ++ (WM ++ []))) → va_S A s.heap H locs → lv_has ls 10 [(0, .ref b), (1, .ref d), (2, .ref m0), (3, .ref o), (4, .ref oD), (5, .int (nI i9))] → DyW G d C WD → MdW G m0 M th WM → LawI C M (N + 1) → W p l e room_1 s m #[Value.ref b] below meth c H locs (cl + 20000) (sl + 45000) Q (F0 m 2788 ls [])) {ls : Array Slot} {H : Heap} {locs : List Loc} {C M : DS} {th : Nat} {WD WM : va_W} {of : Nat → Int64} {og : Nat → UInt64} (hP : va_P G.1 CL ([(o, .inl (G.2 5, 1, .inr (.inl of))), (oD, .inl (G.2 6, 1, .inr (.inr (.inr (.inl og)))))] ++ (WD ++ (WM ++ []))) H) (hD : va_D A ([(o, .inl (G.2 5, 1, .inr (.inl of))), (oD, .inl (G.2 6, 1, .inr (.inr (.inr (.inl og)))))] ++ (WD ++ (WM ++ [])))) (hS : va_S A s.heap H locs) (hl : lv_has ls 10 [(0, .ref b), (1, .ref d), (2, .ref m0), (3, .ref o), (4, .ref oD), (5, .int (nI i9))]) (hDy : DyW G d C WD) (hMd : MdW G m0 M th WM) (hLw : LawI C M N) : W p l e room_1 s m #[Value.ref b] below meth c H locs cl sl Q (F0 m 978 ls []) := by
  obtain ⟨cf, hKB, hE, hA, hX9, hbl, hbA, hNc, hL96⟩ := F
  have hx := cf.1
  have hb := cf.2.1
  have hml := cf.2.2.1
  have hown : s.vm.findClass RX0 = some m.cls := cf.2.2.2.1
  have hts := cf.2.2.2.2
  have hK := hKB.1
  have hIc := hDy.inv.1
  have hIm : Inv (dC M) := Inv_sim hLw.1 hIc
  have hRk : RkOk (dC M) := RkOk_sim hLw.1 (RkOk_srt hDy.inv.2.2)
  have hl := hl
  refine lv_aload_n hx hb dL_law_978 rfl (lv_at hl 1 rfl) ?_
  refine lv_aload_n hx hb dL_law_979 rfl (lv_at hl 0 rfl) ?_
  refine lv_iload hx hb dL_law_980 (lv_at hl 5 rfl) ?_
  refine lv_iconst (v := nI 1) hx hb dL_law_982 (by decide) ?_
  refine lv_iadd hx hb dL_law_983 ?_
  refine lv_ton (n := i9 + 1) (nadd (by omega)) ?_
  refine va_sld hx hb hX9 hbl hbA hS (i := nI (i9 + 1)) (vp9 (by omega) hL96) dL_law_984 ?_
  refine W.eq (g2 := F0 m 985 ls [.int (sx9 xs (i9 + 1)), .ref d]) rfl ?_
  refine lv_aload_n hx hb dL_law_985 rfl (lv_at hl 3 rfl) ?_
  have hpm_4026 : (([(o, .inl (G.2 5, 1, .inr (.inl of))), (oD, .inl (G.2 6, 1, .inr (.inr (.inr (.inl og)))))] ++ (WD ++ (WM ++ []))) : va_W).Perm (([(o, .inl (G.2 5, 1, .inr (.inl of)))] ++ (WD ++ [])) ++ ([(oD, .inl (G.2 6, 1, .inr (.inr (.inr (.inl og)))))] ++ (WM ++ []))) := segs_perm [[(o, .inl (G.2 5, 1, .inr (.inl of)))], [(oD, .inl (G.2 6, 1, .inr (.inr (.inr (.inl og)))))], WD, WM] [0, 2] [1, 3] rfl
  have hF := hF_ofP (wc := ([(o, .inl (G.2 5, 1, .inr (.inl of)))] ++ (WD ++ []))) hD hS hA hpm_4026
  refine go_ctP hS hP hD hpm_4026 hF
      (vx_runSW (As := [.ref d, .int (sx9 xs (i9 + 1)), .ref o]) (rest := []) cf (wX0_clearParts l G d C WD o of (sx9 xs (i9 + 1)) (hDy) hfl H.size) (vx_cwSW 3 hts (lw_SW q1157 q1158 q46 q1159) rfl rfl rfl (by decide +kernel) ⟨Nat.le_of_ble_eq_true rfl, Nat.le_of_ble_eq_true rfl⟩) (preS_ofW hNc hKB hE hS hF (P_left (P_perm hpm_4026 hP)) ((D_left (D_perm hpm_4026 hD)).weaken (fun _ _ _ _ => trivial)) trivial) rfl rfl hl.1 rfl (lv_room (Nat.le_of_ble_eq_true rfl)) dL_law_986 ⟨show cl + (5 + 101) ≤ 1200144 from by first | decide | omega, show sl + (70 + 5800) ≤ 5495674 from by first | decide | omega⟩)
      (fun u_ H locs hq hph (hP : va_P G.1 CL (([(oD, .inl (G.2 6, 1, .inr (.inr (.inr (.inl og)))))] ++ (WM ++ [])) ++ ([(o, .inl (G.2 5, 1, .inr (.inl u_.1)))] ++ (u_.2.2 ++ []))) H) (hD : va_D A (([(oD, .inl (G.2 6, 1, .inr (.inr (.inr (.inl og)))))] ++ (WM ++ [])) ++ ([(o, .inl (G.2 5, 1, .inr (.inl u_.1)))] ++ (u_.2.2 ++ [])))) hS hfz hfk => ?_)
  obtain ⟨of2_4027, S2_4028, W2_4029⟩ := u_
  obtain ⟨hq_4030, hq_4031, hq_4032, hq_4033⟩ : ((o_clear (dC C) (sx9 xs (i9 + 1))).1 = 0 → of2_4027 0 = ((o_clear (dC C) (sx9 xs (i9 + 1))).2.1).toInt64) ∧ NxS C (o_clear (dC C) (sx9 xs (i9 + 1))) S2_4028 ∧ (o_clear (dC C) (sx9 xs (i9 + 1))).1 < 10 ∧ DyW G d S2_4028 W2_4029 := hq
  have hpm_4034 : (([(oD, .inl (G.2 6, 1, .inr (.inr (.inr (.inl og)))))] ++ (WM ++ [])) ++ ([(o, .inl (G.2 5, 1, .inr (.inl of2_4027)))] ++ (W2_4029 ++ [])) : va_W).Perm ([(oD, .inl (G.2 6, 1, .inr (.inr (.inr (.inl og))))), (o, .inl (G.2 5, 1, .inr (.inl of2_4027)))] ++ (WM ++ (W2_4029 ++ []))) := segs_perm2 [[(oD, .inl (G.2 6, 1, .inr (.inr (.inr (.inl og)))))], WM] [[(o, .inl (G.2 5, 1, .inr (.inl of2_4027)))], W2_4029] [0, 2, 1, 3] rfl
  have hP : va_P G.1 CL ([(oD, .inl (G.2 6, 1, .inr (.inr (.inr (.inl og))))), (o, .inl (G.2 5, 1, .inr (.inl of2_4027)))] ++ (WM ++ (W2_4029 ++ []))) H := P_perm hpm_4034 hP
  have hD : va_D A ([(oD, .inl (G.2 6, 1, .inr (.inr (.inr (.inl og))))), (o, .inl (G.2 5, 1, .inr (.inl of2_4027)))] ++ (WM ++ (W2_4029 ++ []))) := D_perm hpm_4034 hD
  refine W.eq (g2 := F0 m 989 ls [.int (nI ((o_clear (dC C) (sx9 xs (i9 + 1))).1))]) rfl ?_
  have hqs : SimR (o_clear (dC C) (sx9 xs (i9 + 1))) (o_clear (dC M) id) := o_clear_sim hLw.1 hIc (sx9 xs (i9 + 1))
  refine lv_istore (lv' := [(6, .int (nI ((o_clear (dC C) (sx9 xs (i9 + 1))).1))), (0, .ref b), (1, .ref d), (2, .ref m0), (3, .ref o), (4, .ref oD), (5, .int (nI i9))]) hx hb dL_law_989 hl (by decide) rfl (fun ls hl => ?_)
  refine lv_aload_n hx hb dL_law_991 rfl (lv_at hl 3 rfl) ?_
  refine lv_aload_n hx hb dL_law_992 rfl (lv_at hl 1 rfl) ?_
  refine lv_iload hx hb dL_law_993 (lv_at hl 6 rfl) ?_
  refine lv_iconst (v := nI 1) hx hb dL_law_995 (by decide) ?_
  refine lv_iadd hx hb dL_law_996 ?_
  refine lv_ton (n := i9 + 1) (nadd (by omega)) ?_
  refine va_sld hx hb hX9 hbl hbA hS (i := nI (i9 + 1)) (vp9 (by omega) hL96) dL_law_997 ?_
  refine W.eq (g2 := F0 m 998 ls [.int (sx9 xs (i9 + 1)), .ref m0]) rfl ?_
  have hpm_4035 : (([(oD, .inl (G.2 6, 1, .inr (.inr (.inr (.inl og))))), (o, .inl (G.2 5, 1, .inr (.inl of2_4027)))] ++ (WM ++ (W2_4029 ++ []))) : va_W).Perm ((WM ++ []) ++ ([(oD, .inl (G.2 6, 1, .inr (.inr (.inr (.inl og))))), (o, .inl (G.2 5, 1, .inr (.inl of2_4027)))] ++ (W2_4029 ++ []))) := segs_perm [[(oD, .inl (G.2 6, 1, .inr (.inr (.inr (.inl og)))))], [(o, .inl (G.2 5, 1, .inr (.inl of2_4027)))], WM, W2_4029] [2] [0, 1, 3] rfl
  have hF := hF_ofP (wc := (WM ++ [])) hD hS hA hpm_4035
  refine go_ctP hS hP hD hpm_4035 hF
      (va_runV (As := [.int (sx9 xs (i9 + 1))]) (rest := []) cf (eX4_clearParts l G m0 M th WM (sx9 xs (i9 + 1)) (hMd) (hIm) H.size) (cwV 1 hts (lw_V q1747 q1748 q1749 q58 q1750) rfl rfl rfl (by decide +kernel) ⟨Nat.le_of_ble_eq_true rfl, Nat.le_of_ble_eq_true rfl⟩) (preV_of hKB hE hS hF (MdW.recv hK hMd (seg_at [[(oD, .inl (G.2 6, 1, .inr (.inr (.inr (.inl og)))))], [(o, .inl (G.2 5, 1, .inr (.inl of2_4027)))], WM, W2_4029] 2 rfl hP)) (P_left (P_perm hpm_4035 hP)) ((D_left (D_perm hpm_4035 hD)).weaken (fun _ _ _ _ => trivial)) trivial) rfl rfl hl.1 rfl (lv_room (Nat.le_of_ble_eq_true rfl)) dL_law_998 ⟨show cl + (5 + 101) + 0 ≤ 1200144 from by first | decide | omega, show sl + (70 + 5800) + 0 ≤ 5495674 from by first | decide | omega⟩)
      (fun u_ H locs hq hph (hP : va_P G.1 CL (([(oD, .inl (G.2 6, 1, .inr (.inr (.inr (.inl og))))), (o, .inl (G.2 5, 1, .inr (.inl of2_4027)))] ++ (W2_4029 ++ [])) ++ (u_.2 ++ [])) H) (hD : va_D A (([(oD, .inl (G.2 6, 1, .inr (.inr (.inr (.inl og))))), (o, .inl (G.2 5, 1, .inr (.inl of2_4027)))] ++ (W2_4029 ++ [])) ++ (u_.2 ++ []))) hS hfz hfk => ?_)
  obtain ⟨rr_4036, W2_4037⟩ := u_
  obtain ⟨hq_4038, hq_4039⟩ : ((o_clear (dC M) (sx9 xs (i9 + 1))).1 = 0 → rr_4036 = (o_clear (dC M) (sx9 xs (i9 + 1))).2.1) ∧ MdW G m0 (if (o_clear (dC M) (sx9 xs (i9 + 1))).1 = 0 then (((o_clear (dC M) (sx9 xs (i9 + 1))).2.2, dS M, min 6 (dK M + 1), hsR (dH M) (dK M) (dC M), dL M, dN M) : DS) else M) (o_clear (dC M) (sx9 xs (i9 + 1))).1 W2_4037 := hq
  have hpm_4040 : (([(oD, .inl (G.2 6, 1, .inr (.inr (.inr (.inl og))))), (o, .inl (G.2 5, 1, .inr (.inl of2_4027)))] ++ (W2_4029 ++ [])) ++ (W2_4037 ++ []) : va_W).Perm ([(oD, .inl (G.2 6, 1, .inr (.inr (.inr (.inl og))))), (o, .inl (G.2 5, 1, .inr (.inl of2_4027)))] ++ (W2_4029 ++ (W2_4037 ++ []))) := segs_perm2 [[(oD, .inl (G.2 6, 1, .inr (.inr (.inr (.inl og)))))], [(o, .inl (G.2 5, 1, .inr (.inl of2_4027)))], W2_4029] [W2_4037] [0, 1, 2, 3] rfl
  have hP : va_P G.1 CL ([(oD, .inl (G.2 6, 1, .inr (.inr (.inr (.inl og))))), (o, .inl (G.2 5, 1, .inr (.inl of2_4027)))] ++ (W2_4029 ++ (W2_4037 ++ []))) H := P_perm hpm_4040 hP
  have hD : va_D A ([(oD, .inl (G.2 6, 1, .inr (.inr (.inr (.inl og))))), (o, .inl (G.2 5, 1, .inr (.inl of2_4027)))] ++ (W2_4029 ++ (W2_4037 ++ []))) := D_perm hpm_4040 hD
  refine W.eq (g2 := F0 m 1001 ls [.int rr_4036]) rfl ?_
  refine lv_istore (lv' := [(7, .int rr_4036), (6, .int (nI ((o_clear (dC C) (sx9 xs (i9 + 1))).1))), (0, .ref b), (1, .ref d), (2, .ref m0), (3, .ref o), (4, .ref oD), (5, .int (nI i9))]) hx hb dL_law_1001 hl (by decide) rfl (fun ls hl => ?_)
  refine lv_aload_n hx hb dL_law_1003 rfl (lv_at hl 4 rfl) ?_
  have hpm_4041 : (([(oD, .inl (G.2 6, 1, .inr (.inr (.inr (.inl og))))), (o, .inl (G.2 5, 1, .inr (.inl of2_4027)))] ++ (W2_4029 ++ (W2_4037 ++ []))) : va_W).Perm ([] ++ ([(oD, .inl (G.2 6, 1, .inr (.inr (.inr (.inl og))))), (o, .inl (G.2 5, 1, .inr (.inl of2_4027)))] ++ (W2_4029 ++ (W2_4037 ++ [])))) := segs_perm [[(oD, .inl (G.2 6, 1, .inr (.inr (.inr (.inl og)))))], [(o, .inl (G.2 5, 1, .inr (.inl of2_4027)))], W2_4029, W2_4037] [] [0, 1, 2, 3] rfl
  have hF := hF_ofP (wc := []) hD hS hA hpm_4041
  refine go_ctP hS hP hD hpm_4041 hF
      (va_runV (As := []) (rest := []) cf (eX4_thrown l G m0 (if ((o_clear (dC M) id)).1 = 0 then ((((o_clear (dC M) id)).2.2, dS M, min 6 (dK M + 1), hsR (dH M) (dK M) (dC M), dL M, dN M) : DS) else M) (((o_clear (dC M) id)).1) W2_4037 (hq_4039) H.size) (cwV 0 hts (lw_V q1639 q1640 q1641 q58 q1642) rfl rfl rfl (by decide +kernel) ⟨Nat.le_of_ble_eq_true rfl, Nat.le_of_ble_eq_true rfl⟩) (preV_of hKB hE hS hF (MdW.recv hK hq_4039 (seg_at [[(oD, .inl (G.2 6, 1, .inr (.inr (.inr (.inl og)))))], [(o, .inl (G.2 5, 1, .inr (.inl of2_4027)))], W2_4029, W2_4037] 3 rfl hP)) (P_left (P_perm hpm_4041 hP)) ((D_left (D_perm hpm_4041 hD)).weaken (fun _ _ _ _ => trivial)) (roW.nil (seg_at [[(oD, .inl (G.2 6, 1, .inr (.inr (.inr (.inl og)))))], [(o, .inl (G.2 5, 1, .inr (.inl of2_4027)))], W2_4029, W2_4037] 3 rfl hP))) rfl rfl hl.1 rfl (lv_room (Nat.le_of_ble_eq_true rfl)) dL_law_1004 ⟨show cl + (5 + 101) + 0 ≤ 1200144 from by first | decide | omega, show sl + (70 + 5800) + 0 ≤ 5495674 from by first | decide | omega⟩)
      (fun u_ H locs hq hph (hP : va_P G.1 CL (([(oD, .inl (G.2 6, 1, .inr (.inr (.inr (.inl og))))), (o, .inl (G.2 5, 1, .inr (.inl of2_4027)))] ++ (W2_4029 ++ (W2_4037 ++ []))) ++ []) H) (hD : va_D A (([(oD, .inl (G.2 6, 1, .inr (.inr (.inr (.inl og))))), (o, .inl (G.2 5, 1, .inr (.inl of2_4027)))] ++ (W2_4029 ++ (W2_4037 ++ []))) ++ [])) hS hfz hfk => ?_)
  have hpm_4042 : (([(oD, .inl (G.2 6, 1, .inr (.inr (.inr (.inl og))))), (o, .inl (G.2 5, 1, .inr (.inl of2_4027)))] ++ (W2_4029 ++ (W2_4037 ++ []))) ++ [] : va_W).Perm ([(oD, .inl (G.2 6, 1, .inr (.inr (.inr (.inl og))))), (o, .inl (G.2 5, 1, .inr (.inl of2_4027)))] ++ (W2_4029 ++ (W2_4037 ++ []))) := segs_perm2 [[(oD, .inl (G.2 6, 1, .inr (.inr (.inr (.inl og)))))], [(o, .inl (G.2 5, 1, .inr (.inl of2_4027)))], W2_4029, W2_4037] [] [0, 1, 2, 3] rfl
  have hP : va_P G.1 CL ([(oD, .inl (G.2 6, 1, .inr (.inr (.inr (.inl og))))), (o, .inl (G.2 5, 1, .inr (.inl of2_4027)))] ++ (W2_4029 ++ (W2_4037 ++ []))) H := P_perm hpm_4042 hP
  have hD : va_D A ([(oD, .inl (G.2 6, 1, .inr (.inr (.inr (.inl og))))), (o, .inl (G.2 5, 1, .inr (.inl of2_4027)))] ++ (W2_4029 ++ (W2_4037 ++ []))) := D_perm hpm_4042 hD
  refine W.eq (g2 := F0 m 1007 ls [.int (nI (((o_clear (dC M) id)).1))]) rfl ?_
  refine lv_ton (n := ((o_clear (dC C) (sx9 xs (i9 + 1))).1)) (congrArg nI hqs.1.symm) ?_
  refine lv_iload hx hb dL_law_1007 (lv_at hl 1 rfl) ?_
  refine lv_icmp_eq (tgt := 1014) hx hb dL_law_1009 (by decide) (fun _ => ?_) (fun c9 => absurd rfl c9)
  refine lv_iload hx hb dL_law_1014 (lv_at hl 1 rfl) ?_
  refine n_if_ne (tgt := 1031) hx hb (by omega) dL_law_1016 (by decide) (fun c_4043 => ?_) (fun c_4043 => ?_)
  · refine lv_goto (tgt := 2788) hx hb dL_law_1031 (by decide) ?_
    have hpm_4044 : (([(oD, .inl (G.2 6, 1, .inr (.inr (.inr (.inl og))))), (o, .inl (G.2 5, 1, .inr (.inl of2_4027)))] ++ (W2_4029 ++ (W2_4037 ++ []))) : va_W).Perm (([(o, .inl (G.2 5, 1, .inr (.inl of2_4027))), (oD, .inl (G.2 6, 1, .inr (.inr (.inr (.inl og)))))] ++ (W2_4029 ++ (W2_4037 ++ []))) ++ []) := segs_perm [[(oD, .inl (G.2 6, 1, .inr (.inr (.inr (.inl og)))))], [(o, .inl (G.2 5, 1, .inr (.inl of2_4027)))], W2_4029, W2_4037] [1, 0, 2, 3] [] rfl
    have hP : va_P G.1 CL ([(o, .inl (G.2 5, 1, .inr (.inl of2_4027))), (oD, .inl (G.2 6, 1, .inr (.inr (.inr (.inl og)))))] ++ (W2_4029 ++ (W2_4037 ++ []))) H := P_left (P_perm hpm_4044 hP)
    have hD : va_D A ([(o, .inl (G.2 5, 1, .inr (.inl of2_4027))), (oD, .inl (G.2 6, 1, .inr (.inr (.inr (.inl og)))))] ++ (W2_4029 ++ (W2_4037 ++ []))) := D_left (D_perm hpm_4044 hD)
    have hl := lv_sub hl [2, 3, 4, 5, 6, 7] (l' := [(0, .ref b), (1, .ref d), (2, .ref m0), (3, .ref o), (4, .ref oD), (5, .int (nI i9))]) rfl
    exact W.widen (show cl + (5 + 101) ≤ cl + 20000 from by omega) (show sl + (70 + 5800) ≤ sl + 45000 from by omega) (kk ls H locs S2_4028 (if ((o_clear (dC M) id)).1 = 0 then ((((o_clear (dC M) id)).2.2, dS M, min 6 (dK M + 1), hsR (dH M) (dK M) (dC M), dL M, dN M) : DS) else M) (((o_clear (dC M) id)).1) W2_4029 W2_4037 of2_4027 og hP hD hS hl hq_4033 hq_4039 (hLw.mut hqs hq_4031 (o_clear_b (dC C) (sx9 xs (i9 + 1)))))
  · refine lv_aload_n hx hb dL_law_1019 rfl (lv_at hl 5 rfl) ?_
    refine lv_iconst (v := nI 0) hx hb dL_law_1020 (by decide) ?_
    refine r_lald (v := (((o_clear (dC C) (sx9 xs (i9 + 1)))).2.1).toInt64) hx hb hK hP 1 5 rfl rfl (i := 0) (by omega) (by omega) ((hq_4030 (by omega))) dL_law_1021 ?_
    refine lv_iload hx hb dL_law_1022 (lv_at hl 0 rfl) ?_
    refine lv_toi (y := ((o_clear (dC C) (sx9 xs (i9 + 1)))).2.1) ((hq_4038 (hqs.1.symm.trans (by omega))).trans hqs.2.1.symm) ?_
    refine lv_i2l (v := (((o_clear (dC C) (sx9 xs (i9 + 1)))).2.1).toInt64) hx hb dL_law_1024 rfl ?_
    refine W.lcmp hx hb dL_law_1025 ?_
    refine lv_ton (n := 0) (lcmp0 _) ?_
    refine n_if_eq (tgt := 1031) hx hb (by omega) dL_law_1026 (by decide) (fun c_4045 => ?_) (fun c_4045 => absurd c_4045 (by omega))
    refine lv_goto (tgt := 2788) hx hb dL_law_1031 (by decide) ?_
    have hpm_4046 : (([(oD, .inl (G.2 6, 1, .inr (.inr (.inr (.inl og))))), (o, .inl (G.2 5, 1, .inr (.inl of2_4027)))] ++ (W2_4029 ++ (W2_4037 ++ []))) : va_W).Perm (([(o, .inl (G.2 5, 1, .inr (.inl of2_4027))), (oD, .inl (G.2 6, 1, .inr (.inr (.inr (.inl og)))))] ++ (W2_4029 ++ (W2_4037 ++ []))) ++ []) := segs_perm [[(oD, .inl (G.2 6, 1, .inr (.inr (.inr (.inl og)))))], [(o, .inl (G.2 5, 1, .inr (.inl of2_4027)))], W2_4029, W2_4037] [1, 0, 2, 3] [] rfl
    have hP : va_P G.1 CL ([(o, .inl (G.2 5, 1, .inr (.inl of2_4027))), (oD, .inl (G.2 6, 1, .inr (.inr (.inr (.inl og)))))] ++ (W2_4029 ++ (W2_4037 ++ []))) H := P_left (P_perm hpm_4046 hP)
    have hD : va_D A ([(o, .inl (G.2 5, 1, .inr (.inl of2_4027))), (oD, .inl (G.2 6, 1, .inr (.inr (.inr (.inl og)))))] ++ (W2_4029 ++ (W2_4037 ++ []))) := D_left (D_perm hpm_4046 hD)
    have hl := lv_sub hl [2, 3, 4, 5, 6, 7] (l' := [(0, .ref b), (1, .ref d), (2, .ref m0), (3, .ref o), (4, .ref oD), (5, .int (nI i9))]) rfl
    exact W.widen (show cl + (5 + 101) ≤ cl + 20000 from by omega) (show sl + (70 + 5800) ≤ sl + 45000 from by omega) (kk ls H locs S2_4028 (if ((o_clear (dC M) id)).1 = 0 then ((((o_clear (dC M) id)).2.2, dS M, min 6 (dK M + 1), hsR (dH M) (dK M) (dC M), dL M, dN M) : DS) else M) (((o_clear (dC M) id)).1) W2_4029 W2_4037 of2_4027 og hP hD hS hl hq_4033 hq_4039 (hLw.mut hqs hq_4031 (o_clear_b (dC C) (sx9 xs (i9 + 1)))))

set_option maxHeartbeats 4000000 in
theorem lawK_14 {p : Program} {l : Launch} {e : Env} {s : State} {m : MethodId} {below : List Frame} {meth : Method} {c : Code} {G : Gt} {A : Nat → Prop} {b L : Nat} {xs : Nat → Int32} {Q : State → Prop} {d m0 o oD i9 N cl sl : Nat} (hfl : l.stackTraces = false) (F : LwF G A p s m c b L xs) (hi9 : i9 + 4 ≤ L) (hN24 : N ≤ 24) (hcl : cl + 20000 ≤ 1200144) (hsl : sl + 45000 ≤ 5495674) (kk : ∀ (ls : Array Slot) (H : Heap) (locs : List Loc) (C M : DS) (th : Nat) (WD WM : va_W) (of : Nat → Int64) (og : Nat → UInt64), va_P G.1 CL ([(o, .inl (G.2 5, 1, .inr (.inl of))), (oD, .inl (G.2 6, 1, .inr (.inr (.inr (.inl og)))))] ++ (WD ++ (WM ++ []))) H → va_D A ([(o, .inl (G.2 5, 1, .inr (.inl of))), (oD, .inl (G.2 6, 1, .inr (.inr (.inr (.inl og)))))] ++ (WD ++ (WM ++ []))) → va_S A s.heap H locs → lv_has ls 10 [(0, .ref b), (1, .ref d), (2, .ref m0), (3, .ref o), (4, .ref oD), (5, .int (nI i9))] → DyW G d C WD → MdW G m0 M th WM → LawI C M (N + 1) → W p l e room_1 s m #[Value.ref b] below meth c H locs (cl + 20000) (sl + 45000) Q (F0 m 2788 ls [])) {ls : Array Slot} {H : Heap} {locs : List Loc} {C M : DS} {th : Nat} {WD WM : va_W} {of : Nat → Int64} {og : Nat → UInt64} (hP : va_P G.1 CL ([(o, .inl (G.2 5, 1, .inr (.inl of))), (oD, .inl (G.2 6, 1, .inr (.inr (.inr (.inl og)))))] ++ (WD ++ (WM ++ []))) H) (hD : va_D A ([(o, .inl (G.2 5, 1, .inr (.inl of))), (oD, .inl (G.2 6, 1, .inr (.inr (.inr (.inl og)))))] ++ (WD ++ (WM ++ [])))) (hS : va_S A s.heap H locs) (hl : lv_has ls 10 [(0, .ref b), (1, .ref d), (2, .ref m0), (3, .ref o), (4, .ref oD), (5, .int (nI i9))]) (hDy : DyW G d C WD) (hMd : MdW G m0 M th WM) (hLw : LawI C M N) : W p l e room_1 s m #[Value.ref b] below meth c H locs cl sl Q (F0 m 1034 ls []) := by
  obtain ⟨cf, hKB, hE, hA, hX9, hbl, hbA, hNc, hL96⟩ := F
  have hx := cf.1
  have hb := cf.2.1
  have hml := cf.2.2.1
  have hown : s.vm.findClass RX0 = some m.cls := cf.2.2.2.1
  have hts := cf.2.2.2.2
  have hK := hKB.1
  have hIc := hDy.inv.1
  have hIm : Inv (dC M) := Inv_sim hLw.1 hIc
  have hRk : RkOk (dC M) := RkOk_sim hLw.1 (RkOk_srt hDy.inv.2.2)
  have hl := hl
  refine lv_aload_n hx hb dL_law_1034 rfl (lv_at hl 1 rfl) ?_
  refine lv_aload_n hx hb dL_law_1035 rfl (lv_at hl 0 rfl) ?_
  refine lv_iload hx hb dL_law_1036 (lv_at hl 5 rfl) ?_
  refine lv_iconst (v := nI 1) hx hb dL_law_1038 (by decide) ?_
  refine lv_iadd hx hb dL_law_1039 ?_
  refine lv_ton (n := i9 + 1) (nadd (by omega)) ?_
  refine va_sld hx hb hX9 hbl hbA hS (i := nI (i9 + 1)) (vp9 (by omega) hL96) dL_law_1040 ?_
  refine W.eq (g2 := F0 m 1041 ls [.int (sx9 xs (i9 + 1)), .ref d]) rfl ?_
  refine lv_aload_n hx hb dL_law_1041 rfl (lv_at hl 0 rfl) ?_
  refine lv_iload hx hb dL_law_1042 (lv_at hl 5 rfl) ?_
  refine lv_iconst (v := nI 2) hx hb dL_law_1044 (by decide) ?_
  refine lv_iadd hx hb dL_law_1045 ?_
  refine lv_ton (n := i9 + 2) (nadd (by omega)) ?_
  refine va_sld hx hb hX9 hbl hbA hS (i := nI (i9 + 2)) (vp9 (by omega) hL96) dL_law_1046 ?_
  refine W.eq (g2 := F0 m 1047 ls [.int (sx9 xs (i9 + 2)), .int (sx9 xs (i9 + 1)), .ref d]) rfl ?_
  refine lv_aload_n hx hb dL_law_1047 rfl (lv_at hl 3 rfl) ?_
  have hpm_4047 : (([(o, .inl (G.2 5, 1, .inr (.inl of))), (oD, .inl (G.2 6, 1, .inr (.inr (.inr (.inl og)))))] ++ (WD ++ (WM ++ []))) : va_W).Perm (([(o, .inl (G.2 5, 1, .inr (.inl of)))] ++ (WD ++ [])) ++ ([(oD, .inl (G.2 6, 1, .inr (.inr (.inr (.inl og)))))] ++ (WM ++ []))) := segs_perm [[(o, .inl (G.2 5, 1, .inr (.inl of)))], [(oD, .inl (G.2 6, 1, .inr (.inr (.inr (.inl og)))))], WD, WM] [0, 2] [1, 3] rfl
  have hF := hF_ofP (wc := ([(o, .inl (G.2 5, 1, .inr (.inl of)))] ++ (WD ++ []))) hD hS hA hpm_4047
  refine go_ctP hS hP hD hpm_4047 hF
      (vx_runSW (As := [.ref d, .int (sx9 xs (i9 + 1)), .int (sx9 xs (i9 + 2)), .ref o]) (rest := []) cf (wX0_moveSession l G d C WD o of (sx9 xs (i9 + 1)) (sx9 xs (i9 + 2)) (hDy) hfl H.size) (vx_cwSW 4 hts (lw_SW q1168 q1169 q46 q1170) rfl rfl rfl (by decide +kernel) ⟨Nat.le_of_ble_eq_true rfl, Nat.le_of_ble_eq_true rfl⟩) (preS_ofW hNc hKB hE hS hF (P_left (P_perm hpm_4047 hP)) ((D_left (D_perm hpm_4047 hD)).weaken (fun _ _ _ _ => trivial)) trivial) rfl rfl hl.1 rfl (lv_room (Nat.le_of_ble_eq_true rfl)) dL_law_1048 ⟨show cl + (3 + 101) ≤ 1200144 from by first | decide | omega, show sl + (70 + 5800) ≤ 5495674 from by first | decide | omega⟩)
      (fun u_ H locs hq hph (hP : va_P G.1 CL (([(oD, .inl (G.2 6, 1, .inr (.inr (.inr (.inl og)))))] ++ (WM ++ [])) ++ ([(o, .inl (G.2 5, 1, .inr (.inl u_.1)))] ++ (u_.2.2 ++ []))) H) (hD : va_D A (([(oD, .inl (G.2 6, 1, .inr (.inr (.inr (.inl og)))))] ++ (WM ++ [])) ++ ([(o, .inl (G.2 5, 1, .inr (.inl u_.1)))] ++ (u_.2.2 ++ [])))) hS hfz hfk => ?_)
  obtain ⟨of2_4048, S2_4049, W2_4050⟩ := u_
  obtain ⟨hq_4051, hq_4052, hq_4053, hq_4054⟩ : ((o_move (dC C) (sx9 xs (i9 + 1)) (sx9 xs (i9 + 2))).1 = 0 → of2_4048 0 = ((o_move (dC C) (sx9 xs (i9 + 1)) (sx9 xs (i9 + 2))).2.1).toInt64) ∧ NxS C (o_move (dC C) (sx9 xs (i9 + 1)) (sx9 xs (i9 + 2))) S2_4049 ∧ (o_move (dC C) (sx9 xs (i9 + 1)) (sx9 xs (i9 + 2))).1 < 10 ∧ DyW G d S2_4049 W2_4050 := hq
  have hpm_4055 : (([(oD, .inl (G.2 6, 1, .inr (.inr (.inr (.inl og)))))] ++ (WM ++ [])) ++ ([(o, .inl (G.2 5, 1, .inr (.inl of2_4048)))] ++ (W2_4050 ++ [])) : va_W).Perm ([(oD, .inl (G.2 6, 1, .inr (.inr (.inr (.inl og))))), (o, .inl (G.2 5, 1, .inr (.inl of2_4048)))] ++ (WM ++ (W2_4050 ++ []))) := segs_perm2 [[(oD, .inl (G.2 6, 1, .inr (.inr (.inr (.inl og)))))], WM] [[(o, .inl (G.2 5, 1, .inr (.inl of2_4048)))], W2_4050] [0, 2, 1, 3] rfl
  have hP : va_P G.1 CL ([(oD, .inl (G.2 6, 1, .inr (.inr (.inr (.inl og))))), (o, .inl (G.2 5, 1, .inr (.inl of2_4048)))] ++ (WM ++ (W2_4050 ++ []))) H := P_perm hpm_4055 hP
  have hD : va_D A ([(oD, .inl (G.2 6, 1, .inr (.inr (.inr (.inl og))))), (o, .inl (G.2 5, 1, .inr (.inl of2_4048)))] ++ (WM ++ (W2_4050 ++ []))) := D_perm hpm_4055 hD
  refine W.eq (g2 := F0 m 1051 ls [.int (nI ((o_move (dC C) (sx9 xs (i9 + 1)) (sx9 xs (i9 + 2))).1))]) rfl ?_
  have hqs : SimR (o_move (dC C) (sx9 xs (i9 + 1)) (sx9 xs (i9 + 2))) (o_move (dC M) id d) := o_move_sim hLw.1 hIc (sx9 xs (i9 + 1)) (sx9 xs (i9 + 2))
  refine lv_istore (lv' := [(6, .int (nI ((o_move (dC C) (sx9 xs (i9 + 1)) (sx9 xs (i9 + 2))).1))), (0, .ref b), (1, .ref d), (2, .ref m0), (3, .ref o), (4, .ref oD), (5, .int (nI i9))]) hx hb dL_law_1051 hl (by decide) rfl (fun ls hl => ?_)
  refine lv_aload_n hx hb dL_law_1053 rfl (lv_at hl 3 rfl) ?_
  refine lv_aload_n hx hb dL_law_1054 rfl (lv_at hl 1 rfl) ?_
  refine lv_iload hx hb dL_law_1055 (lv_at hl 6 rfl) ?_
  refine lv_iconst (v := nI 1) hx hb dL_law_1057 (by decide) ?_
  refine lv_iadd hx hb dL_law_1058 ?_
  refine lv_ton (n := i9 + 1) (nadd (by omega)) ?_
  refine va_sld hx hb hX9 hbl hbA hS (i := nI (i9 + 1)) (vp9 (by omega) hL96) dL_law_1059 ?_
  refine W.eq (g2 := F0 m 1060 ls [.int (sx9 xs (i9 + 1)), .ref m0]) rfl ?_
  refine lv_aload_n hx hb dL_law_1060 rfl (lv_at hl 1 rfl) ?_
  refine lv_iload hx hb dL_law_1061 (lv_at hl 6 rfl) ?_
  refine lv_iconst (v := nI 2) hx hb dL_law_1063 (by decide) ?_
  refine lv_iadd hx hb dL_law_1064 ?_
  refine lv_ton (n := i9 + 2) (nadd (by omega)) ?_
  refine va_sld hx hb hX9 hbl hbA hS (i := nI (i9 + 2)) (vp9 (by omega) hL96) dL_law_1065 ?_
  refine W.eq (g2 := F0 m 1066 ls [.int (sx9 xs (i9 + 2)), .int (sx9 xs (i9 + 1)), .ref m0]) rfl ?_
  have hpm_4056 : (([(oD, .inl (G.2 6, 1, .inr (.inr (.inr (.inl og))))), (o, .inl (G.2 5, 1, .inr (.inl of2_4048)))] ++ (WM ++ (W2_4050 ++ []))) : va_W).Perm ((WM ++ []) ++ ([(oD, .inl (G.2 6, 1, .inr (.inr (.inr (.inl og))))), (o, .inl (G.2 5, 1, .inr (.inl of2_4048)))] ++ (W2_4050 ++ []))) := segs_perm [[(oD, .inl (G.2 6, 1, .inr (.inr (.inr (.inl og)))))], [(o, .inl (G.2 5, 1, .inr (.inl of2_4048)))], WM, W2_4050] [2] [0, 1, 3] rfl
  have hF := hF_ofP (wc := (WM ++ [])) hD hS hA hpm_4056
  refine go_ctP hS hP hD hpm_4056 hF
      (va_runV (As := [.int (sx9 xs (i9 + 1)), .int (sx9 xs (i9 + 2))]) (rest := []) cf (eX4_moveSession l G m0 M th WM (sx9 xs (i9 + 1)) (sx9 xs (i9 + 2)) (hMd) (hIm) H.size) (cwV 2 hts (lw_V q1755 q1756 q1757 q58 q1758) rfl rfl rfl (by decide +kernel) ⟨Nat.le_of_ble_eq_true rfl, Nat.le_of_ble_eq_true rfl⟩) (preV_of hKB hE hS hF (MdW.recv hK hMd (seg_at [[(oD, .inl (G.2 6, 1, .inr (.inr (.inr (.inl og)))))], [(o, .inl (G.2 5, 1, .inr (.inl of2_4048)))], WM, W2_4050] 2 rfl hP)) (P_left (P_perm hpm_4056 hP)) ((D_left (D_perm hpm_4056 hD)).weaken (fun _ _ _ _ => trivial)) trivial) rfl rfl hl.1 rfl (lv_room (Nat.le_of_ble_eq_true rfl)) dL_law_1066 ⟨show cl + (3 + 101) + 0 ≤ 1200144 from by first | decide | omega, show sl + (70 + 5800) + 0 ≤ 5495674 from by first | decide | omega⟩)
      (fun u_ H locs hq hph (hP : va_P G.1 CL (([(oD, .inl (G.2 6, 1, .inr (.inr (.inr (.inl og))))), (o, .inl (G.2 5, 1, .inr (.inl of2_4048)))] ++ (W2_4050 ++ [])) ++ (u_.2 ++ [])) H) (hD : va_D A (([(oD, .inl (G.2 6, 1, .inr (.inr (.inr (.inl og))))), (o, .inl (G.2 5, 1, .inr (.inl of2_4048)))] ++ (W2_4050 ++ [])) ++ (u_.2 ++ []))) hS hfz hfk => ?_)
  obtain ⟨rr_4057, W2_4058⟩ := u_
  obtain ⟨hq_4059, hq_4060⟩ : ((o_move (dC M) (sx9 xs (i9 + 1)) (sx9 xs (i9 + 2))).1 = 0 → rr_4057 = (o_move (dC M) (sx9 xs (i9 + 1)) (sx9 xs (i9 + 2))).2.1) ∧ MdW G m0 (if (o_move (dC M) (sx9 xs (i9 + 1)) (sx9 xs (i9 + 2))).1 = 0 then (((o_move (dC M) (sx9 xs (i9 + 1)) (sx9 xs (i9 + 2))).2.2, dS M, min 6 (dK M + 1), hsR (dH M) (dK M) (dC M), dL M, dN M) : DS) else M) (o_move (dC M) (sx9 xs (i9 + 1)) (sx9 xs (i9 + 2))).1 W2_4058 := hq
  have hpm_4061 : (([(oD, .inl (G.2 6, 1, .inr (.inr (.inr (.inl og))))), (o, .inl (G.2 5, 1, .inr (.inl of2_4048)))] ++ (W2_4050 ++ [])) ++ (W2_4058 ++ []) : va_W).Perm ([(oD, .inl (G.2 6, 1, .inr (.inr (.inr (.inl og))))), (o, .inl (G.2 5, 1, .inr (.inl of2_4048)))] ++ (W2_4050 ++ (W2_4058 ++ []))) := segs_perm2 [[(oD, .inl (G.2 6, 1, .inr (.inr (.inr (.inl og)))))], [(o, .inl (G.2 5, 1, .inr (.inl of2_4048)))], W2_4050] [W2_4058] [0, 1, 2, 3] rfl
  have hP : va_P G.1 CL ([(oD, .inl (G.2 6, 1, .inr (.inr (.inr (.inl og))))), (o, .inl (G.2 5, 1, .inr (.inl of2_4048)))] ++ (W2_4050 ++ (W2_4058 ++ []))) H := P_perm hpm_4061 hP
  have hD : va_D A ([(oD, .inl (G.2 6, 1, .inr (.inr (.inr (.inl og))))), (o, .inl (G.2 5, 1, .inr (.inl of2_4048)))] ++ (W2_4050 ++ (W2_4058 ++ []))) := D_perm hpm_4061 hD
  refine W.eq (g2 := F0 m 1069 ls [.int rr_4057]) rfl ?_
  refine lv_istore (lv' := [(7, .int rr_4057), (6, .int (nI ((o_move (dC C) (sx9 xs (i9 + 1)) (sx9 xs (i9 + 2))).1))), (0, .ref b), (1, .ref d), (2, .ref m0), (3, .ref o), (4, .ref oD), (5, .int (nI i9))]) hx hb dL_law_1069 hl (by decide) rfl (fun ls hl => ?_)
  refine lv_aload_n hx hb dL_law_1071 rfl (lv_at hl 4 rfl) ?_
  have hpm_4062 : (([(oD, .inl (G.2 6, 1, .inr (.inr (.inr (.inl og))))), (o, .inl (G.2 5, 1, .inr (.inl of2_4048)))] ++ (W2_4050 ++ (W2_4058 ++ []))) : va_W).Perm ([] ++ ([(oD, .inl (G.2 6, 1, .inr (.inr (.inr (.inl og))))), (o, .inl (G.2 5, 1, .inr (.inl of2_4048)))] ++ (W2_4050 ++ (W2_4058 ++ [])))) := segs_perm [[(oD, .inl (G.2 6, 1, .inr (.inr (.inr (.inl og)))))], [(o, .inl (G.2 5, 1, .inr (.inl of2_4048)))], W2_4050, W2_4058] [] [0, 1, 2, 3] rfl
  have hF := hF_ofP (wc := []) hD hS hA hpm_4062
  refine go_ctP hS hP hD hpm_4062 hF
      (va_runV (As := []) (rest := []) cf (eX4_thrown l G m0 (if ((o_move (dC M) id d)).1 = 0 then ((((o_move (dC M) id d)).2.2, dS M, min 6 (dK M + 1), hsR (dH M) (dK M) (dC M), dL M, dN M) : DS) else M) (((o_move (dC M) id d)).1) W2_4058 (hq_4060) H.size) (cwV 0 hts (lw_V q1639 q1640 q1641 q58 q1642) rfl rfl rfl (by decide +kernel) ⟨Nat.le_of_ble_eq_true rfl, Nat.le_of_ble_eq_true rfl⟩) (preV_of hKB hE hS hF (MdW.recv hK hq_4060 (seg_at [[(oD, .inl (G.2 6, 1, .inr (.inr (.inr (.inl og)))))], [(o, .inl (G.2 5, 1, .inr (.inl of2_4048)))], W2_4050, W2_4058] 3 rfl hP)) (P_left (P_perm hpm_4062 hP)) ((D_left (D_perm hpm_4062 hD)).weaken (fun _ _ _ _ => trivial)) (roW.nil (seg_at [[(oD, .inl (G.2 6, 1, .inr (.inr (.inr (.inl og)))))], [(o, .inl (G.2 5, 1, .inr (.inl of2_4048)))], W2_4050, W2_4058] 3 rfl hP))) rfl rfl hl.1 rfl (lv_room (Nat.le_of_ble_eq_true rfl)) dL_law_1072 ⟨show cl + (3 + 101) + 0 ≤ 1200144 from by first | decide | omega, show sl + (70 + 5800) + 0 ≤ 5495674 from by first | decide | omega⟩)
      (fun u_ H locs hq hph (hP : va_P G.1 CL (([(oD, .inl (G.2 6, 1, .inr (.inr (.inr (.inl og))))), (o, .inl (G.2 5, 1, .inr (.inl of2_4048)))] ++ (W2_4050 ++ (W2_4058 ++ []))) ++ []) H) (hD : va_D A (([(oD, .inl (G.2 6, 1, .inr (.inr (.inr (.inl og))))), (o, .inl (G.2 5, 1, .inr (.inl of2_4048)))] ++ (W2_4050 ++ (W2_4058 ++ []))) ++ [])) hS hfz hfk => ?_)
  have hpm_4063 : (([(oD, .inl (G.2 6, 1, .inr (.inr (.inr (.inl og))))), (o, .inl (G.2 5, 1, .inr (.inl of2_4048)))] ++ (W2_4050 ++ (W2_4058 ++ []))) ++ [] : va_W).Perm ([(oD, .inl (G.2 6, 1, .inr (.inr (.inr (.inl og))))), (o, .inl (G.2 5, 1, .inr (.inl of2_4048)))] ++ (W2_4050 ++ (W2_4058 ++ []))) := segs_perm2 [[(oD, .inl (G.2 6, 1, .inr (.inr (.inr (.inl og)))))], [(o, .inl (G.2 5, 1, .inr (.inl of2_4048)))], W2_4050, W2_4058] [] [0, 1, 2, 3] rfl
  have hP : va_P G.1 CL ([(oD, .inl (G.2 6, 1, .inr (.inr (.inr (.inl og))))), (o, .inl (G.2 5, 1, .inr (.inl of2_4048)))] ++ (W2_4050 ++ (W2_4058 ++ []))) H := P_perm hpm_4063 hP
  have hD : va_D A ([(oD, .inl (G.2 6, 1, .inr (.inr (.inr (.inl og))))), (o, .inl (G.2 5, 1, .inr (.inl of2_4048)))] ++ (W2_4050 ++ (W2_4058 ++ []))) := D_perm hpm_4063 hD
  refine W.eq (g2 := F0 m 1075 ls [.int (nI (((o_move (dC M) id d)).1))]) rfl ?_
  refine lv_ton (n := ((o_move (dC C) (sx9 xs (i9 + 1)) (sx9 xs (i9 + 2))).1)) (congrArg nI hqs.1.symm) ?_
  refine lv_iload hx hb dL_law_1075 (lv_at hl 1 rfl) ?_
  refine lv_icmp_eq (tgt := 1082) hx hb dL_law_1077 (by decide) (fun _ => ?_) (fun c9 => absurd rfl c9)
  refine lv_iload hx hb dL_law_1082 (lv_at hl 1 rfl) ?_
  refine n_if_ne (tgt := 1099) hx hb (by omega) dL_law_1084 (by decide) (fun c_4064 => ?_) (fun c_4064 => ?_)
  · refine lv_goto (tgt := 2788) hx hb dL_law_1099 (by decide) ?_
    have hpm_4065 : (([(oD, .inl (G.2 6, 1, .inr (.inr (.inr (.inl og))))), (o, .inl (G.2 5, 1, .inr (.inl of2_4048)))] ++ (W2_4050 ++ (W2_4058 ++ []))) : va_W).Perm (([(o, .inl (G.2 5, 1, .inr (.inl of2_4048))), (oD, .inl (G.2 6, 1, .inr (.inr (.inr (.inl og)))))] ++ (W2_4050 ++ (W2_4058 ++ []))) ++ []) := segs_perm [[(oD, .inl (G.2 6, 1, .inr (.inr (.inr (.inl og)))))], [(o, .inl (G.2 5, 1, .inr (.inl of2_4048)))], W2_4050, W2_4058] [1, 0, 2, 3] [] rfl
    have hP : va_P G.1 CL ([(o, .inl (G.2 5, 1, .inr (.inl of2_4048))), (oD, .inl (G.2 6, 1, .inr (.inr (.inr (.inl og)))))] ++ (W2_4050 ++ (W2_4058 ++ []))) H := P_left (P_perm hpm_4065 hP)
    have hD : va_D A ([(o, .inl (G.2 5, 1, .inr (.inl of2_4048))), (oD, .inl (G.2 6, 1, .inr (.inr (.inr (.inl og)))))] ++ (W2_4050 ++ (W2_4058 ++ []))) := D_left (D_perm hpm_4065 hD)
    have hl := lv_sub hl [2, 3, 4, 5, 6, 7] (l' := [(0, .ref b), (1, .ref d), (2, .ref m0), (3, .ref o), (4, .ref oD), (5, .int (nI i9))]) rfl
    exact W.widen (show cl + (3 + 101) ≤ cl + 20000 from by omega) (show sl + (70 + 5800) ≤ sl + 45000 from by omega) (kk ls H locs S2_4049 (if ((o_move (dC M) id d)).1 = 0 then ((((o_move (dC M) id d)).2.2, dS M, min 6 (dK M + 1), hsR (dH M) (dK M) (dC M), dL M, dN M) : DS) else M) (((o_move (dC M) id d)).1) W2_4050 W2_4058 of2_4048 og hP hD hS hl hq_4054 hq_4060 (hLw.mut hqs hq_4052 (o_move_b (dC C) (sx9 xs (i9 + 1)) (sx9 xs (i9 + 2)))))
  · refine lv_aload_n hx hb dL_law_1087 rfl (lv_at hl 5 rfl) ?_
    refine lv_iconst (v := nI 0) hx hb dL_law_1088 (by decide) ?_
    refine r_lald (v := (((o_move (dC C) (sx9 xs (i9 + 1)) (sx9 xs (i9 + 2)))).2.1).toInt64) hx hb hK hP 1 5 rfl rfl (i := 0) (by omega) (by omega) ((hq_4051 (by omega))) dL_law_1089 ?_
    refine lv_iload hx hb dL_law_1090 (lv_at hl 0 rfl) ?_
    refine lv_toi (y := ((o_move (dC C) (sx9 xs (i9 + 1)) (sx9 xs (i9 + 2)))).2.1) ((hq_4059 (hqs.1.symm.trans (by omega))).trans hqs.2.1.symm) ?_
    refine lv_i2l (v := (((o_move (dC C) (sx9 xs (i9 + 1)) (sx9 xs (i9 + 2)))).2.1).toInt64) hx hb dL_law_1092 rfl ?_
    refine W.lcmp hx hb dL_law_1093 ?_
    refine lv_ton (n := 0) (lcmp0 _) ?_
    refine n_if_eq (tgt := 1099) hx hb (by omega) dL_law_1094 (by decide) (fun c_4066 => ?_) (fun c_4066 => absurd c_4066 (by omega))
    refine lv_goto (tgt := 2788) hx hb dL_law_1099 (by decide) ?_
    have hpm_4067 : (([(oD, .inl (G.2 6, 1, .inr (.inr (.inr (.inl og))))), (o, .inl (G.2 5, 1, .inr (.inl of2_4048)))] ++ (W2_4050 ++ (W2_4058 ++ []))) : va_W).Perm (([(o, .inl (G.2 5, 1, .inr (.inl of2_4048))), (oD, .inl (G.2 6, 1, .inr (.inr (.inr (.inl og)))))] ++ (W2_4050 ++ (W2_4058 ++ []))) ++ []) := segs_perm [[(oD, .inl (G.2 6, 1, .inr (.inr (.inr (.inl og)))))], [(o, .inl (G.2 5, 1, .inr (.inl of2_4048)))], W2_4050, W2_4058] [1, 0, 2, 3] [] rfl
    have hP : va_P G.1 CL ([(o, .inl (G.2 5, 1, .inr (.inl of2_4048))), (oD, .inl (G.2 6, 1, .inr (.inr (.inr (.inl og)))))] ++ (W2_4050 ++ (W2_4058 ++ []))) H := P_left (P_perm hpm_4067 hP)
    have hD : va_D A ([(o, .inl (G.2 5, 1, .inr (.inl of2_4048))), (oD, .inl (G.2 6, 1, .inr (.inr (.inr (.inl og)))))] ++ (W2_4050 ++ (W2_4058 ++ []))) := D_left (D_perm hpm_4067 hD)
    have hl := lv_sub hl [2, 3, 4, 5, 6, 7] (l' := [(0, .ref b), (1, .ref d), (2, .ref m0), (3, .ref o), (4, .ref oD), (5, .int (nI i9))]) rfl
    exact W.widen (show cl + (3 + 101) ≤ cl + 20000 from by omega) (show sl + (70 + 5800) ≤ sl + 45000 from by omega) (kk ls H locs S2_4049 (if ((o_move (dC M) id d)).1 = 0 then ((((o_move (dC M) id d)).2.2, dS M, min 6 (dK M + 1), hsR (dH M) (dK M) (dC M), dL M, dN M) : DS) else M) (((o_move (dC M) id d)).1) W2_4050 W2_4058 of2_4048 og hP hD hS hl hq_4054 hq_4060 (hLw.mut hqs hq_4052 (o_move_b (dC C) (sx9 xs (i9 + 1)) (sx9 xs (i9 + 2)))))

set_option maxHeartbeats 4000000 in
theorem lawK_15 {p : Program} {l : Launch} {e : Env} {s : State} {m : MethodId} {below : List Frame} {meth : Method} {c : Code} {G : Gt} {A : Nat → Prop} {b L : Nat} {xs : Nat → Int32} {Q : State → Prop} {d m0 o oD i9 N cl sl : Nat} (hfl : l.stackTraces = false) (F : LwF G A p s m c b L xs) (hi9 : i9 + 4 ≤ L) (hN24 : N ≤ 24) (hcl : cl + 20000 ≤ 1200144) (hsl : sl + 45000 ≤ 5495674) (kk : ∀ (ls : Array Slot) (H : Heap) (locs : List Loc) (C M : DS) (th : Nat) (WD WM : va_W) (of : Nat → Int64) (og : Nat → UInt64), va_P G.1 CL ([(o, .inl (G.2 5, 1, .inr (.inl of))), (oD, .inl (G.2 6, 1, .inr (.inr (.inr (.inl og)))))] ++ (WD ++ (WM ++ []))) H → va_D A ([(o, .inl (G.2 5, 1, .inr (.inl of))), (oD, .inl (G.2 6, 1, .inr (.inr (.inr (.inl og)))))] ++ (WD ++ (WM ++ []))) → va_S A s.heap H locs → lv_has ls 10 [(0, .ref b), (1, .ref d), (2, .ref m0), (3, .ref o), (4, .ref oD), (5, .int (nI i9))] → DyW G d C WD → MdW G m0 M th WM → LawI C M (N + 1) → W p l e room_1 s m #[Value.ref b] below meth c H locs (cl + 20000) (sl + 45000) Q (F0 m 2788 ls [])) {ls : Array Slot} {H : Heap} {locs : List Loc} {C M : DS} {th : Nat} {WD WM : va_W} {of : Nat → Int64} {og : Nat → UInt64} (hP : va_P G.1 CL ([(o, .inl (G.2 5, 1, .inr (.inl of))), (oD, .inl (G.2 6, 1, .inr (.inr (.inr (.inl og)))))] ++ (WD ++ (WM ++ []))) H) (hD : va_D A ([(o, .inl (G.2 5, 1, .inr (.inl of))), (oD, .inl (G.2 6, 1, .inr (.inr (.inr (.inl og)))))] ++ (WD ++ (WM ++ [])))) (hS : va_S A s.heap H locs) (hl : lv_has ls 10 [(0, .ref b), (1, .ref d), (2, .ref m0), (3, .ref o), (4, .ref oD), (5, .int (nI i9))]) (hDy : DyW G d C WD) (hMd : MdW G m0 M th WM) (hLw : LawI C M N) : W p l e room_1 s m #[Value.ref b] below meth c H locs cl sl Q (F0 m 1102 ls []) := by
  obtain ⟨cf, hKB, hE, hA, hX9, hbl, hbA, hNc, hL96⟩ := F
  have hx := cf.1
  have hb := cf.2.1
  have hml := cf.2.2.1
  have hown : s.vm.findClass RX0 = some m.cls := cf.2.2.2.1
  have hts := cf.2.2.2.2
  have hK := hKB.1
  have hIc := hDy.inv.1
  have hIm : Inv (dC M) := Inv_sim hLw.1 hIc
  have hRk : RkOk (dC M) := RkOk_sim hLw.1 (RkOk_srt hDy.inv.2.2)
  have hl := hl
  refine lv_aload_n hx hb dL_law_1102 rfl (lv_at hl 1 rfl) ?_
  refine lv_aload_n hx hb dL_law_1103 rfl (lv_at hl 0 rfl) ?_
  refine lv_iload hx hb dL_law_1104 (lv_at hl 5 rfl) ?_
  refine lv_iconst (v := nI 1) hx hb dL_law_1106 (by decide) ?_
  refine lv_iadd hx hb dL_law_1107 ?_
  refine lv_ton (n := i9 + 1) (nadd (by omega)) ?_
  refine va_sld hx hb hX9 hbl hbA hS (i := nI (i9 + 1)) (vp9 (by omega) hL96) dL_law_1108 ?_
  refine W.eq (g2 := F0 m 1109 ls [.int (sx9 xs (i9 + 1)), .ref d]) rfl ?_
  refine lv_aload_n hx hb dL_law_1109 rfl (lv_at hl 3 rfl) ?_
  have hpm_4068 : (([(o, .inl (G.2 5, 1, .inr (.inl of))), (oD, .inl (G.2 6, 1, .inr (.inr (.inr (.inl og)))))] ++ (WD ++ (WM ++ []))) : va_W).Perm (([(o, .inl (G.2 5, 1, .inr (.inl of)))] ++ (WD ++ [])) ++ ([(oD, .inl (G.2 6, 1, .inr (.inr (.inr (.inl og)))))] ++ (WM ++ []))) := segs_perm [[(o, .inl (G.2 5, 1, .inr (.inl of)))], [(oD, .inl (G.2 6, 1, .inr (.inr (.inr (.inl og)))))], WD, WM] [0, 2] [1, 3] rfl
  have hF := hF_ofP (wc := ([(o, .inl (G.2 5, 1, .inr (.inl of)))] ++ (WD ++ []))) hD hS hA hpm_4068
  refine go_ctP hS hP hD hpm_4068 hF
      (vx_runSW (As := [.ref d, .int (sx9 xs (i9 + 1)), .ref o]) (rest := []) cf (wX0_removeSession l G d C WD o of (sx9 xs (i9 + 1)) (hDy) hfl H.size) (vx_cwSW 3 hts (lw_SW q1183 q1184 q46 q1185) rfl rfl rfl (by decide +kernel) ⟨Nat.le_of_ble_eq_true rfl, Nat.le_of_ble_eq_true rfl⟩) (preS_ofW hNc hKB hE hS hF (P_left (P_perm hpm_4068 hP)) ((D_left (D_perm hpm_4068 hD)).weaken (fun _ _ _ _ => trivial)) trivial) rfl rfl hl.1 rfl (lv_room (Nat.le_of_ble_eq_true rfl)) dL_law_1110 ⟨show cl + (1 + 101) ≤ 1200144 from by first | decide | omega, show sl + (6 + 5800) ≤ 5495674 from by first | decide | omega⟩)
      (fun u_ H locs hq hph (hP : va_P G.1 CL (([(oD, .inl (G.2 6, 1, .inr (.inr (.inr (.inl og)))))] ++ (WM ++ [])) ++ ([(o, .inl (G.2 5, 1, .inr (.inl u_.1)))] ++ (u_.2.2 ++ []))) H) (hD : va_D A (([(oD, .inl (G.2 6, 1, .inr (.inr (.inr (.inl og)))))] ++ (WM ++ [])) ++ ([(o, .inl (G.2 5, 1, .inr (.inl u_.1)))] ++ (u_.2.2 ++ [])))) hS hfz hfk => ?_)
  obtain ⟨of2_4069, S2_4070, W2_4071⟩ := u_
  obtain ⟨hq_4072, hq_4073, hq_4074, hq_4075⟩ : ((o_remSes (dC C) (sx9 xs (i9 + 1))).1 = 0 → of2_4069 0 = ((o_remSes (dC C) (sx9 xs (i9 + 1))).2.1).toInt64) ∧ NxS C (o_remSes (dC C) (sx9 xs (i9 + 1))) S2_4070 ∧ (o_remSes (dC C) (sx9 xs (i9 + 1))).1 < 10 ∧ DyW G d S2_4070 W2_4071 := hq
  have hpm_4076 : (([(oD, .inl (G.2 6, 1, .inr (.inr (.inr (.inl og)))))] ++ (WM ++ [])) ++ ([(o, .inl (G.2 5, 1, .inr (.inl of2_4069)))] ++ (W2_4071 ++ [])) : va_W).Perm ([(oD, .inl (G.2 6, 1, .inr (.inr (.inr (.inl og))))), (o, .inl (G.2 5, 1, .inr (.inl of2_4069)))] ++ (WM ++ (W2_4071 ++ []))) := segs_perm2 [[(oD, .inl (G.2 6, 1, .inr (.inr (.inr (.inl og)))))], WM] [[(o, .inl (G.2 5, 1, .inr (.inl of2_4069)))], W2_4071] [0, 2, 1, 3] rfl
  have hP : va_P G.1 CL ([(oD, .inl (G.2 6, 1, .inr (.inr (.inr (.inl og))))), (o, .inl (G.2 5, 1, .inr (.inl of2_4069)))] ++ (WM ++ (W2_4071 ++ []))) H := P_perm hpm_4076 hP
  have hD : va_D A ([(oD, .inl (G.2 6, 1, .inr (.inr (.inr (.inl og))))), (o, .inl (G.2 5, 1, .inr (.inl of2_4069)))] ++ (WM ++ (W2_4071 ++ []))) := D_perm hpm_4076 hD
  refine W.eq (g2 := F0 m 1113 ls [.int (nI ((o_remSes (dC C) (sx9 xs (i9 + 1))).1))]) rfl ?_
  have hqs : SimR (o_remSes (dC C) (sx9 xs (i9 + 1))) (o_remSes (dC M) id) := o_remSes_sim hLw.1 hIc (sx9 xs (i9 + 1))
  refine lv_istore (lv' := [(6, .int (nI ((o_remSes (dC C) (sx9 xs (i9 + 1))).1))), (0, .ref b), (1, .ref d), (2, .ref m0), (3, .ref o), (4, .ref oD), (5, .int (nI i9))]) hx hb dL_law_1113 hl (by decide) rfl (fun ls hl => ?_)
  refine lv_aload_n hx hb dL_law_1115 rfl (lv_at hl 3 rfl) ?_
  refine lv_aload_n hx hb dL_law_1116 rfl (lv_at hl 1 rfl) ?_
  refine lv_iload hx hb dL_law_1117 (lv_at hl 6 rfl) ?_
  refine lv_iconst (v := nI 1) hx hb dL_law_1119 (by decide) ?_
  refine lv_iadd hx hb dL_law_1120 ?_
  refine lv_ton (n := i9 + 1) (nadd (by omega)) ?_
  refine va_sld hx hb hX9 hbl hbA hS (i := nI (i9 + 1)) (vp9 (by omega) hL96) dL_law_1121 ?_
  refine W.eq (g2 := F0 m 1122 ls [.int (sx9 xs (i9 + 1)), .ref m0]) rfl ?_
  have hpm_4077 : (([(oD, .inl (G.2 6, 1, .inr (.inr (.inr (.inl og))))), (o, .inl (G.2 5, 1, .inr (.inl of2_4069)))] ++ (WM ++ (W2_4071 ++ []))) : va_W).Perm ((WM ++ []) ++ ([(oD, .inl (G.2 6, 1, .inr (.inr (.inr (.inl og))))), (o, .inl (G.2 5, 1, .inr (.inl of2_4069)))] ++ (W2_4071 ++ []))) := segs_perm [[(oD, .inl (G.2 6, 1, .inr (.inr (.inr (.inl og)))))], [(o, .inl (G.2 5, 1, .inr (.inl of2_4069)))], WM, W2_4071] [2] [0, 1, 3] rfl
  have hF := hF_ofP (wc := (WM ++ [])) hD hS hA hpm_4077
  refine go_ctP hS hP hD hpm_4077 hF
      (va_runV (As := [.int (sx9 xs (i9 + 1))]) (rest := []) cf (eX4_removeSession l G m0 M th WM (sx9 xs (i9 + 1)) (hMd) (hIm) H.size) (cwV 1 hts (lw_V q1759 q1760 q1761 q58 q1762) rfl rfl rfl (by decide +kernel) ⟨Nat.le_of_ble_eq_true rfl, Nat.le_of_ble_eq_true rfl⟩) (preV_of hKB hE hS hF (MdW.recv hK hMd (seg_at [[(oD, .inl (G.2 6, 1, .inr (.inr (.inr (.inl og)))))], [(o, .inl (G.2 5, 1, .inr (.inl of2_4069)))], WM, W2_4071] 2 rfl hP)) (P_left (P_perm hpm_4077 hP)) ((D_left (D_perm hpm_4077 hD)).weaken (fun _ _ _ _ => trivial)) trivial) rfl rfl hl.1 rfl (lv_room (Nat.le_of_ble_eq_true rfl)) dL_law_1122 ⟨show cl + (1 + 101) + 0 ≤ 1200144 from by first | decide | omega, show sl + (6 + 5800) + 0 ≤ 5495674 from by first | decide | omega⟩)
      (fun u_ H locs hq hph (hP : va_P G.1 CL (([(oD, .inl (G.2 6, 1, .inr (.inr (.inr (.inl og))))), (o, .inl (G.2 5, 1, .inr (.inl of2_4069)))] ++ (W2_4071 ++ [])) ++ (u_.2 ++ [])) H) (hD : va_D A (([(oD, .inl (G.2 6, 1, .inr (.inr (.inr (.inl og))))), (o, .inl (G.2 5, 1, .inr (.inl of2_4069)))] ++ (W2_4071 ++ [])) ++ (u_.2 ++ []))) hS hfz hfk => ?_)
  obtain ⟨rr_4078, W2_4079⟩ := u_
  obtain ⟨hq_4080, hq_4081⟩ : ((o_remSes (dC M) (sx9 xs (i9 + 1))).1 = 0 → rr_4078 = (o_remSes (dC M) (sx9 xs (i9 + 1))).2.1) ∧ MdW G m0 (if (o_remSes (dC M) (sx9 xs (i9 + 1))).1 = 0 then (((o_remSes (dC M) (sx9 xs (i9 + 1))).2.2, dS M, min 6 (dK M + 1), hsR (dH M) (dK M) (dC M), dL M, dN M) : DS) else M) (o_remSes (dC M) (sx9 xs (i9 + 1))).1 W2_4079 := hq
  have hpm_4082 : (([(oD, .inl (G.2 6, 1, .inr (.inr (.inr (.inl og))))), (o, .inl (G.2 5, 1, .inr (.inl of2_4069)))] ++ (W2_4071 ++ [])) ++ (W2_4079 ++ []) : va_W).Perm ([(oD, .inl (G.2 6, 1, .inr (.inr (.inr (.inl og))))), (o, .inl (G.2 5, 1, .inr (.inl of2_4069)))] ++ (W2_4071 ++ (W2_4079 ++ []))) := segs_perm2 [[(oD, .inl (G.2 6, 1, .inr (.inr (.inr (.inl og)))))], [(o, .inl (G.2 5, 1, .inr (.inl of2_4069)))], W2_4071] [W2_4079] [0, 1, 2, 3] rfl
  have hP : va_P G.1 CL ([(oD, .inl (G.2 6, 1, .inr (.inr (.inr (.inl og))))), (o, .inl (G.2 5, 1, .inr (.inl of2_4069)))] ++ (W2_4071 ++ (W2_4079 ++ []))) H := P_perm hpm_4082 hP
  have hD : va_D A ([(oD, .inl (G.2 6, 1, .inr (.inr (.inr (.inl og))))), (o, .inl (G.2 5, 1, .inr (.inl of2_4069)))] ++ (W2_4071 ++ (W2_4079 ++ []))) := D_perm hpm_4082 hD
  refine W.eq (g2 := F0 m 1125 ls [.int rr_4078]) rfl ?_
  refine lv_istore (lv' := [(7, .int rr_4078), (6, .int (nI ((o_remSes (dC C) (sx9 xs (i9 + 1))).1))), (0, .ref b), (1, .ref d), (2, .ref m0), (3, .ref o), (4, .ref oD), (5, .int (nI i9))]) hx hb dL_law_1125 hl (by decide) rfl (fun ls hl => ?_)
  refine lv_aload_n hx hb dL_law_1127 rfl (lv_at hl 4 rfl) ?_
  have hpm_4083 : (([(oD, .inl (G.2 6, 1, .inr (.inr (.inr (.inl og))))), (o, .inl (G.2 5, 1, .inr (.inl of2_4069)))] ++ (W2_4071 ++ (W2_4079 ++ []))) : va_W).Perm ([] ++ ([(oD, .inl (G.2 6, 1, .inr (.inr (.inr (.inl og))))), (o, .inl (G.2 5, 1, .inr (.inl of2_4069)))] ++ (W2_4071 ++ (W2_4079 ++ [])))) := segs_perm [[(oD, .inl (G.2 6, 1, .inr (.inr (.inr (.inl og)))))], [(o, .inl (G.2 5, 1, .inr (.inl of2_4069)))], W2_4071, W2_4079] [] [0, 1, 2, 3] rfl
  have hF := hF_ofP (wc := []) hD hS hA hpm_4083
  refine go_ctP hS hP hD hpm_4083 hF
      (va_runV (As := []) (rest := []) cf (eX4_thrown l G m0 (if ((o_remSes (dC M) id)).1 = 0 then ((((o_remSes (dC M) id)).2.2, dS M, min 6 (dK M + 1), hsR (dH M) (dK M) (dC M), dL M, dN M) : DS) else M) (((o_remSes (dC M) id)).1) W2_4079 (hq_4081) H.size) (cwV 0 hts (lw_V q1639 q1640 q1641 q58 q1642) rfl rfl rfl (by decide +kernel) ⟨Nat.le_of_ble_eq_true rfl, Nat.le_of_ble_eq_true rfl⟩) (preV_of hKB hE hS hF (MdW.recv hK hq_4081 (seg_at [[(oD, .inl (G.2 6, 1, .inr (.inr (.inr (.inl og)))))], [(o, .inl (G.2 5, 1, .inr (.inl of2_4069)))], W2_4071, W2_4079] 3 rfl hP)) (P_left (P_perm hpm_4083 hP)) ((D_left (D_perm hpm_4083 hD)).weaken (fun _ _ _ _ => trivial)) (roW.nil (seg_at [[(oD, .inl (G.2 6, 1, .inr (.inr (.inr (.inl og)))))], [(o, .inl (G.2 5, 1, .inr (.inl of2_4069)))], W2_4071, W2_4079] 3 rfl hP))) rfl rfl hl.1 rfl (lv_room (Nat.le_of_ble_eq_true rfl)) dL_law_1128 ⟨show cl + (1 + 101) + 0 ≤ 1200144 from by first | decide | omega, show sl + (6 + 5800) + 0 ≤ 5495674 from by first | decide | omega⟩)
      (fun u_ H locs hq hph (hP : va_P G.1 CL (([(oD, .inl (G.2 6, 1, .inr (.inr (.inr (.inl og))))), (o, .inl (G.2 5, 1, .inr (.inl of2_4069)))] ++ (W2_4071 ++ (W2_4079 ++ []))) ++ []) H) (hD : va_D A (([(oD, .inl (G.2 6, 1, .inr (.inr (.inr (.inl og))))), (o, .inl (G.2 5, 1, .inr (.inl of2_4069)))] ++ (W2_4071 ++ (W2_4079 ++ []))) ++ [])) hS hfz hfk => ?_)
  have hpm_4084 : (([(oD, .inl (G.2 6, 1, .inr (.inr (.inr (.inl og))))), (o, .inl (G.2 5, 1, .inr (.inl of2_4069)))] ++ (W2_4071 ++ (W2_4079 ++ []))) ++ [] : va_W).Perm ([(oD, .inl (G.2 6, 1, .inr (.inr (.inr (.inl og))))), (o, .inl (G.2 5, 1, .inr (.inl of2_4069)))] ++ (W2_4071 ++ (W2_4079 ++ []))) := segs_perm2 [[(oD, .inl (G.2 6, 1, .inr (.inr (.inr (.inl og)))))], [(o, .inl (G.2 5, 1, .inr (.inl of2_4069)))], W2_4071, W2_4079] [] [0, 1, 2, 3] rfl
  have hP : va_P G.1 CL ([(oD, .inl (G.2 6, 1, .inr (.inr (.inr (.inl og))))), (o, .inl (G.2 5, 1, .inr (.inl of2_4069)))] ++ (W2_4071 ++ (W2_4079 ++ []))) H := P_perm hpm_4084 hP
  have hD : va_D A ([(oD, .inl (G.2 6, 1, .inr (.inr (.inr (.inl og))))), (o, .inl (G.2 5, 1, .inr (.inl of2_4069)))] ++ (W2_4071 ++ (W2_4079 ++ []))) := D_perm hpm_4084 hD
  refine W.eq (g2 := F0 m 1131 ls [.int (nI (((o_remSes (dC M) id)).1))]) rfl ?_
  refine lv_ton (n := ((o_remSes (dC C) (sx9 xs (i9 + 1))).1)) (congrArg nI hqs.1.symm) ?_
  refine lv_iload hx hb dL_law_1131 (lv_at hl 1 rfl) ?_
  refine lv_icmp_eq (tgt := 1138) hx hb dL_law_1133 (by decide) (fun _ => ?_) (fun c9 => absurd rfl c9)
  refine lv_iload hx hb dL_law_1138 (lv_at hl 1 rfl) ?_
  refine n_if_ne (tgt := 1155) hx hb (by omega) dL_law_1140 (by decide) (fun c_4085 => ?_) (fun c_4085 => ?_)
  · refine lv_goto (tgt := 2788) hx hb dL_law_1155 (by decide) ?_
    have hpm_4086 : (([(oD, .inl (G.2 6, 1, .inr (.inr (.inr (.inl og))))), (o, .inl (G.2 5, 1, .inr (.inl of2_4069)))] ++ (W2_4071 ++ (W2_4079 ++ []))) : va_W).Perm (([(o, .inl (G.2 5, 1, .inr (.inl of2_4069))), (oD, .inl (G.2 6, 1, .inr (.inr (.inr (.inl og)))))] ++ (W2_4071 ++ (W2_4079 ++ []))) ++ []) := segs_perm [[(oD, .inl (G.2 6, 1, .inr (.inr (.inr (.inl og)))))], [(o, .inl (G.2 5, 1, .inr (.inl of2_4069)))], W2_4071, W2_4079] [1, 0, 2, 3] [] rfl
    have hP : va_P G.1 CL ([(o, .inl (G.2 5, 1, .inr (.inl of2_4069))), (oD, .inl (G.2 6, 1, .inr (.inr (.inr (.inl og)))))] ++ (W2_4071 ++ (W2_4079 ++ []))) H := P_left (P_perm hpm_4086 hP)
    have hD : va_D A ([(o, .inl (G.2 5, 1, .inr (.inl of2_4069))), (oD, .inl (G.2 6, 1, .inr (.inr (.inr (.inl og)))))] ++ (W2_4071 ++ (W2_4079 ++ []))) := D_left (D_perm hpm_4086 hD)
    have hl := lv_sub hl [2, 3, 4, 5, 6, 7] (l' := [(0, .ref b), (1, .ref d), (2, .ref m0), (3, .ref o), (4, .ref oD), (5, .int (nI i9))]) rfl
    exact W.widen (show cl + (1 + 101) ≤ cl + 20000 from by omega) (show sl + (6 + 5800) ≤ sl + 45000 from by omega) (kk ls H locs S2_4070 (if ((o_remSes (dC M) id)).1 = 0 then ((((o_remSes (dC M) id)).2.2, dS M, min 6 (dK M + 1), hsR (dH M) (dK M) (dC M), dL M, dN M) : DS) else M) (((o_remSes (dC M) id)).1) W2_4071 W2_4079 of2_4069 og hP hD hS hl hq_4075 hq_4081 (hLw.mut hqs hq_4073 (o_remSes_b (dC C) (sx9 xs (i9 + 1)))))
  · refine lv_aload_n hx hb dL_law_1143 rfl (lv_at hl 5 rfl) ?_
    refine lv_iconst (v := nI 0) hx hb dL_law_1144 (by decide) ?_
    refine r_lald (v := (((o_remSes (dC C) (sx9 xs (i9 + 1)))).2.1).toInt64) hx hb hK hP 1 5 rfl rfl (i := 0) (by omega) (by omega) ((hq_4072 (by omega))) dL_law_1145 ?_
    refine lv_iload hx hb dL_law_1146 (lv_at hl 0 rfl) ?_
    refine lv_toi (y := ((o_remSes (dC C) (sx9 xs (i9 + 1)))).2.1) ((hq_4080 (hqs.1.symm.trans (by omega))).trans hqs.2.1.symm) ?_
    refine lv_i2l (v := (((o_remSes (dC C) (sx9 xs (i9 + 1)))).2.1).toInt64) hx hb dL_law_1148 rfl ?_
    refine W.lcmp hx hb dL_law_1149 ?_
    refine lv_ton (n := 0) (lcmp0 _) ?_
    refine n_if_eq (tgt := 1155) hx hb (by omega) dL_law_1150 (by decide) (fun c_4087 => ?_) (fun c_4087 => absurd c_4087 (by omega))
    refine lv_goto (tgt := 2788) hx hb dL_law_1155 (by decide) ?_
    have hpm_4088 : (([(oD, .inl (G.2 6, 1, .inr (.inr (.inr (.inl og))))), (o, .inl (G.2 5, 1, .inr (.inl of2_4069)))] ++ (W2_4071 ++ (W2_4079 ++ []))) : va_W).Perm (([(o, .inl (G.2 5, 1, .inr (.inl of2_4069))), (oD, .inl (G.2 6, 1, .inr (.inr (.inr (.inl og)))))] ++ (W2_4071 ++ (W2_4079 ++ []))) ++ []) := segs_perm [[(oD, .inl (G.2 6, 1, .inr (.inr (.inr (.inl og)))))], [(o, .inl (G.2 5, 1, .inr (.inl of2_4069)))], W2_4071, W2_4079] [1, 0, 2, 3] [] rfl
    have hP : va_P G.1 CL ([(o, .inl (G.2 5, 1, .inr (.inl of2_4069))), (oD, .inl (G.2 6, 1, .inr (.inr (.inr (.inl og)))))] ++ (W2_4071 ++ (W2_4079 ++ []))) H := P_left (P_perm hpm_4088 hP)
    have hD : va_D A ([(o, .inl (G.2 5, 1, .inr (.inl of2_4069))), (oD, .inl (G.2 6, 1, .inr (.inr (.inr (.inl og)))))] ++ (W2_4071 ++ (W2_4079 ++ []))) := D_left (D_perm hpm_4088 hD)
    have hl := lv_sub hl [2, 3, 4, 5, 6, 7] (l' := [(0, .ref b), (1, .ref d), (2, .ref m0), (3, .ref o), (4, .ref oD), (5, .int (nI i9))]) rfl
    exact W.widen (show cl + (1 + 101) ≤ cl + 20000 from by omega) (show sl + (6 + 5800) ≤ sl + 45000 from by omega) (kk ls H locs S2_4070 (if ((o_remSes (dC M) id)).1 = 0 then ((((o_remSes (dC M) id)).2.2, dS M, min 6 (dK M + 1), hsR (dH M) (dK M) (dC M), dL M, dN M) : DS) else M) (((o_remSes (dC M) id)).1) W2_4071 W2_4079 of2_4069 og hP hD hS hl hq_4075 hq_4081 (hLw.mut hqs hq_4073 (o_remSes_b (dC C) (sx9 xs (i9 + 1)))))

set_option maxHeartbeats 4000000 in
theorem lawK_16 {p : Program} {l : Launch} {e : Env} {s : State} {m : MethodId} {below : List Frame} {meth : Method} {c : Code} {G : Gt} {A : Nat → Prop} {b L : Nat} {xs : Nat → Int32} {Q : State → Prop} {d m0 o oD i9 N cl sl : Nat} (hfl : l.stackTraces = false) (F : LwF G A p s m c b L xs) (hi9 : i9 + 4 ≤ L) (hN24 : N ≤ 24) (hcl : cl + 20000 ≤ 1200144) (hsl : sl + 45000 ≤ 5495674) (kk : ∀ (ls : Array Slot) (H : Heap) (locs : List Loc) (C M : DS) (th : Nat) (WD WM : va_W) (of : Nat → Int64) (og : Nat → UInt64), va_P G.1 CL ([(o, .inl (G.2 5, 1, .inr (.inl of))), (oD, .inl (G.2 6, 1, .inr (.inr (.inr (.inl og)))))] ++ (WD ++ (WM ++ []))) H → va_D A ([(o, .inl (G.2 5, 1, .inr (.inl of))), (oD, .inl (G.2 6, 1, .inr (.inr (.inr (.inl og)))))] ++ (WD ++ (WM ++ []))) → va_S A s.heap H locs → lv_has ls 10 [(0, .ref b), (1, .ref d), (2, .ref m0), (3, .ref o), (4, .ref oD), (5, .int (nI i9))] → DyW G d C WD → MdW G m0 M th WM → LawI C M (N + 1) → W p l e room_1 s m #[Value.ref b] below meth c H locs (cl + 20000) (sl + 45000) Q (F0 m 2788 ls [])) {ls : Array Slot} {H : Heap} {locs : List Loc} {C M : DS} {th : Nat} {WD WM : va_W} {of : Nat → Int64} {og : Nat → UInt64} (hP : va_P G.1 CL ([(o, .inl (G.2 5, 1, .inr (.inl of))), (oD, .inl (G.2 6, 1, .inr (.inr (.inr (.inl og)))))] ++ (WD ++ (WM ++ []))) H) (hD : va_D A ([(o, .inl (G.2 5, 1, .inr (.inl of))), (oD, .inl (G.2 6, 1, .inr (.inr (.inr (.inl og)))))] ++ (WD ++ (WM ++ [])))) (hS : va_S A s.heap H locs) (hl : lv_has ls 10 [(0, .ref b), (1, .ref d), (2, .ref m0), (3, .ref o), (4, .ref oD), (5, .int (nI i9))]) (hDy : DyW G d C WD) (hMd : MdW G m0 M th WM) (hLw : LawI C M N) : W p l e room_1 s m #[Value.ref b] below meth c H locs cl sl Q (F0 m 1158 ls []) := by
  obtain ⟨cf, hKB, hE, hA, hX9, hbl, hbA, hNc, hL96⟩ := F
  have hx := cf.1
  have hb := cf.2.1
  have hml := cf.2.2.1
  have hown : s.vm.findClass RX0 = some m.cls := cf.2.2.2.1
  have hts := cf.2.2.2.2
  have hK := hKB.1
  have hIc := hDy.inv.1
  have hIm : Inv (dC M) := Inv_sim hLw.1 hIc
  have hRk : RkOk (dC M) := RkOk_sim hLw.1 (RkOk_srt hDy.inv.2.2)
  have hl := hl
  refine lv_aload_n hx hb dL_law_1158 rfl (lv_at hl 1 rfl) ?_
  have hpm_4089 : (([(o, .inl (G.2 5, 1, .inr (.inl of))), (oD, .inl (G.2 6, 1, .inr (.inr (.inr (.inl og)))))] ++ (WD ++ (WM ++ []))) : va_W).Perm ((WD ++ []) ++ ([(o, .inl (G.2 5, 1, .inr (.inl of))), (oD, .inl (G.2 6, 1, .inr (.inr (.inr (.inl og)))))] ++ (WM ++ []))) := segs_perm [[(o, .inl (G.2 5, 1, .inr (.inl of)))], [(oD, .inl (G.2 6, 1, .inr (.inr (.inr (.inl og)))))], WD, WM] [2] [0, 1, 3] rfl
  have hF := hF_ofP (wc := (WD ++ [])) hD hS hA hpm_4089
  refine go_ctP hS hP hD hpm_4089 hF
      (va_runV (As := []) (rest := []) cf (dX1_sessionCount l G d C WD (hDy) H.size) (cwV 0 hts (lw_V q267 q268 q269 q47 q270) rfl rfl rfl (by decide +kernel) ⟨Nat.le_of_ble_eq_true rfl, Nat.le_of_ble_eq_true rfl⟩) (preV_of hKB hE hS hF (DyW.recv hK hDy (seg_at [[(o, .inl (G.2 5, 1, .inr (.inl of)))], [(oD, .inl (G.2 6, 1, .inr (.inr (.inr (.inl og)))))], WD, WM] 2 rfl hP)) (P_left (P_perm hpm_4089 hP)) ((D_left (D_perm hpm_4089 hD)).weaken (fun _ _ _ _ => trivial)) trivial) rfl rfl hl.1 rfl (lv_room (Nat.le_of_ble_eq_true rfl)) dL_law_1159 ⟨show cl + 1 ≤ 1200144 from by first | decide | omega, show sl + 2 ≤ 5495674 from by first | decide | omega⟩)
      (fun u_ H locs hq hph (hP : va_P G.1 CL (([(o, .inl (G.2 5, 1, .inr (.inl of))), (oD, .inl (G.2 6, 1, .inr (.inr (.inr (.inl og)))))] ++ (WM ++ [])) ++ (u_.2 ++ [])) H) (hD : va_D A (([(o, .inl (G.2 5, 1, .inr (.inl of))), (oD, .inl (G.2 6, 1, .inr (.inr (.inr (.inl og)))))] ++ (WM ++ [])) ++ (u_.2 ++ []))) hS hfz hfk => ?_)
  obtain ⟨rr_4090, W2_4091⟩ := u_
  obtain ⟨hq_4092, hq_4093⟩ : q_sessionCount (dC C) = (0, rr_4090) ∧ DyW G d C W2_4091 := hq
  have hpm_4094 : (([(o, .inl (G.2 5, 1, .inr (.inl of))), (oD, .inl (G.2 6, 1, .inr (.inr (.inr (.inl og)))))] ++ (WM ++ [])) ++ (W2_4091 ++ []) : va_W).Perm ([(o, .inl (G.2 5, 1, .inr (.inl of))), (oD, .inl (G.2 6, 1, .inr (.inr (.inr (.inl og)))))] ++ (WM ++ (W2_4091 ++ []))) := segs_perm2 [[(o, .inl (G.2 5, 1, .inr (.inl of)))], [(oD, .inl (G.2 6, 1, .inr (.inr (.inr (.inl og)))))], WM] [W2_4091] [0, 1, 2, 3] rfl
  have hP : va_P G.1 CL ([(o, .inl (G.2 5, 1, .inr (.inl of))), (oD, .inl (G.2 6, 1, .inr (.inr (.inr (.inl og)))))] ++ (WM ++ (W2_4091 ++ []))) H := P_perm hpm_4094 hP
  have hD : va_D A ([(o, .inl (G.2 5, 1, .inr (.inl of))), (oD, .inl (G.2 6, 1, .inr (.inr (.inr (.inl og)))))] ++ (WM ++ (W2_4091 ++ []))) := D_perm hpm_4094 hD
  refine W.eq (g2 := F0 m 1162 ls [.int rr_4090]) rfl ?_
  have hqs : (q_sessionCount (dC M)) = (q_sessionCount (dC C)) := q_sessionCount_sim hLw.1.symm hIm 
  refine lv_toi (y := ((q_sessionCount (dC C))).2) ((congrArg Prod.snd hq_4092).symm) ?_
  refine lv_aload_n hx hb dL_law_1162 rfl (lv_at hl 2 rfl) ?_
  have hpm_4095 : (([(o, .inl (G.2 5, 1, .inr (.inl of))), (oD, .inl (G.2 6, 1, .inr (.inr (.inr (.inl og)))))] ++ (WM ++ (W2_4091 ++ []))) : va_W).Perm ((WM ++ []) ++ ([(o, .inl (G.2 5, 1, .inr (.inl of))), (oD, .inl (G.2 6, 1, .inr (.inr (.inr (.inl og)))))] ++ (W2_4091 ++ []))) := segs_perm [[(o, .inl (G.2 5, 1, .inr (.inl of)))], [(oD, .inl (G.2 6, 1, .inr (.inr (.inr (.inl og)))))], WM, W2_4091] [2] [0, 1, 3] rfl
  have hF := hF_ofP (wc := (WM ++ [])) hD hS hA hpm_4095
  refine go_ctP hS hP hD hpm_4095 hF
      (va_runV (As := []) (rest := [.int (((q_sessionCount (dC C))).2)]) cf (eX4_sessionCount l G m0 M th WM (hMd) (hIm) H.size) (cwV 0 hts (lw_V q1763 q1764 q1765 q58 q1766) rfl rfl rfl (by decide +kernel) ⟨Nat.le_of_ble_eq_true rfl, Nat.le_of_ble_eq_true rfl⟩) (preV_of hKB hE hS hF (MdW.recv hK hMd (seg_at [[(o, .inl (G.2 5, 1, .inr (.inl of)))], [(oD, .inl (G.2 6, 1, .inr (.inr (.inr (.inl og)))))], WM, W2_4091] 2 rfl hP)) (P_left (P_perm hpm_4095 hP)) ((D_left (D_perm hpm_4095 hD)).weaken (fun _ _ _ _ => trivial)) trivial) rfl rfl hl.1 rfl (lv_room (Nat.le_of_ble_eq_true rfl)) dL_law_1163 ⟨show cl + 1 + 0 ≤ 1200144 from by first | decide | omega, show sl + 2 + 0 ≤ 5495674 from by first | decide | omega⟩)
      (fun u_ H locs hq hph (hP : va_P G.1 CL (([(o, .inl (G.2 5, 1, .inr (.inl of))), (oD, .inl (G.2 6, 1, .inr (.inr (.inr (.inl og)))))] ++ (W2_4091 ++ [])) ++ (u_.2 ++ [])) H) (hD : va_D A (([(o, .inl (G.2 5, 1, .inr (.inl of))), (oD, .inl (G.2 6, 1, .inr (.inr (.inr (.inl og)))))] ++ (W2_4091 ++ [])) ++ (u_.2 ++ []))) hS hfz hfk => ?_)
  obtain ⟨rr_4096, W2_4097⟩ := u_
  obtain ⟨hq_4098, hq_4099⟩ : ((q_sessionCount (dC M)).1 = 0 → rr_4096 = (q_sessionCount (dC M)).2) ∧ MdW G m0 M (q_sessionCount (dC M)).1 W2_4097 := hq
  have hpm_4100 : (([(o, .inl (G.2 5, 1, .inr (.inl of))), (oD, .inl (G.2 6, 1, .inr (.inr (.inr (.inl og)))))] ++ (W2_4091 ++ [])) ++ (W2_4097 ++ []) : va_W).Perm ([(o, .inl (G.2 5, 1, .inr (.inl of))), (oD, .inl (G.2 6, 1, .inr (.inr (.inr (.inl og)))))] ++ (W2_4091 ++ (W2_4097 ++ []))) := segs_perm2 [[(o, .inl (G.2 5, 1, .inr (.inl of)))], [(oD, .inl (G.2 6, 1, .inr (.inr (.inr (.inl og)))))], W2_4091] [W2_4097] [0, 1, 2, 3] rfl
  have hP : va_P G.1 CL ([(o, .inl (G.2 5, 1, .inr (.inl of))), (oD, .inl (G.2 6, 1, .inr (.inr (.inr (.inl og)))))] ++ (W2_4091 ++ (W2_4097 ++ []))) H := P_perm hpm_4100 hP
  have hD : va_D A ([(o, .inl (G.2 5, 1, .inr (.inl of))), (oD, .inl (G.2 6, 1, .inr (.inr (.inr (.inl og)))))] ++ (W2_4091 ++ (W2_4097 ++ []))) := D_perm hpm_4100 hD
  refine W.eq (g2 := F0 m 1166 ls [.int rr_4096, .int (((q_sessionCount (dC C))).2)]) rfl ?_
  refine lv_toi (y := ((q_sessionCount (dC C))).2) ((hq_4098 (by rw [hqs, hq_4092])).trans (by rw [hqs])) ?_
  refine lv_icmp_eq (tgt := 2788) hx hb dL_law_1166 (by decide) (fun _ => ?_) (fun c9 => absurd rfl c9)
  have hpm_4101 : (([(o, .inl (G.2 5, 1, .inr (.inl of))), (oD, .inl (G.2 6, 1, .inr (.inr (.inr (.inl og)))))] ++ (W2_4091 ++ (W2_4097 ++ []))) : va_W).Perm (([(o, .inl (G.2 5, 1, .inr (.inl of))), (oD, .inl (G.2 6, 1, .inr (.inr (.inr (.inl og)))))] ++ (W2_4091 ++ (W2_4097 ++ []))) ++ []) := segs_perm [[(o, .inl (G.2 5, 1, .inr (.inl of)))], [(oD, .inl (G.2 6, 1, .inr (.inr (.inr (.inl og)))))], W2_4091, W2_4097] [0, 1, 2, 3] [] rfl
  have hP : va_P G.1 CL ([(o, .inl (G.2 5, 1, .inr (.inl of))), (oD, .inl (G.2 6, 1, .inr (.inr (.inr (.inl og)))))] ++ (W2_4091 ++ (W2_4097 ++ []))) H := P_left (P_perm hpm_4101 hP)
  have hD : va_D A ([(o, .inl (G.2 5, 1, .inr (.inl of))), (oD, .inl (G.2 6, 1, .inr (.inr (.inr (.inl og)))))] ++ (W2_4091 ++ (W2_4097 ++ []))) := D_left (D_perm hpm_4101 hD)
  have hl := lv_sub hl [0, 1, 2, 3, 4, 5] (l' := [(0, .ref b), (1, .ref d), (2, .ref m0), (3, .ref o), (4, .ref oD), (5, .int (nI i9))]) rfl
  exact W.widen (show cl + 1 ≤ cl + 20000 from by omega) (show sl + 2 ≤ sl + 45000 from by omega) (kk ls H locs C M (((q_sessionCount (dC M))).1) W2_4091 W2_4097 of og hP hD hS hl hq_4093 hq_4099 hLw.up)

set_option maxHeartbeats 4000000 in
theorem lawK_17 {p : Program} {l : Launch} {e : Env} {s : State} {m : MethodId} {below : List Frame} {meth : Method} {c : Code} {G : Gt} {A : Nat → Prop} {b L : Nat} {xs : Nat → Int32} {Q : State → Prop} {d m0 o oD i9 N cl sl : Nat} (hfl : l.stackTraces = false) (F : LwF G A p s m c b L xs) (hi9 : i9 + 4 ≤ L) (hN24 : N ≤ 24) (hcl : cl + 20000 ≤ 1200144) (hsl : sl + 45000 ≤ 5495674) (kk : ∀ (ls : Array Slot) (H : Heap) (locs : List Loc) (C M : DS) (th : Nat) (WD WM : va_W) (of : Nat → Int64) (og : Nat → UInt64), va_P G.1 CL ([(o, .inl (G.2 5, 1, .inr (.inl of))), (oD, .inl (G.2 6, 1, .inr (.inr (.inr (.inl og)))))] ++ (WD ++ (WM ++ []))) H → va_D A ([(o, .inl (G.2 5, 1, .inr (.inl of))), (oD, .inl (G.2 6, 1, .inr (.inr (.inr (.inl og)))))] ++ (WD ++ (WM ++ []))) → va_S A s.heap H locs → lv_has ls 10 [(0, .ref b), (1, .ref d), (2, .ref m0), (3, .ref o), (4, .ref oD), (5, .int (nI i9))] → DyW G d C WD → MdW G m0 M th WM → LawI C M (N + 1) → W p l e room_1 s m #[Value.ref b] below meth c H locs (cl + 20000) (sl + 45000) Q (F0 m 2788 ls [])) {ls : Array Slot} {H : Heap} {locs : List Loc} {C M : DS} {th : Nat} {WD WM : va_W} {of : Nat → Int64} {og : Nat → UInt64} (hP : va_P G.1 CL ([(o, .inl (G.2 5, 1, .inr (.inl of))), (oD, .inl (G.2 6, 1, .inr (.inr (.inr (.inl og)))))] ++ (WD ++ (WM ++ []))) H) (hD : va_D A ([(o, .inl (G.2 5, 1, .inr (.inl of))), (oD, .inl (G.2 6, 1, .inr (.inr (.inr (.inl og)))))] ++ (WD ++ (WM ++ [])))) (hS : va_S A s.heap H locs) (hl : lv_has ls 10 [(0, .ref b), (1, .ref d), (2, .ref m0), (3, .ref o), (4, .ref oD), (5, .int (nI i9))]) (hDy : DyW G d C WD) (hMd : MdW G m0 M th WM) (hLw : LawI C M N) : W p l e room_1 s m #[Value.ref b] below meth c H locs cl sl Q (F0 m 1171 ls []) := by
  obtain ⟨cf, hKB, hE, hA, hX9, hbl, hbA, hNc, hL96⟩ := F
  have hx := cf.1
  have hb := cf.2.1
  have hml := cf.2.2.1
  have hown : s.vm.findClass RX0 = some m.cls := cf.2.2.2.1
  have hts := cf.2.2.2.2
  have hK := hKB.1
  have hIc := hDy.inv.1
  have hIm : Inv (dC M) := Inv_sim hLw.1 hIc
  have hRk : RkOk (dC M) := RkOk_sim hLw.1 (RkOk_srt hDy.inv.2.2)
  have hl := hl
  refine lv_aload_n hx hb dL_law_1171 rfl (lv_at hl 1 rfl) ?_
  refine lv_aload_n hx hb dL_law_1172 rfl (lv_at hl 0 rfl) ?_
  refine lv_iload hx hb dL_law_1173 (lv_at hl 5 rfl) ?_
  refine lv_iconst (v := nI 1) hx hb dL_law_1175 (by decide) ?_
  refine lv_iadd hx hb dL_law_1176 ?_
  refine lv_ton (n := i9 + 1) (nadd (by omega)) ?_
  refine va_sld hx hb hX9 hbl hbA hS (i := nI (i9 + 1)) (vp9 (by omega) hL96) dL_law_1177 ?_
  refine W.eq (g2 := F0 m 1178 ls [.int (sx9 xs (i9 + 1)), .ref d]) rfl ?_
  refine lv_aload_n hx hb dL_law_1178 rfl (lv_at hl 3 rfl) ?_
  have hpm_4102 : (([(o, .inl (G.2 5, 1, .inr (.inl of))), (oD, .inl (G.2 6, 1, .inr (.inr (.inr (.inl og)))))] ++ (WD ++ (WM ++ []))) : va_W).Perm (([(o, .inl (G.2 5, 1, .inr (.inl of)))] ++ (WD ++ [])) ++ ([(oD, .inl (G.2 6, 1, .inr (.inr (.inr (.inl og)))))] ++ (WM ++ []))) := segs_perm [[(o, .inl (G.2 5, 1, .inr (.inl of)))], [(oD, .inl (G.2 6, 1, .inr (.inr (.inr (.inl og)))))], WD, WM] [0, 2] [1, 3] rfl
  have hF := hF_ofP (wc := ([(o, .inl (G.2 5, 1, .inr (.inl of)))] ++ (WD ++ []))) hD hS hA hpm_4102
  refine go_ctP hS hP hD hpm_4102 hF
      (vx_runSW (As := [.ref d, .int (sx9 xs (i9 + 1)), .ref o]) (rest := []) cf (wX0_sessionAt l G d C WD o of (sx9 xs (i9 + 1)) (hDy) hfl H.size) (vx_cwSW 3 hts (lw_SW q1194 q1195 q46 q1196) rfl rfl rfl (by decide +kernel) ⟨Nat.le_of_ble_eq_true rfl, Nat.le_of_ble_eq_true rfl⟩) (preS_ofW hNc hKB hE hS hF (P_left (P_perm hpm_4102 hP)) ((D_left (D_perm hpm_4102 hD)).weaken (fun _ _ _ _ => trivial)) trivial) rfl rfl hl.1 rfl (lv_room (Nat.le_of_ble_eq_true rfl)) dL_law_1179 ⟨show cl + 2 ≤ 1200144 from by first | decide | omega, show sl + 8 ≤ 5495674 from by first | decide | omega⟩)
      (fun u_ H locs hq hph (hP : va_P G.1 CL (([(oD, .inl (G.2 6, 1, .inr (.inr (.inr (.inl og)))))] ++ (WM ++ [])) ++ ([(o, .inl (G.2 5, 1, .inr (.inl u_.1)))] ++ (u_.2 ++ []))) H) (hD : va_D A (([(oD, .inl (G.2 6, 1, .inr (.inr (.inr (.inl og)))))] ++ (WM ++ [])) ++ ([(o, .inl (G.2 5, 1, .inr (.inl u_.1)))] ++ (u_.2 ++ [])))) hS hfz hfk => ?_)
  obtain ⟨of2_4103, W2_4104⟩ := u_
  obtain ⟨hq_4105, hq_4106, hq_4107⟩ : ((q_sAt (dC C) (sx9 xs (i9 + 1))).1 = 0 → of2_4103 0 = ((q_sAt (dC C) (sx9 xs (i9 + 1))).2).toInt64) ∧ (q_sAt (dC C) (sx9 xs (i9 + 1))).1 < 10 ∧ DyW G d C W2_4104 := hq
  have hpm_4108 : (([(oD, .inl (G.2 6, 1, .inr (.inr (.inr (.inl og)))))] ++ (WM ++ [])) ++ ([(o, .inl (G.2 5, 1, .inr (.inl of2_4103)))] ++ (W2_4104 ++ [])) : va_W).Perm ([(oD, .inl (G.2 6, 1, .inr (.inr (.inr (.inl og))))), (o, .inl (G.2 5, 1, .inr (.inl of2_4103)))] ++ (WM ++ (W2_4104 ++ []))) := segs_perm2 [[(oD, .inl (G.2 6, 1, .inr (.inr (.inr (.inl og)))))], WM] [[(o, .inl (G.2 5, 1, .inr (.inl of2_4103)))], W2_4104] [0, 2, 1, 3] rfl
  have hP : va_P G.1 CL ([(oD, .inl (G.2 6, 1, .inr (.inr (.inr (.inl og))))), (o, .inl (G.2 5, 1, .inr (.inl of2_4103)))] ++ (WM ++ (W2_4104 ++ []))) H := P_perm hpm_4108 hP
  have hD : va_D A ([(oD, .inl (G.2 6, 1, .inr (.inr (.inr (.inl og))))), (o, .inl (G.2 5, 1, .inr (.inl of2_4103)))] ++ (WM ++ (W2_4104 ++ []))) := D_perm hpm_4108 hD
  refine W.eq (g2 := F0 m 1182 ls [.int (nI ((q_sAt (dC C) (sx9 xs (i9 + 1))).1))]) rfl ?_
  have hqs : (q_sAt (dC M) (sx9 xs (i9 + 1))) = (q_sAt (dC C) (sx9 xs (i9 + 1))) := q_sAt_sim hLw.1.symm hIm hRk (sx9 xs (i9 + 1))
  refine lv_istore (lv' := [(6, .int (nI ((q_sAt (dC C) (sx9 xs (i9 + 1))).1))), (0, .ref b), (1, .ref d), (2, .ref m0), (3, .ref o), (4, .ref oD), (5, .int (nI i9))]) hx hb dL_law_1182 hl (by decide) rfl (fun ls hl => ?_)
  refine lv_aload_n hx hb dL_law_1184 rfl (lv_at hl 3 rfl) ?_
  refine lv_aload_n hx hb dL_law_1185 rfl (lv_at hl 1 rfl) ?_
  refine lv_iload hx hb dL_law_1186 (lv_at hl 6 rfl) ?_
  refine lv_iconst (v := nI 1) hx hb dL_law_1188 (by decide) ?_
  refine lv_iadd hx hb dL_law_1189 ?_
  refine lv_ton (n := i9 + 1) (nadd (by omega)) ?_
  refine va_sld hx hb hX9 hbl hbA hS (i := nI (i9 + 1)) (vp9 (by omega) hL96) dL_law_1190 ?_
  refine W.eq (g2 := F0 m 1191 ls [.int (sx9 xs (i9 + 1)), .ref m0]) rfl ?_
  have hpm_4109 : (([(oD, .inl (G.2 6, 1, .inr (.inr (.inr (.inl og))))), (o, .inl (G.2 5, 1, .inr (.inl of2_4103)))] ++ (WM ++ (W2_4104 ++ []))) : va_W).Perm ((WM ++ []) ++ ([(oD, .inl (G.2 6, 1, .inr (.inr (.inr (.inl og))))), (o, .inl (G.2 5, 1, .inr (.inl of2_4103)))] ++ (W2_4104 ++ []))) := segs_perm [[(oD, .inl (G.2 6, 1, .inr (.inr (.inr (.inl og)))))], [(o, .inl (G.2 5, 1, .inr (.inl of2_4103)))], WM, W2_4104] [2] [0, 1, 3] rfl
  have hF := hF_ofP (wc := (WM ++ [])) hD hS hA hpm_4109
  refine go_ctP hS hP hD hpm_4109 hF
      (va_runV (As := [.int (sx9 xs (i9 + 1))]) (rest := []) cf (eX4_sessionAt l G m0 M th WM (sx9 xs (i9 + 1)) (hMd) (hIm) (hRk) H.size) (cwV 1 hts (lw_V q1767 q1768 q1769 q58 q1770) rfl rfl rfl (by decide +kernel) ⟨Nat.le_of_ble_eq_true rfl, Nat.le_of_ble_eq_true rfl⟩) (preV_of hKB hE hS hF (MdW.recv hK hMd (seg_at [[(oD, .inl (G.2 6, 1, .inr (.inr (.inr (.inl og)))))], [(o, .inl (G.2 5, 1, .inr (.inl of2_4103)))], WM, W2_4104] 2 rfl hP)) (P_left (P_perm hpm_4109 hP)) ((D_left (D_perm hpm_4109 hD)).weaken (fun _ _ _ _ => trivial)) trivial) rfl rfl hl.1 rfl (lv_room (Nat.le_of_ble_eq_true rfl)) dL_law_1191 ⟨show cl + 2 + 0 ≤ 1200144 from by first | decide | omega, show sl + 8 + 0 ≤ 5495674 from by first | decide | omega⟩)
      (fun u_ H locs hq hph (hP : va_P G.1 CL (([(oD, .inl (G.2 6, 1, .inr (.inr (.inr (.inl og))))), (o, .inl (G.2 5, 1, .inr (.inl of2_4103)))] ++ (W2_4104 ++ [])) ++ (u_.2 ++ [])) H) (hD : va_D A (([(oD, .inl (G.2 6, 1, .inr (.inr (.inr (.inl og))))), (o, .inl (G.2 5, 1, .inr (.inl of2_4103)))] ++ (W2_4104 ++ [])) ++ (u_.2 ++ []))) hS hfz hfk => ?_)
  obtain ⟨rr_4110, W2_4111⟩ := u_
  obtain ⟨hq_4112, hq_4113⟩ : ((q_sAt (dC M) (sx9 xs (i9 + 1))).1 = 0 → rr_4110 = (q_sAt (dC M) (sx9 xs (i9 + 1))).2) ∧ MdW G m0 M (q_sAt (dC M) (sx9 xs (i9 + 1))).1 W2_4111 := hq
  have hpm_4114 : (([(oD, .inl (G.2 6, 1, .inr (.inr (.inr (.inl og))))), (o, .inl (G.2 5, 1, .inr (.inl of2_4103)))] ++ (W2_4104 ++ [])) ++ (W2_4111 ++ []) : va_W).Perm ([(oD, .inl (G.2 6, 1, .inr (.inr (.inr (.inl og))))), (o, .inl (G.2 5, 1, .inr (.inl of2_4103)))] ++ (W2_4104 ++ (W2_4111 ++ []))) := segs_perm2 [[(oD, .inl (G.2 6, 1, .inr (.inr (.inr (.inl og)))))], [(o, .inl (G.2 5, 1, .inr (.inl of2_4103)))], W2_4104] [W2_4111] [0, 1, 2, 3] rfl
  have hP : va_P G.1 CL ([(oD, .inl (G.2 6, 1, .inr (.inr (.inr (.inl og))))), (o, .inl (G.2 5, 1, .inr (.inl of2_4103)))] ++ (W2_4104 ++ (W2_4111 ++ []))) H := P_perm hpm_4114 hP
  have hD : va_D A ([(oD, .inl (G.2 6, 1, .inr (.inr (.inr (.inl og))))), (o, .inl (G.2 5, 1, .inr (.inl of2_4103)))] ++ (W2_4104 ++ (W2_4111 ++ []))) := D_perm hpm_4114 hD
  refine W.eq (g2 := F0 m 1194 ls [.int rr_4110]) rfl ?_
  refine lv_istore (lv' := [(7, .int rr_4110), (6, .int (nI ((q_sAt (dC C) (sx9 xs (i9 + 1))).1))), (0, .ref b), (1, .ref d), (2, .ref m0), (3, .ref o), (4, .ref oD), (5, .int (nI i9))]) hx hb dL_law_1194 hl (by decide) rfl (fun ls hl => ?_)
  refine lv_aload_n hx hb dL_law_1196 rfl (lv_at hl 4 rfl) ?_
  have hpm_4115 : (([(oD, .inl (G.2 6, 1, .inr (.inr (.inr (.inl og))))), (o, .inl (G.2 5, 1, .inr (.inl of2_4103)))] ++ (W2_4104 ++ (W2_4111 ++ []))) : va_W).Perm ([] ++ ([(oD, .inl (G.2 6, 1, .inr (.inr (.inr (.inl og))))), (o, .inl (G.2 5, 1, .inr (.inl of2_4103)))] ++ (W2_4104 ++ (W2_4111 ++ [])))) := segs_perm [[(oD, .inl (G.2 6, 1, .inr (.inr (.inr (.inl og)))))], [(o, .inl (G.2 5, 1, .inr (.inl of2_4103)))], W2_4104, W2_4111] [] [0, 1, 2, 3] rfl
  have hF := hF_ofP (wc := []) hD hS hA hpm_4115
  refine go_ctP hS hP hD hpm_4115 hF
      (va_runV (As := []) (rest := []) cf (eX4_thrown l G m0 M (((q_sAt (dC M) (sx9 xs (i9 + 1)))).1) W2_4111 (hq_4113) H.size) (cwV 0 hts (lw_V q1639 q1640 q1641 q58 q1642) rfl rfl rfl (by decide +kernel) ⟨Nat.le_of_ble_eq_true rfl, Nat.le_of_ble_eq_true rfl⟩) (preV_of hKB hE hS hF (MdW.recv hK hq_4113 (seg_at [[(oD, .inl (G.2 6, 1, .inr (.inr (.inr (.inl og)))))], [(o, .inl (G.2 5, 1, .inr (.inl of2_4103)))], W2_4104, W2_4111] 3 rfl hP)) (P_left (P_perm hpm_4115 hP)) ((D_left (D_perm hpm_4115 hD)).weaken (fun _ _ _ _ => trivial)) (roW.nil (seg_at [[(oD, .inl (G.2 6, 1, .inr (.inr (.inr (.inl og)))))], [(o, .inl (G.2 5, 1, .inr (.inl of2_4103)))], W2_4104, W2_4111] 3 rfl hP))) rfl rfl hl.1 rfl (lv_room (Nat.le_of_ble_eq_true rfl)) dL_law_1197 ⟨show cl + 2 + 0 ≤ 1200144 from by first | decide | omega, show sl + 8 + 0 ≤ 5495674 from by first | decide | omega⟩)
      (fun u_ H locs hq hph (hP : va_P G.1 CL (([(oD, .inl (G.2 6, 1, .inr (.inr (.inr (.inl og))))), (o, .inl (G.2 5, 1, .inr (.inl of2_4103)))] ++ (W2_4104 ++ (W2_4111 ++ []))) ++ []) H) (hD : va_D A (([(oD, .inl (G.2 6, 1, .inr (.inr (.inr (.inl og))))), (o, .inl (G.2 5, 1, .inr (.inl of2_4103)))] ++ (W2_4104 ++ (W2_4111 ++ []))) ++ [])) hS hfz hfk => ?_)
  have hpm_4116 : (([(oD, .inl (G.2 6, 1, .inr (.inr (.inr (.inl og))))), (o, .inl (G.2 5, 1, .inr (.inl of2_4103)))] ++ (W2_4104 ++ (W2_4111 ++ []))) ++ [] : va_W).Perm ([(oD, .inl (G.2 6, 1, .inr (.inr (.inr (.inl og))))), (o, .inl (G.2 5, 1, .inr (.inl of2_4103)))] ++ (W2_4104 ++ (W2_4111 ++ []))) := segs_perm2 [[(oD, .inl (G.2 6, 1, .inr (.inr (.inr (.inl og)))))], [(o, .inl (G.2 5, 1, .inr (.inl of2_4103)))], W2_4104, W2_4111] [] [0, 1, 2, 3] rfl
  have hP : va_P G.1 CL ([(oD, .inl (G.2 6, 1, .inr (.inr (.inr (.inl og))))), (o, .inl (G.2 5, 1, .inr (.inl of2_4103)))] ++ (W2_4104 ++ (W2_4111 ++ []))) H := P_perm hpm_4116 hP
  have hD : va_D A ([(oD, .inl (G.2 6, 1, .inr (.inr (.inr (.inl og))))), (o, .inl (G.2 5, 1, .inr (.inl of2_4103)))] ++ (W2_4104 ++ (W2_4111 ++ []))) := D_perm hpm_4116 hD
  refine W.eq (g2 := F0 m 1200 ls [.int (nI (((q_sAt (dC M) (sx9 xs (i9 + 1)))).1))]) rfl ?_
  refine lv_ton (n := ((q_sAt (dC C) (sx9 xs (i9 + 1))).1)) (congrArg nI (by rw [hqs])) ?_
  refine lv_iload hx hb dL_law_1200 (lv_at hl 1 rfl) ?_
  refine lv_icmp_eq (tgt := 1207) hx hb dL_law_1202 (by decide) (fun _ => ?_) (fun c9 => absurd rfl c9)
  refine lv_iload hx hb dL_law_1207 (lv_at hl 1 rfl) ?_
  refine n_if_ne (tgt := 1224) hx hb (by omega) dL_law_1209 (by decide) (fun c_4117 => ?_) (fun c_4117 => ?_)
  · refine lv_goto (tgt := 2788) hx hb dL_law_1224 (by decide) ?_
    have hpm_4118 : (([(oD, .inl (G.2 6, 1, .inr (.inr (.inr (.inl og))))), (o, .inl (G.2 5, 1, .inr (.inl of2_4103)))] ++ (W2_4104 ++ (W2_4111 ++ []))) : va_W).Perm (([(o, .inl (G.2 5, 1, .inr (.inl of2_4103))), (oD, .inl (G.2 6, 1, .inr (.inr (.inr (.inl og)))))] ++ (W2_4104 ++ (W2_4111 ++ []))) ++ []) := segs_perm [[(oD, .inl (G.2 6, 1, .inr (.inr (.inr (.inl og)))))], [(o, .inl (G.2 5, 1, .inr (.inl of2_4103)))], W2_4104, W2_4111] [1, 0, 2, 3] [] rfl
    have hP : va_P G.1 CL ([(o, .inl (G.2 5, 1, .inr (.inl of2_4103))), (oD, .inl (G.2 6, 1, .inr (.inr (.inr (.inl og)))))] ++ (W2_4104 ++ (W2_4111 ++ []))) H := P_left (P_perm hpm_4118 hP)
    have hD : va_D A ([(o, .inl (G.2 5, 1, .inr (.inl of2_4103))), (oD, .inl (G.2 6, 1, .inr (.inr (.inr (.inl og)))))] ++ (W2_4104 ++ (W2_4111 ++ []))) := D_left (D_perm hpm_4118 hD)
    have hl := lv_sub hl [2, 3, 4, 5, 6, 7] (l' := [(0, .ref b), (1, .ref d), (2, .ref m0), (3, .ref o), (4, .ref oD), (5, .int (nI i9))]) rfl
    exact W.widen (show cl + 2 ≤ cl + 20000 from by omega) (show sl + 8 ≤ sl + 45000 from by omega) (kk ls H locs C M (((q_sAt (dC M) (sx9 xs (i9 + 1)))).1) W2_4104 W2_4111 of2_4103 og hP hD hS hl hq_4107 hq_4113 hLw.up)
  · refine lv_aload_n hx hb dL_law_1212 rfl (lv_at hl 5 rfl) ?_
    refine lv_iconst (v := nI 0) hx hb dL_law_1213 (by decide) ?_
    refine r_lald (v := (((q_sAt (dC C) (sx9 xs (i9 + 1)))).2).toInt64) hx hb hK hP 1 5 rfl rfl (i := 0) (by omega) (by omega) ((hq_4105 (by omega))) dL_law_1214 ?_
    refine lv_iload hx hb dL_law_1215 (lv_at hl 0 rfl) ?_
    refine lv_toi (y := ((q_sAt (dC C) (sx9 xs (i9 + 1)))).2) ((hq_4112 (by rw [hqs]; omega)).trans (by rw [hqs])) ?_
    refine lv_i2l (v := (((q_sAt (dC C) (sx9 xs (i9 + 1)))).2).toInt64) hx hb dL_law_1217 rfl ?_
    refine W.lcmp hx hb dL_law_1218 ?_
    refine lv_ton (n := 0) (lcmp0 _) ?_
    refine n_if_eq (tgt := 1224) hx hb (by omega) dL_law_1219 (by decide) (fun c_4119 => ?_) (fun c_4119 => absurd c_4119 (by omega))
    refine lv_goto (tgt := 2788) hx hb dL_law_1224 (by decide) ?_
    have hpm_4120 : (([(oD, .inl (G.2 6, 1, .inr (.inr (.inr (.inl og))))), (o, .inl (G.2 5, 1, .inr (.inl of2_4103)))] ++ (W2_4104 ++ (W2_4111 ++ []))) : va_W).Perm (([(o, .inl (G.2 5, 1, .inr (.inl of2_4103))), (oD, .inl (G.2 6, 1, .inr (.inr (.inr (.inl og)))))] ++ (W2_4104 ++ (W2_4111 ++ []))) ++ []) := segs_perm [[(oD, .inl (G.2 6, 1, .inr (.inr (.inr (.inl og)))))], [(o, .inl (G.2 5, 1, .inr (.inl of2_4103)))], W2_4104, W2_4111] [1, 0, 2, 3] [] rfl
    have hP : va_P G.1 CL ([(o, .inl (G.2 5, 1, .inr (.inl of2_4103))), (oD, .inl (G.2 6, 1, .inr (.inr (.inr (.inl og)))))] ++ (W2_4104 ++ (W2_4111 ++ []))) H := P_left (P_perm hpm_4120 hP)
    have hD : va_D A ([(o, .inl (G.2 5, 1, .inr (.inl of2_4103))), (oD, .inl (G.2 6, 1, .inr (.inr (.inr (.inl og)))))] ++ (W2_4104 ++ (W2_4111 ++ []))) := D_left (D_perm hpm_4120 hD)
    have hl := lv_sub hl [2, 3, 4, 5, 6, 7] (l' := [(0, .ref b), (1, .ref d), (2, .ref m0), (3, .ref o), (4, .ref oD), (5, .int (nI i9))]) rfl
    exact W.widen (show cl + 2 ≤ cl + 20000 from by omega) (show sl + 8 ≤ sl + 45000 from by omega) (kk ls H locs C M (((q_sAt (dC M) (sx9 xs (i9 + 1)))).1) W2_4104 W2_4111 of2_4103 og hP hD hS hl hq_4107 hq_4113 hLw.up)

set_option maxHeartbeats 4000000 in
theorem lawK_18 {p : Program} {l : Launch} {e : Env} {s : State} {m : MethodId} {below : List Frame} {meth : Method} {c : Code} {G : Gt} {A : Nat → Prop} {b L : Nat} {xs : Nat → Int32} {Q : State → Prop} {d m0 o oD i9 N cl sl : Nat} (hfl : l.stackTraces = false) (F : LwF G A p s m c b L xs) (hi9 : i9 + 4 ≤ L) (hN24 : N ≤ 24) (hcl : cl + 20000 ≤ 1200144) (hsl : sl + 45000 ≤ 5495674) (kk : ∀ (ls : Array Slot) (H : Heap) (locs : List Loc) (C M : DS) (th : Nat) (WD WM : va_W) (of : Nat → Int64) (og : Nat → UInt64), va_P G.1 CL ([(o, .inl (G.2 5, 1, .inr (.inl of))), (oD, .inl (G.2 6, 1, .inr (.inr (.inr (.inl og)))))] ++ (WD ++ (WM ++ []))) H → va_D A ([(o, .inl (G.2 5, 1, .inr (.inl of))), (oD, .inl (G.2 6, 1, .inr (.inr (.inr (.inl og)))))] ++ (WD ++ (WM ++ []))) → va_S A s.heap H locs → lv_has ls 10 [(0, .ref b), (1, .ref d), (2, .ref m0), (3, .ref o), (4, .ref oD), (5, .int (nI i9))] → DyW G d C WD → MdW G m0 M th WM → LawI C M (N + 1) → W p l e room_1 s m #[Value.ref b] below meth c H locs (cl + 20000) (sl + 45000) Q (F0 m 2788 ls [])) {ls : Array Slot} {H : Heap} {locs : List Loc} {C M : DS} {th : Nat} {WD WM : va_W} {of : Nat → Int64} {og : Nat → UInt64} (hP : va_P G.1 CL ([(o, .inl (G.2 5, 1, .inr (.inl of))), (oD, .inl (G.2 6, 1, .inr (.inr (.inr (.inl og)))))] ++ (WD ++ (WM ++ []))) H) (hD : va_D A ([(o, .inl (G.2 5, 1, .inr (.inl of))), (oD, .inl (G.2 6, 1, .inr (.inr (.inr (.inl og)))))] ++ (WD ++ (WM ++ [])))) (hS : va_S A s.heap H locs) (hl : lv_has ls 10 [(0, .ref b), (1, .ref d), (2, .ref m0), (3, .ref o), (4, .ref oD), (5, .int (nI i9))]) (hDy : DyW G d C WD) (hMd : MdW G m0 M th WM) (hLw : LawI C M N) : W p l e room_1 s m #[Value.ref b] below meth c H locs cl sl Q (F0 m 1227 ls []) := by
  obtain ⟨cf, hKB, hE, hA, hX9, hbl, hbA, hNc, hL96⟩ := F
  have hx := cf.1
  have hb := cf.2.1
  have hml := cf.2.2.1
  have hown : s.vm.findClass RX0 = some m.cls := cf.2.2.2.1
  have hts := cf.2.2.2.2
  have hK := hKB.1
  have hIc := hDy.inv.1
  have hIm : Inv (dC M) := Inv_sim hLw.1 hIc
  have hRk : RkOk (dC M) := RkOk_sim hLw.1 (RkOk_srt hDy.inv.2.2)
  have hl := hl
  refine lv_aload_n hx hb dL_law_1227 rfl (lv_at hl 1 rfl) ?_
  refine lv_aload_n hx hb dL_law_1228 rfl (lv_at hl 0 rfl) ?_
  refine lv_iload hx hb dL_law_1229 (lv_at hl 5 rfl) ?_
  refine lv_iconst (v := nI 1) hx hb dL_law_1231 (by decide) ?_
  refine lv_iadd hx hb dL_law_1232 ?_
  refine lv_ton (n := i9 + 1) (nadd (by omega)) ?_
  refine va_sld hx hb hX9 hbl hbA hS (i := nI (i9 + 1)) (vp9 (by omega) hL96) dL_law_1233 ?_
  refine W.eq (g2 := F0 m 1234 ls [.int (sx9 xs (i9 + 1)), .ref d]) rfl ?_
  refine lv_aload_n hx hb dL_law_1234 rfl (lv_at hl 3 rfl) ?_
  have hpm_4121 : (([(o, .inl (G.2 5, 1, .inr (.inl of))), (oD, .inl (G.2 6, 1, .inr (.inr (.inr (.inl og)))))] ++ (WD ++ (WM ++ []))) : va_W).Perm (([(o, .inl (G.2 5, 1, .inr (.inl of)))] ++ (WD ++ [])) ++ ([(oD, .inl (G.2 6, 1, .inr (.inr (.inr (.inl og)))))] ++ (WM ++ []))) := segs_perm [[(o, .inl (G.2 5, 1, .inr (.inl of)))], [(oD, .inl (G.2 6, 1, .inr (.inr (.inr (.inl og)))))], WD, WM] [0, 2] [1, 3] rfl
  have hF := hF_ofP (wc := ([(o, .inl (G.2 5, 1, .inr (.inl of)))] ++ (WD ++ []))) hD hS hA hpm_4121
  refine go_ctP hS hP hD hpm_4121 hF
      (vx_runSW (As := [.ref d, .int (sx9 xs (i9 + 1)), .ref o]) (rest := []) cf (wX0_dayOf l G d C WD o of (sx9 xs (i9 + 1)) (hDy) hfl H.size) (vx_cwSW 3 hts (lw_SW q1225 q1226 q46 q1227) rfl rfl rfl (by decide +kernel) ⟨Nat.le_of_ble_eq_true rfl, Nat.le_of_ble_eq_true rfl⟩) (preS_ofW hNc hKB hE hS hF (P_left (P_perm hpm_4121 hP)) ((D_left (D_perm hpm_4121 hD)).weaken (fun _ _ _ _ => trivial)) trivial) rfl rfl hl.1 rfl (lv_room (Nat.le_of_ble_eq_true rfl)) dL_law_1235 ⟨show cl + 2 ≤ 1200144 from by first | decide | omega, show sl + 8 ≤ 5495674 from by first | decide | omega⟩)
      (fun u_ H locs hq hph (hP : va_P G.1 CL (([(oD, .inl (G.2 6, 1, .inr (.inr (.inr (.inl og)))))] ++ (WM ++ [])) ++ ([(o, .inl (G.2 5, 1, .inr (.inl u_.1)))] ++ (u_.2 ++ []))) H) (hD : va_D A (([(oD, .inl (G.2 6, 1, .inr (.inr (.inr (.inl og)))))] ++ (WM ++ [])) ++ ([(o, .inl (G.2 5, 1, .inr (.inl u_.1)))] ++ (u_.2 ++ [])))) hS hfz hfk => ?_)
  obtain ⟨of2_4122, W2_4123⟩ := u_
  obtain ⟨hq_4124, hq_4125, hq_4126⟩ : ((q_dayOf (dC C) (sx9 xs (i9 + 1))).1 = 0 → of2_4122 0 = ((q_dayOf (dC C) (sx9 xs (i9 + 1))).2).toInt64) ∧ (q_dayOf (dC C) (sx9 xs (i9 + 1))).1 < 10 ∧ DyW G d C W2_4123 := hq
  have hpm_4127 : (([(oD, .inl (G.2 6, 1, .inr (.inr (.inr (.inl og)))))] ++ (WM ++ [])) ++ ([(o, .inl (G.2 5, 1, .inr (.inl of2_4122)))] ++ (W2_4123 ++ [])) : va_W).Perm ([(oD, .inl (G.2 6, 1, .inr (.inr (.inr (.inl og))))), (o, .inl (G.2 5, 1, .inr (.inl of2_4122)))] ++ (WM ++ (W2_4123 ++ []))) := segs_perm2 [[(oD, .inl (G.2 6, 1, .inr (.inr (.inr (.inl og)))))], WM] [[(o, .inl (G.2 5, 1, .inr (.inl of2_4122)))], W2_4123] [0, 2, 1, 3] rfl
  have hP : va_P G.1 CL ([(oD, .inl (G.2 6, 1, .inr (.inr (.inr (.inl og))))), (o, .inl (G.2 5, 1, .inr (.inl of2_4122)))] ++ (WM ++ (W2_4123 ++ []))) H := P_perm hpm_4127 hP
  have hD : va_D A ([(oD, .inl (G.2 6, 1, .inr (.inr (.inr (.inl og))))), (o, .inl (G.2 5, 1, .inr (.inl of2_4122)))] ++ (WM ++ (W2_4123 ++ []))) := D_perm hpm_4127 hD
  refine W.eq (g2 := F0 m 1238 ls [.int (nI ((q_dayOf (dC C) (sx9 xs (i9 + 1))).1))]) rfl ?_
  have hqs : (q_dayOf (dC M) id) = (q_dayOf (dC C) (sx9 xs (i9 + 1))) := q_dayOf_sim hLw.1.symm hIm (sx9 xs (i9 + 1))
  refine lv_istore (lv' := [(6, .int (nI ((q_dayOf (dC C) (sx9 xs (i9 + 1))).1))), (0, .ref b), (1, .ref d), (2, .ref m0), (3, .ref o), (4, .ref oD), (5, .int (nI i9))]) hx hb dL_law_1238 hl (by decide) rfl (fun ls hl => ?_)
  refine lv_aload_n hx hb dL_law_1240 rfl (lv_at hl 3 rfl) ?_
  refine lv_aload_n hx hb dL_law_1241 rfl (lv_at hl 1 rfl) ?_
  refine lv_iload hx hb dL_law_1242 (lv_at hl 6 rfl) ?_
  refine lv_iconst (v := nI 1) hx hb dL_law_1244 (by decide) ?_
  refine lv_iadd hx hb dL_law_1245 ?_
  refine lv_ton (n := i9 + 1) (nadd (by omega)) ?_
  refine va_sld hx hb hX9 hbl hbA hS (i := nI (i9 + 1)) (vp9 (by omega) hL96) dL_law_1246 ?_
  refine W.eq (g2 := F0 m 1247 ls [.int (sx9 xs (i9 + 1)), .ref m0]) rfl ?_
  have hpm_4128 : (([(oD, .inl (G.2 6, 1, .inr (.inr (.inr (.inl og))))), (o, .inl (G.2 5, 1, .inr (.inl of2_4122)))] ++ (WM ++ (W2_4123 ++ []))) : va_W).Perm ((WM ++ []) ++ ([(oD, .inl (G.2 6, 1, .inr (.inr (.inr (.inl og))))), (o, .inl (G.2 5, 1, .inr (.inl of2_4122)))] ++ (W2_4123 ++ []))) := segs_perm [[(oD, .inl (G.2 6, 1, .inr (.inr (.inr (.inl og)))))], [(o, .inl (G.2 5, 1, .inr (.inl of2_4122)))], WM, W2_4123] [2] [0, 1, 3] rfl
  have hF := hF_ofP (wc := (WM ++ [])) hD hS hA hpm_4128
  refine go_ctP hS hP hD hpm_4128 hF
      (va_runV (As := [.int (sx9 xs (i9 + 1))]) (rest := []) cf (eX4_dayOf l G m0 M th WM (sx9 xs (i9 + 1)) (hMd) (hIm) H.size) (cwV 1 hts (lw_V q1775 q1776 q1777 q58 q1778) rfl rfl rfl (by decide +kernel) ⟨Nat.le_of_ble_eq_true rfl, Nat.le_of_ble_eq_true rfl⟩) (preV_of hKB hE hS hF (MdW.recv hK hMd (seg_at [[(oD, .inl (G.2 6, 1, .inr (.inr (.inr (.inl og)))))], [(o, .inl (G.2 5, 1, .inr (.inl of2_4122)))], WM, W2_4123] 2 rfl hP)) (P_left (P_perm hpm_4128 hP)) ((D_left (D_perm hpm_4128 hD)).weaken (fun _ _ _ _ => trivial)) trivial) rfl rfl hl.1 rfl (lv_room (Nat.le_of_ble_eq_true rfl)) dL_law_1247 ⟨show cl + 2 + 0 ≤ 1200144 from by first | decide | omega, show sl + 8 + 0 ≤ 5495674 from by first | decide | omega⟩)
      (fun u_ H locs hq hph (hP : va_P G.1 CL (([(oD, .inl (G.2 6, 1, .inr (.inr (.inr (.inl og))))), (o, .inl (G.2 5, 1, .inr (.inl of2_4122)))] ++ (W2_4123 ++ [])) ++ (u_.2 ++ [])) H) (hD : va_D A (([(oD, .inl (G.2 6, 1, .inr (.inr (.inr (.inl og))))), (o, .inl (G.2 5, 1, .inr (.inl of2_4122)))] ++ (W2_4123 ++ [])) ++ (u_.2 ++ []))) hS hfz hfk => ?_)
  obtain ⟨rr_4129, W2_4130⟩ := u_
  obtain ⟨hq_4131, hq_4132⟩ : ((q_dayOf (dC M) (sx9 xs (i9 + 1))).1 = 0 → rr_4129 = (q_dayOf (dC M) (sx9 xs (i9 + 1))).2) ∧ MdW G m0 M (q_dayOf (dC M) (sx9 xs (i9 + 1))).1 W2_4130 := hq
  have hpm_4133 : (([(oD, .inl (G.2 6, 1, .inr (.inr (.inr (.inl og))))), (o, .inl (G.2 5, 1, .inr (.inl of2_4122)))] ++ (W2_4123 ++ [])) ++ (W2_4130 ++ []) : va_W).Perm ([(oD, .inl (G.2 6, 1, .inr (.inr (.inr (.inl og))))), (o, .inl (G.2 5, 1, .inr (.inl of2_4122)))] ++ (W2_4123 ++ (W2_4130 ++ []))) := segs_perm2 [[(oD, .inl (G.2 6, 1, .inr (.inr (.inr (.inl og)))))], [(o, .inl (G.2 5, 1, .inr (.inl of2_4122)))], W2_4123] [W2_4130] [0, 1, 2, 3] rfl
  have hP : va_P G.1 CL ([(oD, .inl (G.2 6, 1, .inr (.inr (.inr (.inl og))))), (o, .inl (G.2 5, 1, .inr (.inl of2_4122)))] ++ (W2_4123 ++ (W2_4130 ++ []))) H := P_perm hpm_4133 hP
  have hD : va_D A ([(oD, .inl (G.2 6, 1, .inr (.inr (.inr (.inl og))))), (o, .inl (G.2 5, 1, .inr (.inl of2_4122)))] ++ (W2_4123 ++ (W2_4130 ++ []))) := D_perm hpm_4133 hD
  refine W.eq (g2 := F0 m 1250 ls [.int rr_4129]) rfl ?_
  refine lv_istore (lv' := [(7, .int rr_4129), (6, .int (nI ((q_dayOf (dC C) (sx9 xs (i9 + 1))).1))), (0, .ref b), (1, .ref d), (2, .ref m0), (3, .ref o), (4, .ref oD), (5, .int (nI i9))]) hx hb dL_law_1250 hl (by decide) rfl (fun ls hl => ?_)
  refine lv_aload_n hx hb dL_law_1252 rfl (lv_at hl 4 rfl) ?_
  have hpm_4134 : (([(oD, .inl (G.2 6, 1, .inr (.inr (.inr (.inl og))))), (o, .inl (G.2 5, 1, .inr (.inl of2_4122)))] ++ (W2_4123 ++ (W2_4130 ++ []))) : va_W).Perm ([] ++ ([(oD, .inl (G.2 6, 1, .inr (.inr (.inr (.inl og))))), (o, .inl (G.2 5, 1, .inr (.inl of2_4122)))] ++ (W2_4123 ++ (W2_4130 ++ [])))) := segs_perm [[(oD, .inl (G.2 6, 1, .inr (.inr (.inr (.inl og)))))], [(o, .inl (G.2 5, 1, .inr (.inl of2_4122)))], W2_4123, W2_4130] [] [0, 1, 2, 3] rfl
  have hF := hF_ofP (wc := []) hD hS hA hpm_4134
  refine go_ctP hS hP hD hpm_4134 hF
      (va_runV (As := []) (rest := []) cf (eX4_thrown l G m0 M (((q_dayOf (dC M) id)).1) W2_4130 (hq_4132) H.size) (cwV 0 hts (lw_V q1639 q1640 q1641 q58 q1642) rfl rfl rfl (by decide +kernel) ⟨Nat.le_of_ble_eq_true rfl, Nat.le_of_ble_eq_true rfl⟩) (preV_of hKB hE hS hF (MdW.recv hK hq_4132 (seg_at [[(oD, .inl (G.2 6, 1, .inr (.inr (.inr (.inl og)))))], [(o, .inl (G.2 5, 1, .inr (.inl of2_4122)))], W2_4123, W2_4130] 3 rfl hP)) (P_left (P_perm hpm_4134 hP)) ((D_left (D_perm hpm_4134 hD)).weaken (fun _ _ _ _ => trivial)) (roW.nil (seg_at [[(oD, .inl (G.2 6, 1, .inr (.inr (.inr (.inl og)))))], [(o, .inl (G.2 5, 1, .inr (.inl of2_4122)))], W2_4123, W2_4130] 3 rfl hP))) rfl rfl hl.1 rfl (lv_room (Nat.le_of_ble_eq_true rfl)) dL_law_1253 ⟨show cl + 2 + 0 ≤ 1200144 from by first | decide | omega, show sl + 8 + 0 ≤ 5495674 from by first | decide | omega⟩)
      (fun u_ H locs hq hph (hP : va_P G.1 CL (([(oD, .inl (G.2 6, 1, .inr (.inr (.inr (.inl og))))), (o, .inl (G.2 5, 1, .inr (.inl of2_4122)))] ++ (W2_4123 ++ (W2_4130 ++ []))) ++ []) H) (hD : va_D A (([(oD, .inl (G.2 6, 1, .inr (.inr (.inr (.inl og))))), (o, .inl (G.2 5, 1, .inr (.inl of2_4122)))] ++ (W2_4123 ++ (W2_4130 ++ []))) ++ [])) hS hfz hfk => ?_)
  have hpm_4135 : (([(oD, .inl (G.2 6, 1, .inr (.inr (.inr (.inl og))))), (o, .inl (G.2 5, 1, .inr (.inl of2_4122)))] ++ (W2_4123 ++ (W2_4130 ++ []))) ++ [] : va_W).Perm ([(oD, .inl (G.2 6, 1, .inr (.inr (.inr (.inl og))))), (o, .inl (G.2 5, 1, .inr (.inl of2_4122)))] ++ (W2_4123 ++ (W2_4130 ++ []))) := segs_perm2 [[(oD, .inl (G.2 6, 1, .inr (.inr (.inr (.inl og)))))], [(o, .inl (G.2 5, 1, .inr (.inl of2_4122)))], W2_4123, W2_4130] [] [0, 1, 2, 3] rfl
  have hP : va_P G.1 CL ([(oD, .inl (G.2 6, 1, .inr (.inr (.inr (.inl og))))), (o, .inl (G.2 5, 1, .inr (.inl of2_4122)))] ++ (W2_4123 ++ (W2_4130 ++ []))) H := P_perm hpm_4135 hP
  have hD : va_D A ([(oD, .inl (G.2 6, 1, .inr (.inr (.inr (.inl og))))), (o, .inl (G.2 5, 1, .inr (.inl of2_4122)))] ++ (W2_4123 ++ (W2_4130 ++ []))) := D_perm hpm_4135 hD
  refine W.eq (g2 := F0 m 1256 ls [.int (nI (((q_dayOf (dC M) id)).1))]) rfl ?_
  refine lv_ton (n := ((q_dayOf (dC C) (sx9 xs (i9 + 1))).1)) (congrArg nI (by rw [hqs])) ?_
  refine lv_iload hx hb dL_law_1256 (lv_at hl 1 rfl) ?_
  refine lv_icmp_eq (tgt := 1263) hx hb dL_law_1258 (by decide) (fun _ => ?_) (fun c9 => absurd rfl c9)
  refine lv_iload hx hb dL_law_1263 (lv_at hl 1 rfl) ?_
  refine n_if_ne (tgt := 1280) hx hb (by omega) dL_law_1265 (by decide) (fun c_4136 => ?_) (fun c_4136 => ?_)
  · refine lv_goto (tgt := 2788) hx hb dL_law_1280 (by decide) ?_
    have hpm_4137 : (([(oD, .inl (G.2 6, 1, .inr (.inr (.inr (.inl og))))), (o, .inl (G.2 5, 1, .inr (.inl of2_4122)))] ++ (W2_4123 ++ (W2_4130 ++ []))) : va_W).Perm (([(o, .inl (G.2 5, 1, .inr (.inl of2_4122))), (oD, .inl (G.2 6, 1, .inr (.inr (.inr (.inl og)))))] ++ (W2_4123 ++ (W2_4130 ++ []))) ++ []) := segs_perm [[(oD, .inl (G.2 6, 1, .inr (.inr (.inr (.inl og)))))], [(o, .inl (G.2 5, 1, .inr (.inl of2_4122)))], W2_4123, W2_4130] [1, 0, 2, 3] [] rfl
    have hP : va_P G.1 CL ([(o, .inl (G.2 5, 1, .inr (.inl of2_4122))), (oD, .inl (G.2 6, 1, .inr (.inr (.inr (.inl og)))))] ++ (W2_4123 ++ (W2_4130 ++ []))) H := P_left (P_perm hpm_4137 hP)
    have hD : va_D A ([(o, .inl (G.2 5, 1, .inr (.inl of2_4122))), (oD, .inl (G.2 6, 1, .inr (.inr (.inr (.inl og)))))] ++ (W2_4123 ++ (W2_4130 ++ []))) := D_left (D_perm hpm_4137 hD)
    have hl := lv_sub hl [2, 3, 4, 5, 6, 7] (l' := [(0, .ref b), (1, .ref d), (2, .ref m0), (3, .ref o), (4, .ref oD), (5, .int (nI i9))]) rfl
    exact W.widen (show cl + 2 ≤ cl + 20000 from by omega) (show sl + 8 ≤ sl + 45000 from by omega) (kk ls H locs C M (((q_dayOf (dC M) id)).1) W2_4123 W2_4130 of2_4122 og hP hD hS hl hq_4126 hq_4132 hLw.up)
  · refine lv_aload_n hx hb dL_law_1268 rfl (lv_at hl 5 rfl) ?_
    refine lv_iconst (v := nI 0) hx hb dL_law_1269 (by decide) ?_
    refine r_lald (v := (((q_dayOf (dC C) (sx9 xs (i9 + 1)))).2).toInt64) hx hb hK hP 1 5 rfl rfl (i := 0) (by omega) (by omega) ((hq_4124 (by omega))) dL_law_1270 ?_
    refine lv_iload hx hb dL_law_1271 (lv_at hl 0 rfl) ?_
    refine lv_toi (y := ((q_dayOf (dC C) (sx9 xs (i9 + 1)))).2) ((hq_4131 (by rw [hqs]; omega)).trans (by rw [hqs])) ?_
    refine lv_i2l (v := (((q_dayOf (dC C) (sx9 xs (i9 + 1)))).2).toInt64) hx hb dL_law_1273 rfl ?_
    refine W.lcmp hx hb dL_law_1274 ?_
    refine lv_ton (n := 0) (lcmp0 _) ?_
    refine n_if_eq (tgt := 1280) hx hb (by omega) dL_law_1275 (by decide) (fun c_4138 => ?_) (fun c_4138 => absurd c_4138 (by omega))
    refine lv_goto (tgt := 2788) hx hb dL_law_1280 (by decide) ?_
    have hpm_4139 : (([(oD, .inl (G.2 6, 1, .inr (.inr (.inr (.inl og))))), (o, .inl (G.2 5, 1, .inr (.inl of2_4122)))] ++ (W2_4123 ++ (W2_4130 ++ []))) : va_W).Perm (([(o, .inl (G.2 5, 1, .inr (.inl of2_4122))), (oD, .inl (G.2 6, 1, .inr (.inr (.inr (.inl og)))))] ++ (W2_4123 ++ (W2_4130 ++ []))) ++ []) := segs_perm [[(oD, .inl (G.2 6, 1, .inr (.inr (.inr (.inl og)))))], [(o, .inl (G.2 5, 1, .inr (.inl of2_4122)))], W2_4123, W2_4130] [1, 0, 2, 3] [] rfl
    have hP : va_P G.1 CL ([(o, .inl (G.2 5, 1, .inr (.inl of2_4122))), (oD, .inl (G.2 6, 1, .inr (.inr (.inr (.inl og)))))] ++ (W2_4123 ++ (W2_4130 ++ []))) H := P_left (P_perm hpm_4139 hP)
    have hD : va_D A ([(o, .inl (G.2 5, 1, .inr (.inl of2_4122))), (oD, .inl (G.2 6, 1, .inr (.inr (.inr (.inl og)))))] ++ (W2_4123 ++ (W2_4130 ++ []))) := D_left (D_perm hpm_4139 hD)
    have hl := lv_sub hl [2, 3, 4, 5, 6, 7] (l' := [(0, .ref b), (1, .ref d), (2, .ref m0), (3, .ref o), (4, .ref oD), (5, .int (nI i9))]) rfl
    exact W.widen (show cl + 2 ≤ cl + 20000 from by omega) (show sl + 8 ≤ sl + 45000 from by omega) (kk ls H locs C M (((q_dayOf (dC M) id)).1) W2_4123 W2_4130 of2_4122 og hP hD hS hl hq_4126 hq_4132 hLw.up)

set_option maxHeartbeats 4000000 in
theorem lawK_19 {p : Program} {l : Launch} {e : Env} {s : State} {m : MethodId} {below : List Frame} {meth : Method} {c : Code} {G : Gt} {A : Nat → Prop} {b L : Nat} {xs : Nat → Int32} {Q : State → Prop} {d m0 o oD i9 N cl sl : Nat} (hfl : l.stackTraces = false) (F : LwF G A p s m c b L xs) (hi9 : i9 + 4 ≤ L) (hN24 : N ≤ 24) (hcl : cl + 20000 ≤ 1200144) (hsl : sl + 45000 ≤ 5495674) (kk : ∀ (ls : Array Slot) (H : Heap) (locs : List Loc) (C M : DS) (th : Nat) (WD WM : va_W) (of : Nat → Int64) (og : Nat → UInt64), va_P G.1 CL ([(o, .inl (G.2 5, 1, .inr (.inl of))), (oD, .inl (G.2 6, 1, .inr (.inr (.inr (.inl og)))))] ++ (WD ++ (WM ++ []))) H → va_D A ([(o, .inl (G.2 5, 1, .inr (.inl of))), (oD, .inl (G.2 6, 1, .inr (.inr (.inr (.inl og)))))] ++ (WD ++ (WM ++ []))) → va_S A s.heap H locs → lv_has ls 10 [(0, .ref b), (1, .ref d), (2, .ref m0), (3, .ref o), (4, .ref oD), (5, .int (nI i9))] → DyW G d C WD → MdW G m0 M th WM → LawI C M (N + 1) → W p l e room_1 s m #[Value.ref b] below meth c H locs (cl + 20000) (sl + 45000) Q (F0 m 2788 ls [])) {ls : Array Slot} {H : Heap} {locs : List Loc} {C M : DS} {th : Nat} {WD WM : va_W} {of : Nat → Int64} {og : Nat → UInt64} (hP : va_P G.1 CL ([(o, .inl (G.2 5, 1, .inr (.inl of))), (oD, .inl (G.2 6, 1, .inr (.inr (.inr (.inl og)))))] ++ (WD ++ (WM ++ []))) H) (hD : va_D A ([(o, .inl (G.2 5, 1, .inr (.inl of))), (oD, .inl (G.2 6, 1, .inr (.inr (.inr (.inl og)))))] ++ (WD ++ (WM ++ [])))) (hS : va_S A s.heap H locs) (hl : lv_has ls 10 [(0, .ref b), (1, .ref d), (2, .ref m0), (3, .ref o), (4, .ref oD), (5, .int (nI i9))]) (hDy : DyW G d C WD) (hMd : MdW G m0 M th WM) (hLw : LawI C M N) : W p l e room_1 s m #[Value.ref b] below meth c H locs cl sl Q (F0 m 1283 ls []) := by
  obtain ⟨cf, hKB, hE, hA, hX9, hbl, hbA, hNc, hL96⟩ := F
  have hx := cf.1
  have hb := cf.2.1
  have hml := cf.2.2.1
  have hown : s.vm.findClass RX0 = some m.cls := cf.2.2.2.1
  have hts := cf.2.2.2.2
  have hK := hKB.1
  have hIc := hDy.inv.1
  have hIm : Inv (dC M) := Inv_sim hLw.1 hIc
  have hRk : RkOk (dC M) := RkOk_sim hLw.1 (RkOk_srt hDy.inv.2.2)
  have hl := hl
  refine lv_aload_n hx hb dL_law_1283 rfl (lv_at hl 1 rfl) ?_
  refine lv_aload_n hx hb dL_law_1284 rfl (lv_at hl 0 rfl) ?_
  refine lv_iload hx hb dL_law_1285 (lv_at hl 5 rfl) ?_
  refine lv_iconst (v := nI 1) hx hb dL_law_1287 (by decide) ?_
  refine lv_iadd hx hb dL_law_1288 ?_
  refine lv_ton (n := i9 + 1) (nadd (by omega)) ?_
  refine va_sld hx hb hX9 hbl hbA hS (i := nI (i9 + 1)) (vp9 (by omega) hL96) dL_law_1289 ?_
  refine W.eq (g2 := F0 m 1290 ls [.int (sx9 xs (i9 + 1)), .ref d]) rfl ?_
  refine lv_aload_n hx hb dL_law_1290 rfl (lv_at hl 3 rfl) ?_
  have hpm_4140 : (([(o, .inl (G.2 5, 1, .inr (.inl of))), (oD, .inl (G.2 6, 1, .inr (.inr (.inr (.inl og)))))] ++ (WD ++ (WM ++ []))) : va_W).Perm (([(o, .inl (G.2 5, 1, .inr (.inl of)))] ++ (WD ++ [])) ++ ([(oD, .inl (G.2 6, 1, .inr (.inr (.inr (.inl og)))))] ++ (WM ++ []))) := segs_perm [[(o, .inl (G.2 5, 1, .inr (.inl of)))], [(oD, .inl (G.2 6, 1, .inr (.inr (.inr (.inl og)))))], WD, WM] [0, 2] [1, 3] rfl
  have hF := hF_ofP (wc := ([(o, .inl (G.2 5, 1, .inr (.inl of)))] ++ (WD ++ []))) hD hS hA hpm_4140
  refine go_ctP hS hP hD hpm_4140 hF
      (vx_runSW (As := [.ref d, .int (sx9 xs (i9 + 1)), .ref o]) (rest := []) cf (wX0_minutesOf l G d C WD o of (sx9 xs (i9 + 1)) (hDy) hfl H.size) (vx_cwSW 3 hts (lw_SW q1237 q1238 q46 q1239) rfl rfl rfl (by decide +kernel) ⟨Nat.le_of_ble_eq_true rfl, Nat.le_of_ble_eq_true rfl⟩) (preS_ofW hNc hKB hE hS hF (P_left (P_perm hpm_4140 hP)) ((D_left (D_perm hpm_4140 hD)).weaken (fun _ _ _ _ => trivial)) trivial) rfl rfl hl.1 rfl (lv_room (Nat.le_of_ble_eq_true rfl)) dL_law_1291 ⟨show cl + 2 ≤ 1200144 from by first | decide | omega, show sl + 8 ≤ 5495674 from by first | decide | omega⟩)
      (fun u_ H locs hq hph (hP : va_P G.1 CL (([(oD, .inl (G.2 6, 1, .inr (.inr (.inr (.inl og)))))] ++ (WM ++ [])) ++ ([(o, .inl (G.2 5, 1, .inr (.inl u_.1)))] ++ (u_.2 ++ []))) H) (hD : va_D A (([(oD, .inl (G.2 6, 1, .inr (.inr (.inr (.inl og)))))] ++ (WM ++ [])) ++ ([(o, .inl (G.2 5, 1, .inr (.inl u_.1)))] ++ (u_.2 ++ [])))) hS hfz hfk => ?_)
  obtain ⟨of2_4141, W2_4142⟩ := u_
  obtain ⟨hq_4143, hq_4144, hq_4145⟩ : ((q_minOf (dC C) (sx9 xs (i9 + 1))).1 = 0 → of2_4141 0 = ((q_minOf (dC C) (sx9 xs (i9 + 1))).2).toInt64) ∧ (q_minOf (dC C) (sx9 xs (i9 + 1))).1 < 10 ∧ DyW G d C W2_4142 := hq
  have hpm_4146 : (([(oD, .inl (G.2 6, 1, .inr (.inr (.inr (.inl og)))))] ++ (WM ++ [])) ++ ([(o, .inl (G.2 5, 1, .inr (.inl of2_4141)))] ++ (W2_4142 ++ [])) : va_W).Perm ([(oD, .inl (G.2 6, 1, .inr (.inr (.inr (.inl og))))), (o, .inl (G.2 5, 1, .inr (.inl of2_4141)))] ++ (WM ++ (W2_4142 ++ []))) := segs_perm2 [[(oD, .inl (G.2 6, 1, .inr (.inr (.inr (.inl og)))))], WM] [[(o, .inl (G.2 5, 1, .inr (.inl of2_4141)))], W2_4142] [0, 2, 1, 3] rfl
  have hP : va_P G.1 CL ([(oD, .inl (G.2 6, 1, .inr (.inr (.inr (.inl og))))), (o, .inl (G.2 5, 1, .inr (.inl of2_4141)))] ++ (WM ++ (W2_4142 ++ []))) H := P_perm hpm_4146 hP
  have hD : va_D A ([(oD, .inl (G.2 6, 1, .inr (.inr (.inr (.inl og))))), (o, .inl (G.2 5, 1, .inr (.inl of2_4141)))] ++ (WM ++ (W2_4142 ++ []))) := D_perm hpm_4146 hD
  refine W.eq (g2 := F0 m 1294 ls [.int (nI ((q_minOf (dC C) (sx9 xs (i9 + 1))).1))]) rfl ?_
  have hqs : (q_minOf (dC M) id) = (q_minOf (dC C) (sx9 xs (i9 + 1))) := q_minOf_sim hLw.1.symm hIm (sx9 xs (i9 + 1))
  refine lv_istore (lv' := [(6, .int (nI ((q_minOf (dC C) (sx9 xs (i9 + 1))).1))), (0, .ref b), (1, .ref d), (2, .ref m0), (3, .ref o), (4, .ref oD), (5, .int (nI i9))]) hx hb dL_law_1294 hl (by decide) rfl (fun ls hl => ?_)
  refine lv_aload_n hx hb dL_law_1296 rfl (lv_at hl 3 rfl) ?_
  refine lv_aload_n hx hb dL_law_1297 rfl (lv_at hl 1 rfl) ?_
  refine lv_iload hx hb dL_law_1298 (lv_at hl 6 rfl) ?_
  refine lv_iconst (v := nI 1) hx hb dL_law_1300 (by decide) ?_
  refine lv_iadd hx hb dL_law_1301 ?_
  refine lv_ton (n := i9 + 1) (nadd (by omega)) ?_
  refine va_sld hx hb hX9 hbl hbA hS (i := nI (i9 + 1)) (vp9 (by omega) hL96) dL_law_1302 ?_
  refine W.eq (g2 := F0 m 1303 ls [.int (sx9 xs (i9 + 1)), .ref m0]) rfl ?_
  have hpm_4147 : (([(oD, .inl (G.2 6, 1, .inr (.inr (.inr (.inl og))))), (o, .inl (G.2 5, 1, .inr (.inl of2_4141)))] ++ (WM ++ (W2_4142 ++ []))) : va_W).Perm ((WM ++ []) ++ ([(oD, .inl (G.2 6, 1, .inr (.inr (.inr (.inl og))))), (o, .inl (G.2 5, 1, .inr (.inl of2_4141)))] ++ (W2_4142 ++ []))) := segs_perm [[(oD, .inl (G.2 6, 1, .inr (.inr (.inr (.inl og)))))], [(o, .inl (G.2 5, 1, .inr (.inl of2_4141)))], WM, W2_4142] [2] [0, 1, 3] rfl
  have hF := hF_ofP (wc := (WM ++ [])) hD hS hA hpm_4147
  refine go_ctP hS hP hD hpm_4147 hF
      (va_runV (As := [.int (sx9 xs (i9 + 1))]) (rest := []) cf (eX4_minutesOf l G m0 M th WM (sx9 xs (i9 + 1)) (hMd) (hIm) H.size) (cwV 1 hts (lw_V q1779 q1780 q1781 q58 q1782) rfl rfl rfl (by decide +kernel) ⟨Nat.le_of_ble_eq_true rfl, Nat.le_of_ble_eq_true rfl⟩) (preV_of hKB hE hS hF (MdW.recv hK hMd (seg_at [[(oD, .inl (G.2 6, 1, .inr (.inr (.inr (.inl og)))))], [(o, .inl (G.2 5, 1, .inr (.inl of2_4141)))], WM, W2_4142] 2 rfl hP)) (P_left (P_perm hpm_4147 hP)) ((D_left (D_perm hpm_4147 hD)).weaken (fun _ _ _ _ => trivial)) trivial) rfl rfl hl.1 rfl (lv_room (Nat.le_of_ble_eq_true rfl)) dL_law_1303 ⟨show cl + 2 + 0 ≤ 1200144 from by first | decide | omega, show sl + 8 + 0 ≤ 5495674 from by first | decide | omega⟩)
      (fun u_ H locs hq hph (hP : va_P G.1 CL (([(oD, .inl (G.2 6, 1, .inr (.inr (.inr (.inl og))))), (o, .inl (G.2 5, 1, .inr (.inl of2_4141)))] ++ (W2_4142 ++ [])) ++ (u_.2 ++ [])) H) (hD : va_D A (([(oD, .inl (G.2 6, 1, .inr (.inr (.inr (.inl og))))), (o, .inl (G.2 5, 1, .inr (.inl of2_4141)))] ++ (W2_4142 ++ [])) ++ (u_.2 ++ []))) hS hfz hfk => ?_)
  obtain ⟨rr_4148, W2_4149⟩ := u_
  obtain ⟨hq_4150, hq_4151⟩ : ((q_minOf (dC M) (sx9 xs (i9 + 1))).1 = 0 → rr_4148 = (q_minOf (dC M) (sx9 xs (i9 + 1))).2) ∧ MdW G m0 M (q_minOf (dC M) (sx9 xs (i9 + 1))).1 W2_4149 := hq
  have hpm_4152 : (([(oD, .inl (G.2 6, 1, .inr (.inr (.inr (.inl og))))), (o, .inl (G.2 5, 1, .inr (.inl of2_4141)))] ++ (W2_4142 ++ [])) ++ (W2_4149 ++ []) : va_W).Perm ([(oD, .inl (G.2 6, 1, .inr (.inr (.inr (.inl og))))), (o, .inl (G.2 5, 1, .inr (.inl of2_4141)))] ++ (W2_4142 ++ (W2_4149 ++ []))) := segs_perm2 [[(oD, .inl (G.2 6, 1, .inr (.inr (.inr (.inl og)))))], [(o, .inl (G.2 5, 1, .inr (.inl of2_4141)))], W2_4142] [W2_4149] [0, 1, 2, 3] rfl
  have hP : va_P G.1 CL ([(oD, .inl (G.2 6, 1, .inr (.inr (.inr (.inl og))))), (o, .inl (G.2 5, 1, .inr (.inl of2_4141)))] ++ (W2_4142 ++ (W2_4149 ++ []))) H := P_perm hpm_4152 hP
  have hD : va_D A ([(oD, .inl (G.2 6, 1, .inr (.inr (.inr (.inl og))))), (o, .inl (G.2 5, 1, .inr (.inl of2_4141)))] ++ (W2_4142 ++ (W2_4149 ++ []))) := D_perm hpm_4152 hD
  refine W.eq (g2 := F0 m 1306 ls [.int rr_4148]) rfl ?_
  refine lv_istore (lv' := [(7, .int rr_4148), (6, .int (nI ((q_minOf (dC C) (sx9 xs (i9 + 1))).1))), (0, .ref b), (1, .ref d), (2, .ref m0), (3, .ref o), (4, .ref oD), (5, .int (nI i9))]) hx hb dL_law_1306 hl (by decide) rfl (fun ls hl => ?_)
  refine lv_aload_n hx hb dL_law_1308 rfl (lv_at hl 4 rfl) ?_
  have hpm_4153 : (([(oD, .inl (G.2 6, 1, .inr (.inr (.inr (.inl og))))), (o, .inl (G.2 5, 1, .inr (.inl of2_4141)))] ++ (W2_4142 ++ (W2_4149 ++ []))) : va_W).Perm ([] ++ ([(oD, .inl (G.2 6, 1, .inr (.inr (.inr (.inl og))))), (o, .inl (G.2 5, 1, .inr (.inl of2_4141)))] ++ (W2_4142 ++ (W2_4149 ++ [])))) := segs_perm [[(oD, .inl (G.2 6, 1, .inr (.inr (.inr (.inl og)))))], [(o, .inl (G.2 5, 1, .inr (.inl of2_4141)))], W2_4142, W2_4149] [] [0, 1, 2, 3] rfl
  have hF := hF_ofP (wc := []) hD hS hA hpm_4153
  refine go_ctP hS hP hD hpm_4153 hF
      (va_runV (As := []) (rest := []) cf (eX4_thrown l G m0 M (((q_minOf (dC M) id)).1) W2_4149 (hq_4151) H.size) (cwV 0 hts (lw_V q1639 q1640 q1641 q58 q1642) rfl rfl rfl (by decide +kernel) ⟨Nat.le_of_ble_eq_true rfl, Nat.le_of_ble_eq_true rfl⟩) (preV_of hKB hE hS hF (MdW.recv hK hq_4151 (seg_at [[(oD, .inl (G.2 6, 1, .inr (.inr (.inr (.inl og)))))], [(o, .inl (G.2 5, 1, .inr (.inl of2_4141)))], W2_4142, W2_4149] 3 rfl hP)) (P_left (P_perm hpm_4153 hP)) ((D_left (D_perm hpm_4153 hD)).weaken (fun _ _ _ _ => trivial)) (roW.nil (seg_at [[(oD, .inl (G.2 6, 1, .inr (.inr (.inr (.inl og)))))], [(o, .inl (G.2 5, 1, .inr (.inl of2_4141)))], W2_4142, W2_4149] 3 rfl hP))) rfl rfl hl.1 rfl (lv_room (Nat.le_of_ble_eq_true rfl)) dL_law_1309 ⟨show cl + 2 + 0 ≤ 1200144 from by first | decide | omega, show sl + 8 + 0 ≤ 5495674 from by first | decide | omega⟩)
      (fun u_ H locs hq hph (hP : va_P G.1 CL (([(oD, .inl (G.2 6, 1, .inr (.inr (.inr (.inl og))))), (o, .inl (G.2 5, 1, .inr (.inl of2_4141)))] ++ (W2_4142 ++ (W2_4149 ++ []))) ++ []) H) (hD : va_D A (([(oD, .inl (G.2 6, 1, .inr (.inr (.inr (.inl og))))), (o, .inl (G.2 5, 1, .inr (.inl of2_4141)))] ++ (W2_4142 ++ (W2_4149 ++ []))) ++ [])) hS hfz hfk => ?_)
  have hpm_4154 : (([(oD, .inl (G.2 6, 1, .inr (.inr (.inr (.inl og))))), (o, .inl (G.2 5, 1, .inr (.inl of2_4141)))] ++ (W2_4142 ++ (W2_4149 ++ []))) ++ [] : va_W).Perm ([(oD, .inl (G.2 6, 1, .inr (.inr (.inr (.inl og))))), (o, .inl (G.2 5, 1, .inr (.inl of2_4141)))] ++ (W2_4142 ++ (W2_4149 ++ []))) := segs_perm2 [[(oD, .inl (G.2 6, 1, .inr (.inr (.inr (.inl og)))))], [(o, .inl (G.2 5, 1, .inr (.inl of2_4141)))], W2_4142, W2_4149] [] [0, 1, 2, 3] rfl
  have hP : va_P G.1 CL ([(oD, .inl (G.2 6, 1, .inr (.inr (.inr (.inl og))))), (o, .inl (G.2 5, 1, .inr (.inl of2_4141)))] ++ (W2_4142 ++ (W2_4149 ++ []))) H := P_perm hpm_4154 hP
  have hD : va_D A ([(oD, .inl (G.2 6, 1, .inr (.inr (.inr (.inl og))))), (o, .inl (G.2 5, 1, .inr (.inl of2_4141)))] ++ (W2_4142 ++ (W2_4149 ++ []))) := D_perm hpm_4154 hD
  refine W.eq (g2 := F0 m 1312 ls [.int (nI (((q_minOf (dC M) id)).1))]) rfl ?_
  refine lv_ton (n := ((q_minOf (dC C) (sx9 xs (i9 + 1))).1)) (congrArg nI (by rw [hqs])) ?_
  refine lv_iload hx hb dL_law_1312 (lv_at hl 1 rfl) ?_
  refine lv_icmp_eq (tgt := 1319) hx hb dL_law_1314 (by decide) (fun _ => ?_) (fun c9 => absurd rfl c9)
  refine lv_iload hx hb dL_law_1319 (lv_at hl 1 rfl) ?_
  refine n_if_ne (tgt := 1336) hx hb (by omega) dL_law_1321 (by decide) (fun c_4155 => ?_) (fun c_4155 => ?_)
  · refine lv_goto (tgt := 2788) hx hb dL_law_1336 (by decide) ?_
    have hpm_4156 : (([(oD, .inl (G.2 6, 1, .inr (.inr (.inr (.inl og))))), (o, .inl (G.2 5, 1, .inr (.inl of2_4141)))] ++ (W2_4142 ++ (W2_4149 ++ []))) : va_W).Perm (([(o, .inl (G.2 5, 1, .inr (.inl of2_4141))), (oD, .inl (G.2 6, 1, .inr (.inr (.inr (.inl og)))))] ++ (W2_4142 ++ (W2_4149 ++ []))) ++ []) := segs_perm [[(oD, .inl (G.2 6, 1, .inr (.inr (.inr (.inl og)))))], [(o, .inl (G.2 5, 1, .inr (.inl of2_4141)))], W2_4142, W2_4149] [1, 0, 2, 3] [] rfl
    have hP : va_P G.1 CL ([(o, .inl (G.2 5, 1, .inr (.inl of2_4141))), (oD, .inl (G.2 6, 1, .inr (.inr (.inr (.inl og)))))] ++ (W2_4142 ++ (W2_4149 ++ []))) H := P_left (P_perm hpm_4156 hP)
    have hD : va_D A ([(o, .inl (G.2 5, 1, .inr (.inl of2_4141))), (oD, .inl (G.2 6, 1, .inr (.inr (.inr (.inl og)))))] ++ (W2_4142 ++ (W2_4149 ++ []))) := D_left (D_perm hpm_4156 hD)
    have hl := lv_sub hl [2, 3, 4, 5, 6, 7] (l' := [(0, .ref b), (1, .ref d), (2, .ref m0), (3, .ref o), (4, .ref oD), (5, .int (nI i9))]) rfl
    exact W.widen (show cl + 2 ≤ cl + 20000 from by omega) (show sl + 8 ≤ sl + 45000 from by omega) (kk ls H locs C M (((q_minOf (dC M) id)).1) W2_4142 W2_4149 of2_4141 og hP hD hS hl hq_4145 hq_4151 hLw.up)
  · refine lv_aload_n hx hb dL_law_1324 rfl (lv_at hl 5 rfl) ?_
    refine lv_iconst (v := nI 0) hx hb dL_law_1325 (by decide) ?_
    refine r_lald (v := (((q_minOf (dC C) (sx9 xs (i9 + 1)))).2).toInt64) hx hb hK hP 1 5 rfl rfl (i := 0) (by omega) (by omega) ((hq_4143 (by omega))) dL_law_1326 ?_
    refine lv_iload hx hb dL_law_1327 (lv_at hl 0 rfl) ?_
    refine lv_toi (y := ((q_minOf (dC C) (sx9 xs (i9 + 1)))).2) ((hq_4150 (by rw [hqs]; omega)).trans (by rw [hqs])) ?_
    refine lv_i2l (v := (((q_minOf (dC C) (sx9 xs (i9 + 1)))).2).toInt64) hx hb dL_law_1329 rfl ?_
    refine W.lcmp hx hb dL_law_1330 ?_
    refine lv_ton (n := 0) (lcmp0 _) ?_
    refine n_if_eq (tgt := 1336) hx hb (by omega) dL_law_1331 (by decide) (fun c_4157 => ?_) (fun c_4157 => absurd c_4157 (by omega))
    refine lv_goto (tgt := 2788) hx hb dL_law_1336 (by decide) ?_
    have hpm_4158 : (([(oD, .inl (G.2 6, 1, .inr (.inr (.inr (.inl og))))), (o, .inl (G.2 5, 1, .inr (.inl of2_4141)))] ++ (W2_4142 ++ (W2_4149 ++ []))) : va_W).Perm (([(o, .inl (G.2 5, 1, .inr (.inl of2_4141))), (oD, .inl (G.2 6, 1, .inr (.inr (.inr (.inl og)))))] ++ (W2_4142 ++ (W2_4149 ++ []))) ++ []) := segs_perm [[(oD, .inl (G.2 6, 1, .inr (.inr (.inr (.inl og)))))], [(o, .inl (G.2 5, 1, .inr (.inl of2_4141)))], W2_4142, W2_4149] [1, 0, 2, 3] [] rfl
    have hP : va_P G.1 CL ([(o, .inl (G.2 5, 1, .inr (.inl of2_4141))), (oD, .inl (G.2 6, 1, .inr (.inr (.inr (.inl og)))))] ++ (W2_4142 ++ (W2_4149 ++ []))) H := P_left (P_perm hpm_4158 hP)
    have hD : va_D A ([(o, .inl (G.2 5, 1, .inr (.inl of2_4141))), (oD, .inl (G.2 6, 1, .inr (.inr (.inr (.inl og)))))] ++ (W2_4142 ++ (W2_4149 ++ []))) := D_left (D_perm hpm_4158 hD)
    have hl := lv_sub hl [2, 3, 4, 5, 6, 7] (l' := [(0, .ref b), (1, .ref d), (2, .ref m0), (3, .ref o), (4, .ref oD), (5, .int (nI i9))]) rfl
    exact W.widen (show cl + 2 ≤ cl + 20000 from by omega) (show sl + 8 ≤ sl + 45000 from by omega) (kk ls H locs C M (((q_minOf (dC M) id)).1) W2_4142 W2_4149 of2_4141 og hP hD hS hl hq_4145 hq_4151 hLw.up)

set_option maxHeartbeats 4000000 in
theorem lawK_20 {p : Program} {l : Launch} {e : Env} {s : State} {m : MethodId} {below : List Frame} {meth : Method} {c : Code} {G : Gt} {A : Nat → Prop} {b L : Nat} {xs : Nat → Int32} {Q : State → Prop} {d m0 o oD i9 N cl sl : Nat} (hfl : l.stackTraces = false) (F : LwF G A p s m c b L xs) (hi9 : i9 + 4 ≤ L) (hN24 : N ≤ 24) (hcl : cl + 20000 ≤ 1200144) (hsl : sl + 45000 ≤ 5495674) (kk : ∀ (ls : Array Slot) (H : Heap) (locs : List Loc) (C M : DS) (th : Nat) (WD WM : va_W) (of : Nat → Int64) (og : Nat → UInt64), va_P G.1 CL ([(o, .inl (G.2 5, 1, .inr (.inl of))), (oD, .inl (G.2 6, 1, .inr (.inr (.inr (.inl og)))))] ++ (WD ++ (WM ++ []))) H → va_D A ([(o, .inl (G.2 5, 1, .inr (.inl of))), (oD, .inl (G.2 6, 1, .inr (.inr (.inr (.inl og)))))] ++ (WD ++ (WM ++ []))) → va_S A s.heap H locs → lv_has ls 10 [(0, .ref b), (1, .ref d), (2, .ref m0), (3, .ref o), (4, .ref oD), (5, .int (nI i9))] → DyW G d C WD → MdW G m0 M th WM → LawI C M (N + 1) → W p l e room_1 s m #[Value.ref b] below meth c H locs (cl + 20000) (sl + 45000) Q (F0 m 2788 ls [])) {ls : Array Slot} {H : Heap} {locs : List Loc} {C M : DS} {th : Nat} {WD WM : va_W} {of : Nat → Int64} {og : Nat → UInt64} (hP : va_P G.1 CL ([(o, .inl (G.2 5, 1, .inr (.inl of))), (oD, .inl (G.2 6, 1, .inr (.inr (.inr (.inl og)))))] ++ (WD ++ (WM ++ []))) H) (hD : va_D A ([(o, .inl (G.2 5, 1, .inr (.inl of))), (oD, .inl (G.2 6, 1, .inr (.inr (.inr (.inl og)))))] ++ (WD ++ (WM ++ [])))) (hS : va_S A s.heap H locs) (hl : lv_has ls 10 [(0, .ref b), (1, .ref d), (2, .ref m0), (3, .ref o), (4, .ref oD), (5, .int (nI i9))]) (hDy : DyW G d C WD) (hMd : MdW G m0 M th WM) (hLw : LawI C M N) : W p l e room_1 s m #[Value.ref b] below meth c H locs cl sl Q (F0 m 1339 ls []) := by
  obtain ⟨cf, hKB, hE, hA, hX9, hbl, hbA, hNc, hL96⟩ := F
  have hx := cf.1
  have hb := cf.2.1
  have hml := cf.2.2.1
  have hown : s.vm.findClass RX0 = some m.cls := cf.2.2.2.1
  have hts := cf.2.2.2.2
  have hK := hKB.1
  have hIc := hDy.inv.1
  have hIm : Inv (dC M) := Inv_sim hLw.1 hIc
  have hRk : RkOk (dC M) := RkOk_sim hLw.1 (RkOk_srt hDy.inv.2.2)
  have hl := hl
  refine lv_aload_n hx hb dL_law_1339 rfl (lv_at hl 1 rfl) ?_
  refine lv_aload_n hx hb dL_law_1340 rfl (lv_at hl 0 rfl) ?_
  refine lv_iload hx hb dL_law_1341 (lv_at hl 5 rfl) ?_
  refine lv_iconst (v := nI 1) hx hb dL_law_1343 (by decide) ?_
  refine lv_iadd hx hb dL_law_1344 ?_
  refine lv_ton (n := i9 + 1) (nadd (by omega)) ?_
  refine va_sld hx hb hX9 hbl hbA hS (i := nI (i9 + 1)) (vp9 (by omega) hL96) dL_law_1345 ?_
  refine W.eq (g2 := F0 m 1346 ls [.int (sx9 xs (i9 + 1)), .ref d]) rfl ?_
  refine lv_aload_n hx hb dL_law_1346 rfl (lv_at hl 0 rfl) ?_
  refine lv_iload hx hb dL_law_1347 (lv_at hl 5 rfl) ?_
  refine lv_iconst (v := nI 2) hx hb dL_law_1349 (by decide) ?_
  refine lv_iadd hx hb dL_law_1350 ?_
  refine lv_ton (n := i9 + 2) (nadd (by omega)) ?_
  refine va_sld hx hb hX9 hbl hbA hS (i := nI (i9 + 2)) (vp9 (by omega) hL96) dL_law_1351 ?_
  refine W.eq (g2 := F0 m 1352 ls [.int (sx9 xs (i9 + 2)), .int (sx9 xs (i9 + 1)), .ref d]) rfl ?_
  refine lv_aload_n hx hb dL_law_1352 rfl (lv_at hl 3 rfl) ?_
  have hpm_4159 : (([(o, .inl (G.2 5, 1, .inr (.inl of))), (oD, .inl (G.2 6, 1, .inr (.inr (.inr (.inl og)))))] ++ (WD ++ (WM ++ []))) : va_W).Perm (([(o, .inl (G.2 5, 1, .inr (.inl of)))] ++ (WD ++ [])) ++ ([(oD, .inl (G.2 6, 1, .inr (.inr (.inr (.inl og)))))] ++ (WM ++ []))) := segs_perm [[(o, .inl (G.2 5, 1, .inr (.inl of)))], [(oD, .inl (G.2 6, 1, .inr (.inr (.inr (.inl og)))))], WD, WM] [0, 2] [1, 3] rfl
  have hF := hF_ofP (wc := ([(o, .inl (G.2 5, 1, .inr (.inl of)))] ++ (WD ++ []))) hD hS hA hpm_4159
  refine go_ctP hS hP hD hpm_4159 hF
      (vx_runSW (As := [.ref d, .int (sx9 xs (i9 + 1)), .int (sx9 xs (i9 + 2)), .ref o]) (rest := []) cf (wX0_minutesInZone l G d C WD o of (sx9 xs (i9 + 1)) (sx9 xs (i9 + 2)) (hDy) hfl H.size) (vx_cwSW 4 hts (lw_SW q1245 q1246 q46 q1247) rfl rfl rfl (by decide +kernel) ⟨Nat.le_of_ble_eq_true rfl, Nat.le_of_ble_eq_true rfl⟩) (preS_ofW hNc hKB hE hS hF (P_left (P_perm hpm_4159 hP)) ((D_left (D_perm hpm_4159 hD)).weaken (fun _ _ _ _ => trivial)) trivial) rfl rfl hl.1 rfl (lv_room (Nat.le_of_ble_eq_true rfl)) dL_law_1353 ⟨show cl + 4 ≤ 1200144 from by first | decide | omega, show sl + 20 ≤ 5495674 from by first | decide | omega⟩)
      (fun u_ H locs hq hph (hP : va_P G.1 CL (([(oD, .inl (G.2 6, 1, .inr (.inr (.inr (.inl og)))))] ++ (WM ++ [])) ++ ([(o, .inl (G.2 5, 1, .inr (.inl u_.1)))] ++ (u_.2 ++ []))) H) (hD : va_D A (([(oD, .inl (G.2 6, 1, .inr (.inr (.inr (.inl og)))))] ++ (WM ++ [])) ++ ([(o, .inl (G.2 5, 1, .inr (.inl u_.1)))] ++ (u_.2 ++ [])))) hS hfz hfk => ?_)
  obtain ⟨of2_4160, W2_4161⟩ := u_
  obtain ⟨hq_4162, hq_4163, hq_4164⟩ : ((q_minZ (dC C) (sx9 xs (i9 + 1)) (sx9 xs (i9 + 2))).1 = 0 → of2_4160 0 = ((q_minZ (dC C) (sx9 xs (i9 + 1)) (sx9 xs (i9 + 2))).2).toInt64) ∧ (q_minZ (dC C) (sx9 xs (i9 + 1)) (sx9 xs (i9 + 2))).1 < 10 ∧ DyW G d C W2_4161 := hq
  have hpm_4165 : (([(oD, .inl (G.2 6, 1, .inr (.inr (.inr (.inl og)))))] ++ (WM ++ [])) ++ ([(o, .inl (G.2 5, 1, .inr (.inl of2_4160)))] ++ (W2_4161 ++ [])) : va_W).Perm ([(oD, .inl (G.2 6, 1, .inr (.inr (.inr (.inl og))))), (o, .inl (G.2 5, 1, .inr (.inl of2_4160)))] ++ (WM ++ (W2_4161 ++ []))) := segs_perm2 [[(oD, .inl (G.2 6, 1, .inr (.inr (.inr (.inl og)))))], WM] [[(o, .inl (G.2 5, 1, .inr (.inl of2_4160)))], W2_4161] [0, 2, 1, 3] rfl
  have hP : va_P G.1 CL ([(oD, .inl (G.2 6, 1, .inr (.inr (.inr (.inl og))))), (o, .inl (G.2 5, 1, .inr (.inl of2_4160)))] ++ (WM ++ (W2_4161 ++ []))) H := P_perm hpm_4165 hP
  have hD : va_D A ([(oD, .inl (G.2 6, 1, .inr (.inr (.inr (.inl og))))), (o, .inl (G.2 5, 1, .inr (.inl of2_4160)))] ++ (WM ++ (W2_4161 ++ []))) := D_perm hpm_4165 hD
  refine W.eq (g2 := F0 m 1356 ls [.int (nI ((q_minZ (dC C) (sx9 xs (i9 + 1)) (sx9 xs (i9 + 2))).1))]) rfl ?_
  have hqs : (q_minZ (dC M) id z) = (q_minZ (dC C) (sx9 xs (i9 + 1)) (sx9 xs (i9 + 2))) := q_minZ_sim hLw.1.symm hIm (sx9 xs (i9 + 1)) (sx9 xs (i9 + 2))
  refine lv_istore (lv' := [(6, .int (nI ((q_minZ (dC C) (sx9 xs (i9 + 1)) (sx9 xs (i9 + 2))).1))), (0, .ref b), (1, .ref d), (2, .ref m0), (3, .ref o), (4, .ref oD), (5, .int (nI i9))]) hx hb dL_law_1356 hl (by decide) rfl (fun ls hl => ?_)
  refine lv_aload_n hx hb dL_law_1358 rfl (lv_at hl 3 rfl) ?_
  refine lv_aload_n hx hb dL_law_1359 rfl (lv_at hl 1 rfl) ?_
  refine lv_iload hx hb dL_law_1360 (lv_at hl 6 rfl) ?_
  refine lv_iconst (v := nI 1) hx hb dL_law_1362 (by decide) ?_
  refine lv_iadd hx hb dL_law_1363 ?_
  refine lv_ton (n := i9 + 1) (nadd (by omega)) ?_
  refine va_sld hx hb hX9 hbl hbA hS (i := nI (i9 + 1)) (vp9 (by omega) hL96) dL_law_1364 ?_
  refine W.eq (g2 := F0 m 1365 ls [.int (sx9 xs (i9 + 1)), .ref m0]) rfl ?_
  refine lv_aload_n hx hb dL_law_1365 rfl (lv_at hl 1 rfl) ?_
  refine lv_iload hx hb dL_law_1366 (lv_at hl 6 rfl) ?_
  refine lv_iconst (v := nI 2) hx hb dL_law_1368 (by decide) ?_
  refine lv_iadd hx hb dL_law_1369 ?_
  refine lv_ton (n := i9 + 2) (nadd (by omega)) ?_
  refine va_sld hx hb hX9 hbl hbA hS (i := nI (i9 + 2)) (vp9 (by omega) hL96) dL_law_1370 ?_
  refine W.eq (g2 := F0 m 1371 ls [.int (sx9 xs (i9 + 2)), .int (sx9 xs (i9 + 1)), .ref m0]) rfl ?_
  have hpm_4166 : (([(oD, .inl (G.2 6, 1, .inr (.inr (.inr (.inl og))))), (o, .inl (G.2 5, 1, .inr (.inl of2_4160)))] ++ (WM ++ (W2_4161 ++ []))) : va_W).Perm ((WM ++ []) ++ ([(oD, .inl (G.2 6, 1, .inr (.inr (.inr (.inl og))))), (o, .inl (G.2 5, 1, .inr (.inl of2_4160)))] ++ (W2_4161 ++ []))) := segs_perm [[(oD, .inl (G.2 6, 1, .inr (.inr (.inr (.inl og)))))], [(o, .inl (G.2 5, 1, .inr (.inl of2_4160)))], WM, W2_4161] [2] [0, 1, 3] rfl
  have hF := hF_ofP (wc := (WM ++ [])) hD hS hA hpm_4166
  refine go_ctP hS hP hD hpm_4166 hF
      (va_runV (As := [.int (sx9 xs (i9 + 1)), .int (sx9 xs (i9 + 2))]) (rest := []) cf (eX4_minutesInZone l G m0 M th WM (sx9 xs (i9 + 1)) (sx9 xs (i9 + 2)) (hMd) (hIm) H.size) (cwV 2 hts (lw_V q1783 q1784 q1785 q58 q1786) rfl rfl rfl (by decide +kernel) ⟨Nat.le_of_ble_eq_true rfl, Nat.le_of_ble_eq_true rfl⟩) (preV_of hKB hE hS hF (MdW.recv hK hMd (seg_at [[(oD, .inl (G.2 6, 1, .inr (.inr (.inr (.inl og)))))], [(o, .inl (G.2 5, 1, .inr (.inl of2_4160)))], WM, W2_4161] 2 rfl hP)) (P_left (P_perm hpm_4166 hP)) ((D_left (D_perm hpm_4166 hD)).weaken (fun _ _ _ _ => trivial)) trivial) rfl rfl hl.1 rfl (lv_room (Nat.le_of_ble_eq_true rfl)) dL_law_1371 ⟨show cl + 4 + 0 ≤ 1200144 from by first | decide | omega, show sl + 20 + 0 ≤ 5495674 from by first | decide | omega⟩)
      (fun u_ H locs hq hph (hP : va_P G.1 CL (([(oD, .inl (G.2 6, 1, .inr (.inr (.inr (.inl og))))), (o, .inl (G.2 5, 1, .inr (.inl of2_4160)))] ++ (W2_4161 ++ [])) ++ (u_.2 ++ [])) H) (hD : va_D A (([(oD, .inl (G.2 6, 1, .inr (.inr (.inr (.inl og))))), (o, .inl (G.2 5, 1, .inr (.inl of2_4160)))] ++ (W2_4161 ++ [])) ++ (u_.2 ++ []))) hS hfz hfk => ?_)
  obtain ⟨rr_4167, W2_4168⟩ := u_
  obtain ⟨hq_4169, hq_4170⟩ : ((q_minZ (dC M) (sx9 xs (i9 + 1)) (sx9 xs (i9 + 2))).1 = 0 → rr_4167 = (q_minZ (dC M) (sx9 xs (i9 + 1)) (sx9 xs (i9 + 2))).2) ∧ MdW G m0 M (q_minZ (dC M) (sx9 xs (i9 + 1)) (sx9 xs (i9 + 2))).1 W2_4168 := hq
  have hpm_4171 : (([(oD, .inl (G.2 6, 1, .inr (.inr (.inr (.inl og))))), (o, .inl (G.2 5, 1, .inr (.inl of2_4160)))] ++ (W2_4161 ++ [])) ++ (W2_4168 ++ []) : va_W).Perm ([(oD, .inl (G.2 6, 1, .inr (.inr (.inr (.inl og))))), (o, .inl (G.2 5, 1, .inr (.inl of2_4160)))] ++ (W2_4161 ++ (W2_4168 ++ []))) := segs_perm2 [[(oD, .inl (G.2 6, 1, .inr (.inr (.inr (.inl og)))))], [(o, .inl (G.2 5, 1, .inr (.inl of2_4160)))], W2_4161] [W2_4168] [0, 1, 2, 3] rfl
  have hP : va_P G.1 CL ([(oD, .inl (G.2 6, 1, .inr (.inr (.inr (.inl og))))), (o, .inl (G.2 5, 1, .inr (.inl of2_4160)))] ++ (W2_4161 ++ (W2_4168 ++ []))) H := P_perm hpm_4171 hP
  have hD : va_D A ([(oD, .inl (G.2 6, 1, .inr (.inr (.inr (.inl og))))), (o, .inl (G.2 5, 1, .inr (.inl of2_4160)))] ++ (W2_4161 ++ (W2_4168 ++ []))) := D_perm hpm_4171 hD
  refine W.eq (g2 := F0 m 1374 ls [.int rr_4167]) rfl ?_
  refine lv_istore (lv' := [(7, .int rr_4167), (6, .int (nI ((q_minZ (dC C) (sx9 xs (i9 + 1)) (sx9 xs (i9 + 2))).1))), (0, .ref b), (1, .ref d), (2, .ref m0), (3, .ref o), (4, .ref oD), (5, .int (nI i9))]) hx hb dL_law_1374 hl (by decide) rfl (fun ls hl => ?_)
  refine lv_aload_n hx hb dL_law_1376 rfl (lv_at hl 4 rfl) ?_
  have hpm_4172 : (([(oD, .inl (G.2 6, 1, .inr (.inr (.inr (.inl og))))), (o, .inl (G.2 5, 1, .inr (.inl of2_4160)))] ++ (W2_4161 ++ (W2_4168 ++ []))) : va_W).Perm ([] ++ ([(oD, .inl (G.2 6, 1, .inr (.inr (.inr (.inl og))))), (o, .inl (G.2 5, 1, .inr (.inl of2_4160)))] ++ (W2_4161 ++ (W2_4168 ++ [])))) := segs_perm [[(oD, .inl (G.2 6, 1, .inr (.inr (.inr (.inl og)))))], [(o, .inl (G.2 5, 1, .inr (.inl of2_4160)))], W2_4161, W2_4168] [] [0, 1, 2, 3] rfl
  have hF := hF_ofP (wc := []) hD hS hA hpm_4172
  refine go_ctP hS hP hD hpm_4172 hF
      (va_runV (As := []) (rest := []) cf (eX4_thrown l G m0 M (((q_minZ (dC M) id z)).1) W2_4168 (hq_4170) H.size) (cwV 0 hts (lw_V q1639 q1640 q1641 q58 q1642) rfl rfl rfl (by decide +kernel) ⟨Nat.le_of_ble_eq_true rfl, Nat.le_of_ble_eq_true rfl⟩) (preV_of hKB hE hS hF (MdW.recv hK hq_4170 (seg_at [[(oD, .inl (G.2 6, 1, .inr (.inr (.inr (.inl og)))))], [(o, .inl (G.2 5, 1, .inr (.inl of2_4160)))], W2_4161, W2_4168] 3 rfl hP)) (P_left (P_perm hpm_4172 hP)) ((D_left (D_perm hpm_4172 hD)).weaken (fun _ _ _ _ => trivial)) (roW.nil (seg_at [[(oD, .inl (G.2 6, 1, .inr (.inr (.inr (.inl og)))))], [(o, .inl (G.2 5, 1, .inr (.inl of2_4160)))], W2_4161, W2_4168] 3 rfl hP))) rfl rfl hl.1 rfl (lv_room (Nat.le_of_ble_eq_true rfl)) dL_law_1377 ⟨show cl + 4 + 0 ≤ 1200144 from by first | decide | omega, show sl + 20 + 0 ≤ 5495674 from by first | decide | omega⟩)
      (fun u_ H locs hq hph (hP : va_P G.1 CL (([(oD, .inl (G.2 6, 1, .inr (.inr (.inr (.inl og))))), (o, .inl (G.2 5, 1, .inr (.inl of2_4160)))] ++ (W2_4161 ++ (W2_4168 ++ []))) ++ []) H) (hD : va_D A (([(oD, .inl (G.2 6, 1, .inr (.inr (.inr (.inl og))))), (o, .inl (G.2 5, 1, .inr (.inl of2_4160)))] ++ (W2_4161 ++ (W2_4168 ++ []))) ++ [])) hS hfz hfk => ?_)
  have hpm_4173 : (([(oD, .inl (G.2 6, 1, .inr (.inr (.inr (.inl og))))), (o, .inl (G.2 5, 1, .inr (.inl of2_4160)))] ++ (W2_4161 ++ (W2_4168 ++ []))) ++ [] : va_W).Perm ([(oD, .inl (G.2 6, 1, .inr (.inr (.inr (.inl og))))), (o, .inl (G.2 5, 1, .inr (.inl of2_4160)))] ++ (W2_4161 ++ (W2_4168 ++ []))) := segs_perm2 [[(oD, .inl (G.2 6, 1, .inr (.inr (.inr (.inl og)))))], [(o, .inl (G.2 5, 1, .inr (.inl of2_4160)))], W2_4161, W2_4168] [] [0, 1, 2, 3] rfl
  have hP : va_P G.1 CL ([(oD, .inl (G.2 6, 1, .inr (.inr (.inr (.inl og))))), (o, .inl (G.2 5, 1, .inr (.inl of2_4160)))] ++ (W2_4161 ++ (W2_4168 ++ []))) H := P_perm hpm_4173 hP
  have hD : va_D A ([(oD, .inl (G.2 6, 1, .inr (.inr (.inr (.inl og))))), (o, .inl (G.2 5, 1, .inr (.inl of2_4160)))] ++ (W2_4161 ++ (W2_4168 ++ []))) := D_perm hpm_4173 hD
  refine W.eq (g2 := F0 m 1380 ls [.int (nI (((q_minZ (dC M) id z)).1))]) rfl ?_
  refine lv_ton (n := ((q_minZ (dC C) (sx9 xs (i9 + 1)) (sx9 xs (i9 + 2))).1)) (congrArg nI (by rw [hqs])) ?_
  refine lv_iload hx hb dL_law_1380 (lv_at hl 1 rfl) ?_
  refine lv_icmp_eq (tgt := 1387) hx hb dL_law_1382 (by decide) (fun _ => ?_) (fun c9 => absurd rfl c9)
  refine lv_iload hx hb dL_law_1387 (lv_at hl 1 rfl) ?_
  refine n_if_ne (tgt := 1404) hx hb (by omega) dL_law_1389 (by decide) (fun c_4174 => ?_) (fun c_4174 => ?_)
  · refine lv_goto (tgt := 2788) hx hb dL_law_1404 (by decide) ?_
    have hpm_4175 : (([(oD, .inl (G.2 6, 1, .inr (.inr (.inr (.inl og))))), (o, .inl (G.2 5, 1, .inr (.inl of2_4160)))] ++ (W2_4161 ++ (W2_4168 ++ []))) : va_W).Perm (([(o, .inl (G.2 5, 1, .inr (.inl of2_4160))), (oD, .inl (G.2 6, 1, .inr (.inr (.inr (.inl og)))))] ++ (W2_4161 ++ (W2_4168 ++ []))) ++ []) := segs_perm [[(oD, .inl (G.2 6, 1, .inr (.inr (.inr (.inl og)))))], [(o, .inl (G.2 5, 1, .inr (.inl of2_4160)))], W2_4161, W2_4168] [1, 0, 2, 3] [] rfl
    have hP : va_P G.1 CL ([(o, .inl (G.2 5, 1, .inr (.inl of2_4160))), (oD, .inl (G.2 6, 1, .inr (.inr (.inr (.inl og)))))] ++ (W2_4161 ++ (W2_4168 ++ []))) H := P_left (P_perm hpm_4175 hP)
    have hD : va_D A ([(o, .inl (G.2 5, 1, .inr (.inl of2_4160))), (oD, .inl (G.2 6, 1, .inr (.inr (.inr (.inl og)))))] ++ (W2_4161 ++ (W2_4168 ++ []))) := D_left (D_perm hpm_4175 hD)
    have hl := lv_sub hl [2, 3, 4, 5, 6, 7] (l' := [(0, .ref b), (1, .ref d), (2, .ref m0), (3, .ref o), (4, .ref oD), (5, .int (nI i9))]) rfl
    exact W.widen (show cl + 4 ≤ cl + 20000 from by omega) (show sl + 20 ≤ sl + 45000 from by omega) (kk ls H locs C M (((q_minZ (dC M) id z)).1) W2_4161 W2_4168 of2_4160 og hP hD hS hl hq_4164 hq_4170 hLw.up)
  · refine lv_aload_n hx hb dL_law_1392 rfl (lv_at hl 5 rfl) ?_
    refine lv_iconst (v := nI 0) hx hb dL_law_1393 (by decide) ?_
    refine r_lald (v := (((q_minZ (dC C) (sx9 xs (i9 + 1)) (sx9 xs (i9 + 2)))).2).toInt64) hx hb hK hP 1 5 rfl rfl (i := 0) (by omega) (by omega) ((hq_4162 (by omega))) dL_law_1394 ?_
    refine lv_iload hx hb dL_law_1395 (lv_at hl 0 rfl) ?_
    refine lv_toi (y := ((q_minZ (dC C) (sx9 xs (i9 + 1)) (sx9 xs (i9 + 2)))).2) ((hq_4169 (by rw [hqs]; omega)).trans (by rw [hqs])) ?_
    refine lv_i2l (v := (((q_minZ (dC C) (sx9 xs (i9 + 1)) (sx9 xs (i9 + 2)))).2).toInt64) hx hb dL_law_1397 rfl ?_
    refine W.lcmp hx hb dL_law_1398 ?_
    refine lv_ton (n := 0) (lcmp0 _) ?_
    refine n_if_eq (tgt := 1404) hx hb (by omega) dL_law_1399 (by decide) (fun c_4176 => ?_) (fun c_4176 => absurd c_4176 (by omega))
    refine lv_goto (tgt := 2788) hx hb dL_law_1404 (by decide) ?_
    have hpm_4177 : (([(oD, .inl (G.2 6, 1, .inr (.inr (.inr (.inl og))))), (o, .inl (G.2 5, 1, .inr (.inl of2_4160)))] ++ (W2_4161 ++ (W2_4168 ++ []))) : va_W).Perm (([(o, .inl (G.2 5, 1, .inr (.inl of2_4160))), (oD, .inl (G.2 6, 1, .inr (.inr (.inr (.inl og)))))] ++ (W2_4161 ++ (W2_4168 ++ []))) ++ []) := segs_perm [[(oD, .inl (G.2 6, 1, .inr (.inr (.inr (.inl og)))))], [(o, .inl (G.2 5, 1, .inr (.inl of2_4160)))], W2_4161, W2_4168] [1, 0, 2, 3] [] rfl
    have hP : va_P G.1 CL ([(o, .inl (G.2 5, 1, .inr (.inl of2_4160))), (oD, .inl (G.2 6, 1, .inr (.inr (.inr (.inl og)))))] ++ (W2_4161 ++ (W2_4168 ++ []))) H := P_left (P_perm hpm_4177 hP)
    have hD : va_D A ([(o, .inl (G.2 5, 1, .inr (.inl of2_4160))), (oD, .inl (G.2 6, 1, .inr (.inr (.inr (.inl og)))))] ++ (W2_4161 ++ (W2_4168 ++ []))) := D_left (D_perm hpm_4177 hD)
    have hl := lv_sub hl [2, 3, 4, 5, 6, 7] (l' := [(0, .ref b), (1, .ref d), (2, .ref m0), (3, .ref o), (4, .ref oD), (5, .int (nI i9))]) rfl
    exact W.widen (show cl + 4 ≤ cl + 20000 from by omega) (show sl + 20 ≤ sl + 45000 from by omega) (kk ls H locs C M (((q_minZ (dC M) id z)).1) W2_4161 W2_4168 of2_4160 og hP hD hS hl hq_4164 hq_4170 hLw.up)

set_option maxHeartbeats 4000000 in
theorem lawK_21 {p : Program} {l : Launch} {e : Env} {s : State} {m : MethodId} {below : List Frame} {meth : Method} {c : Code} {G : Gt} {A : Nat → Prop} {b L : Nat} {xs : Nat → Int32} {Q : State → Prop} {d m0 o oD i9 N cl sl : Nat} (hfl : l.stackTraces = false) (F : LwF G A p s m c b L xs) (hi9 : i9 + 4 ≤ L) (hN24 : N ≤ 24) (hcl : cl + 20000 ≤ 1200144) (hsl : sl + 45000 ≤ 5495674) (kk : ∀ (ls : Array Slot) (H : Heap) (locs : List Loc) (C M : DS) (th : Nat) (WD WM : va_W) (of : Nat → Int64) (og : Nat → UInt64), va_P G.1 CL ([(o, .inl (G.2 5, 1, .inr (.inl of))), (oD, .inl (G.2 6, 1, .inr (.inr (.inr (.inl og)))))] ++ (WD ++ (WM ++ []))) H → va_D A ([(o, .inl (G.2 5, 1, .inr (.inl of))), (oD, .inl (G.2 6, 1, .inr (.inr (.inr (.inl og)))))] ++ (WD ++ (WM ++ []))) → va_S A s.heap H locs → lv_has ls 10 [(0, .ref b), (1, .ref d), (2, .ref m0), (3, .ref o), (4, .ref oD), (5, .int (nI i9))] → DyW G d C WD → MdW G m0 M th WM → LawI C M (N + 1) → W p l e room_1 s m #[Value.ref b] below meth c H locs (cl + 20000) (sl + 45000) Q (F0 m 2788 ls [])) {ls : Array Slot} {H : Heap} {locs : List Loc} {C M : DS} {th : Nat} {WD WM : va_W} {of : Nat → Int64} {og : Nat → UInt64} (hP : va_P G.1 CL ([(o, .inl (G.2 5, 1, .inr (.inl of))), (oD, .inl (G.2 6, 1, .inr (.inr (.inr (.inl og)))))] ++ (WD ++ (WM ++ []))) H) (hD : va_D A ([(o, .inl (G.2 5, 1, .inr (.inl of))), (oD, .inl (G.2 6, 1, .inr (.inr (.inr (.inl og)))))] ++ (WD ++ (WM ++ [])))) (hS : va_S A s.heap H locs) (hl : lv_has ls 10 [(0, .ref b), (1, .ref d), (2, .ref m0), (3, .ref o), (4, .ref oD), (5, .int (nI i9))]) (hDy : DyW G d C WD) (hMd : MdW G m0 M th WM) (hLw : LawI C M N) : W p l e room_1 s m #[Value.ref b] below meth c H locs cl sl Q (F0 m 1407 ls []) := by
  obtain ⟨cf, hKB, hE, hA, hX9, hbl, hbA, hNc, hL96⟩ := F
  have hx := cf.1
  have hb := cf.2.1
  have hml := cf.2.2.1
  have hown : s.vm.findClass RX0 = some m.cls := cf.2.2.2.1
  have hts := cf.2.2.2.2
  have hK := hKB.1
  have hIc := hDy.inv.1
  have hIm : Inv (dC M) := Inv_sim hLw.1 hIc
  have hRk : RkOk (dC M) := RkOk_sim hLw.1 (RkOk_srt hDy.inv.2.2)
  have hl := hl
  refine lv_aload_n hx hb dL_law_1407 rfl (lv_at hl 1 rfl) ?_
  refine lv_aload_n hx hb dL_law_1408 rfl (lv_at hl 0 rfl) ?_
  refine lv_iload hx hb dL_law_1409 (lv_at hl 5 rfl) ?_
  refine lv_iconst (v := nI 1) hx hb dL_law_1411 (by decide) ?_
  refine lv_iadd hx hb dL_law_1412 ?_
  refine lv_ton (n := i9 + 1) (nadd (by omega)) ?_
  refine va_sld hx hb hX9 hbl hbA hS (i := nI (i9 + 1)) (vp9 (by omega) hL96) dL_law_1413 ?_
  refine W.eq (g2 := F0 m 1414 ls [.int (sx9 xs (i9 + 1)), .ref d]) rfl ?_
  refine lv_aload_n hx hb dL_law_1414 rfl (lv_at hl 3 rfl) ?_
  have hpm_4178 : (([(o, .inl (G.2 5, 1, .inr (.inl of))), (oD, .inl (G.2 6, 1, .inr (.inr (.inr (.inl og)))))] ++ (WD ++ (WM ++ []))) : va_W).Perm (([(o, .inl (G.2 5, 1, .inr (.inl of)))] ++ (WD ++ [])) ++ ([(oD, .inl (G.2 6, 1, .inr (.inr (.inr (.inl og)))))] ++ (WM ++ []))) := segs_perm [[(o, .inl (G.2 5, 1, .inr (.inl of)))], [(oD, .inl (G.2 6, 1, .inr (.inr (.inr (.inl og)))))], WD, WM] [0, 2] [1, 3] rfl
  have hF := hF_ofP (wc := ([(o, .inl (G.2 5, 1, .inr (.inl of)))] ++ (WD ++ []))) hD hS hA hpm_4178
  refine go_ctP hS hP hD hpm_4178 hF
      (vx_runSW (As := [.ref d, .int (sx9 xs (i9 + 1)), .ref o]) (rest := []) cf (wX0_loadOf l G d C WD o of (sx9 xs (i9 + 1)) (hDy) hfl H.size) (vx_cwSW 3 hts (lw_SW q1256 q1257 q46 q1258) rfl rfl rfl (by decide +kernel) ⟨Nat.le_of_ble_eq_true rfl, Nat.le_of_ble_eq_true rfl⟩) (preS_ofW hNc hKB hE hS hF (P_left (P_perm hpm_4178 hP)) ((D_left (D_perm hpm_4178 hD)).weaken (fun _ _ _ _ => trivial)) trivial) rfl rfl hl.1 rfl (lv_room (Nat.le_of_ble_eq_true rfl)) dL_law_1415 ⟨show cl + 3 ≤ 1200144 from by first | decide | omega, show sl + 12 ≤ 5495674 from by first | decide | omega⟩)
      (fun u_ H locs hq hph (hP : va_P G.1 CL (([(oD, .inl (G.2 6, 1, .inr (.inr (.inr (.inl og)))))] ++ (WM ++ [])) ++ ([(o, .inl (G.2 5, 1, .inr (.inl u_.1)))] ++ (u_.2 ++ []))) H) (hD : va_D A (([(oD, .inl (G.2 6, 1, .inr (.inr (.inr (.inl og)))))] ++ (WM ++ [])) ++ ([(o, .inl (G.2 5, 1, .inr (.inl u_.1)))] ++ (u_.2 ++ [])))) hS hfz hfk => ?_)
  obtain ⟨of2_4179, W2_4180⟩ := u_
  obtain ⟨hq_4181, hq_4182, hq_4183⟩ : ((q_loadOf (dC C) (sx9 xs (i9 + 1))).1 = 0 → of2_4179 0 = ((q_loadOf (dC C) (sx9 xs (i9 + 1))).2).toInt64) ∧ (q_loadOf (dC C) (sx9 xs (i9 + 1))).1 < 10 ∧ DyW G d C W2_4180 := hq
  have hpm_4184 : (([(oD, .inl (G.2 6, 1, .inr (.inr (.inr (.inl og)))))] ++ (WM ++ [])) ++ ([(o, .inl (G.2 5, 1, .inr (.inl of2_4179)))] ++ (W2_4180 ++ [])) : va_W).Perm ([(oD, .inl (G.2 6, 1, .inr (.inr (.inr (.inl og))))), (o, .inl (G.2 5, 1, .inr (.inl of2_4179)))] ++ (WM ++ (W2_4180 ++ []))) := segs_perm2 [[(oD, .inl (G.2 6, 1, .inr (.inr (.inr (.inl og)))))], WM] [[(o, .inl (G.2 5, 1, .inr (.inl of2_4179)))], W2_4180] [0, 2, 1, 3] rfl
  have hP : va_P G.1 CL ([(oD, .inl (G.2 6, 1, .inr (.inr (.inr (.inl og))))), (o, .inl (G.2 5, 1, .inr (.inl of2_4179)))] ++ (WM ++ (W2_4180 ++ []))) H := P_perm hpm_4184 hP
  have hD : va_D A ([(oD, .inl (G.2 6, 1, .inr (.inr (.inr (.inl og))))), (o, .inl (G.2 5, 1, .inr (.inl of2_4179)))] ++ (WM ++ (W2_4180 ++ []))) := D_perm hpm_4184 hD
  refine W.eq (g2 := F0 m 1418 ls [.int (nI ((q_loadOf (dC C) (sx9 xs (i9 + 1))).1))]) rfl ?_
  have hqs : (q_loadOf (dC M) id) = (q_loadOf (dC C) (sx9 xs (i9 + 1))) := q_loadOf_sim hLw.1.symm hIm (sx9 xs (i9 + 1))
  refine lv_istore (lv' := [(6, .int (nI ((q_loadOf (dC C) (sx9 xs (i9 + 1))).1))), (0, .ref b), (1, .ref d), (2, .ref m0), (3, .ref o), (4, .ref oD), (5, .int (nI i9))]) hx hb dL_law_1418 hl (by decide) rfl (fun ls hl => ?_)
  refine lv_aload_n hx hb dL_law_1420 rfl (lv_at hl 3 rfl) ?_
  refine lv_aload_n hx hb dL_law_1421 rfl (lv_at hl 1 rfl) ?_
  refine lv_iload hx hb dL_law_1422 (lv_at hl 6 rfl) ?_
  refine lv_iconst (v := nI 1) hx hb dL_law_1424 (by decide) ?_
  refine lv_iadd hx hb dL_law_1425 ?_
  refine lv_ton (n := i9 + 1) (nadd (by omega)) ?_
  refine va_sld hx hb hX9 hbl hbA hS (i := nI (i9 + 1)) (vp9 (by omega) hL96) dL_law_1426 ?_
  refine W.eq (g2 := F0 m 1427 ls [.int (sx9 xs (i9 + 1)), .ref m0]) rfl ?_
  have hpm_4185 : (([(oD, .inl (G.2 6, 1, .inr (.inr (.inr (.inl og))))), (o, .inl (G.2 5, 1, .inr (.inl of2_4179)))] ++ (WM ++ (W2_4180 ++ []))) : va_W).Perm ((WM ++ []) ++ ([(oD, .inl (G.2 6, 1, .inr (.inr (.inr (.inl og))))), (o, .inl (G.2 5, 1, .inr (.inl of2_4179)))] ++ (W2_4180 ++ []))) := segs_perm [[(oD, .inl (G.2 6, 1, .inr (.inr (.inr (.inl og)))))], [(o, .inl (G.2 5, 1, .inr (.inl of2_4179)))], WM, W2_4180] [2] [0, 1, 3] rfl
  have hF := hF_ofP (wc := (WM ++ [])) hD hS hA hpm_4185
  refine go_ctP hS hP hD hpm_4185 hF
      (va_runV (As := [.int (sx9 xs (i9 + 1))]) (rest := []) cf (eX4_loadOf l G m0 M th WM (sx9 xs (i9 + 1)) (hMd) (hIm) H.size) (cwV 1 hts (lw_V q1787 q1788 q1789 q58 q1790) rfl rfl rfl (by decide +kernel) ⟨Nat.le_of_ble_eq_true rfl, Nat.le_of_ble_eq_true rfl⟩) (preV_of hKB hE hS hF (MdW.recv hK hMd (seg_at [[(oD, .inl (G.2 6, 1, .inr (.inr (.inr (.inl og)))))], [(o, .inl (G.2 5, 1, .inr (.inl of2_4179)))], WM, W2_4180] 2 rfl hP)) (P_left (P_perm hpm_4185 hP)) ((D_left (D_perm hpm_4185 hD)).weaken (fun _ _ _ _ => trivial)) trivial) rfl rfl hl.1 rfl (lv_room (Nat.le_of_ble_eq_true rfl)) dL_law_1427 ⟨show cl + 3 + 0 ≤ 1200144 from by first | decide | omega, show sl + 12 + 0 ≤ 5495674 from by first | decide | omega⟩)
      (fun u_ H locs hq hph (hP : va_P G.1 CL (([(oD, .inl (G.2 6, 1, .inr (.inr (.inr (.inl og))))), (o, .inl (G.2 5, 1, .inr (.inl of2_4179)))] ++ (W2_4180 ++ [])) ++ (u_.2 ++ [])) H) (hD : va_D A (([(oD, .inl (G.2 6, 1, .inr (.inr (.inr (.inl og))))), (o, .inl (G.2 5, 1, .inr (.inl of2_4179)))] ++ (W2_4180 ++ [])) ++ (u_.2 ++ []))) hS hfz hfk => ?_)
  obtain ⟨rr_4186, W2_4187⟩ := u_
  obtain ⟨hq_4188, hq_4189⟩ : ((q_loadOf (dC M) (sx9 xs (i9 + 1))).1 = 0 → rr_4186 = (q_loadOf (dC M) (sx9 xs (i9 + 1))).2) ∧ MdW G m0 M (q_loadOf (dC M) (sx9 xs (i9 + 1))).1 W2_4187 := hq
  have hpm_4190 : (([(oD, .inl (G.2 6, 1, .inr (.inr (.inr (.inl og))))), (o, .inl (G.2 5, 1, .inr (.inl of2_4179)))] ++ (W2_4180 ++ [])) ++ (W2_4187 ++ []) : va_W).Perm ([(oD, .inl (G.2 6, 1, .inr (.inr (.inr (.inl og))))), (o, .inl (G.2 5, 1, .inr (.inl of2_4179)))] ++ (W2_4180 ++ (W2_4187 ++ []))) := segs_perm2 [[(oD, .inl (G.2 6, 1, .inr (.inr (.inr (.inl og)))))], [(o, .inl (G.2 5, 1, .inr (.inl of2_4179)))], W2_4180] [W2_4187] [0, 1, 2, 3] rfl
  have hP : va_P G.1 CL ([(oD, .inl (G.2 6, 1, .inr (.inr (.inr (.inl og))))), (o, .inl (G.2 5, 1, .inr (.inl of2_4179)))] ++ (W2_4180 ++ (W2_4187 ++ []))) H := P_perm hpm_4190 hP
  have hD : va_D A ([(oD, .inl (G.2 6, 1, .inr (.inr (.inr (.inl og))))), (o, .inl (G.2 5, 1, .inr (.inl of2_4179)))] ++ (W2_4180 ++ (W2_4187 ++ []))) := D_perm hpm_4190 hD
  refine W.eq (g2 := F0 m 1430 ls [.int rr_4186]) rfl ?_
  refine lv_istore (lv' := [(7, .int rr_4186), (6, .int (nI ((q_loadOf (dC C) (sx9 xs (i9 + 1))).1))), (0, .ref b), (1, .ref d), (2, .ref m0), (3, .ref o), (4, .ref oD), (5, .int (nI i9))]) hx hb dL_law_1430 hl (by decide) rfl (fun ls hl => ?_)
  refine lv_aload_n hx hb dL_law_1432 rfl (lv_at hl 4 rfl) ?_
  have hpm_4191 : (([(oD, .inl (G.2 6, 1, .inr (.inr (.inr (.inl og))))), (o, .inl (G.2 5, 1, .inr (.inl of2_4179)))] ++ (W2_4180 ++ (W2_4187 ++ []))) : va_W).Perm ([] ++ ([(oD, .inl (G.2 6, 1, .inr (.inr (.inr (.inl og))))), (o, .inl (G.2 5, 1, .inr (.inl of2_4179)))] ++ (W2_4180 ++ (W2_4187 ++ [])))) := segs_perm [[(oD, .inl (G.2 6, 1, .inr (.inr (.inr (.inl og)))))], [(o, .inl (G.2 5, 1, .inr (.inl of2_4179)))], W2_4180, W2_4187] [] [0, 1, 2, 3] rfl
  have hF := hF_ofP (wc := []) hD hS hA hpm_4191
  refine go_ctP hS hP hD hpm_4191 hF
      (va_runV (As := []) (rest := []) cf (eX4_thrown l G m0 M (((q_loadOf (dC M) id)).1) W2_4187 (hq_4189) H.size) (cwV 0 hts (lw_V q1639 q1640 q1641 q58 q1642) rfl rfl rfl (by decide +kernel) ⟨Nat.le_of_ble_eq_true rfl, Nat.le_of_ble_eq_true rfl⟩) (preV_of hKB hE hS hF (MdW.recv hK hq_4189 (seg_at [[(oD, .inl (G.2 6, 1, .inr (.inr (.inr (.inl og)))))], [(o, .inl (G.2 5, 1, .inr (.inl of2_4179)))], W2_4180, W2_4187] 3 rfl hP)) (P_left (P_perm hpm_4191 hP)) ((D_left (D_perm hpm_4191 hD)).weaken (fun _ _ _ _ => trivial)) (roW.nil (seg_at [[(oD, .inl (G.2 6, 1, .inr (.inr (.inr (.inl og)))))], [(o, .inl (G.2 5, 1, .inr (.inl of2_4179)))], W2_4180, W2_4187] 3 rfl hP))) rfl rfl hl.1 rfl (lv_room (Nat.le_of_ble_eq_true rfl)) dL_law_1433 ⟨show cl + 3 + 0 ≤ 1200144 from by first | decide | omega, show sl + 12 + 0 ≤ 5495674 from by first | decide | omega⟩)
      (fun u_ H locs hq hph (hP : va_P G.1 CL (([(oD, .inl (G.2 6, 1, .inr (.inr (.inr (.inl og))))), (o, .inl (G.2 5, 1, .inr (.inl of2_4179)))] ++ (W2_4180 ++ (W2_4187 ++ []))) ++ []) H) (hD : va_D A (([(oD, .inl (G.2 6, 1, .inr (.inr (.inr (.inl og))))), (o, .inl (G.2 5, 1, .inr (.inl of2_4179)))] ++ (W2_4180 ++ (W2_4187 ++ []))) ++ [])) hS hfz hfk => ?_)
  have hpm_4192 : (([(oD, .inl (G.2 6, 1, .inr (.inr (.inr (.inl og))))), (o, .inl (G.2 5, 1, .inr (.inl of2_4179)))] ++ (W2_4180 ++ (W2_4187 ++ []))) ++ [] : va_W).Perm ([(oD, .inl (G.2 6, 1, .inr (.inr (.inr (.inl og))))), (o, .inl (G.2 5, 1, .inr (.inl of2_4179)))] ++ (W2_4180 ++ (W2_4187 ++ []))) := segs_perm2 [[(oD, .inl (G.2 6, 1, .inr (.inr (.inr (.inl og)))))], [(o, .inl (G.2 5, 1, .inr (.inl of2_4179)))], W2_4180, W2_4187] [] [0, 1, 2, 3] rfl
  have hP : va_P G.1 CL ([(oD, .inl (G.2 6, 1, .inr (.inr (.inr (.inl og))))), (o, .inl (G.2 5, 1, .inr (.inl of2_4179)))] ++ (W2_4180 ++ (W2_4187 ++ []))) H := P_perm hpm_4192 hP
  have hD : va_D A ([(oD, .inl (G.2 6, 1, .inr (.inr (.inr (.inl og))))), (o, .inl (G.2 5, 1, .inr (.inl of2_4179)))] ++ (W2_4180 ++ (W2_4187 ++ []))) := D_perm hpm_4192 hD
  refine W.eq (g2 := F0 m 1436 ls [.int (nI (((q_loadOf (dC M) id)).1))]) rfl ?_
  refine lv_ton (n := ((q_loadOf (dC C) (sx9 xs (i9 + 1))).1)) (congrArg nI (by rw [hqs])) ?_
  refine lv_iload hx hb dL_law_1436 (lv_at hl 1 rfl) ?_
  refine lv_icmp_eq (tgt := 1443) hx hb dL_law_1438 (by decide) (fun _ => ?_) (fun c9 => absurd rfl c9)
  refine lv_iload hx hb dL_law_1443 (lv_at hl 1 rfl) ?_
  refine n_if_ne (tgt := 1460) hx hb (by omega) dL_law_1445 (by decide) (fun c_4193 => ?_) (fun c_4193 => ?_)
  · refine lv_goto (tgt := 2788) hx hb dL_law_1460 (by decide) ?_
    have hpm_4194 : (([(oD, .inl (G.2 6, 1, .inr (.inr (.inr (.inl og))))), (o, .inl (G.2 5, 1, .inr (.inl of2_4179)))] ++ (W2_4180 ++ (W2_4187 ++ []))) : va_W).Perm (([(o, .inl (G.2 5, 1, .inr (.inl of2_4179))), (oD, .inl (G.2 6, 1, .inr (.inr (.inr (.inl og)))))] ++ (W2_4180 ++ (W2_4187 ++ []))) ++ []) := segs_perm [[(oD, .inl (G.2 6, 1, .inr (.inr (.inr (.inl og)))))], [(o, .inl (G.2 5, 1, .inr (.inl of2_4179)))], W2_4180, W2_4187] [1, 0, 2, 3] [] rfl
    have hP : va_P G.1 CL ([(o, .inl (G.2 5, 1, .inr (.inl of2_4179))), (oD, .inl (G.2 6, 1, .inr (.inr (.inr (.inl og)))))] ++ (W2_4180 ++ (W2_4187 ++ []))) H := P_left (P_perm hpm_4194 hP)
    have hD : va_D A ([(o, .inl (G.2 5, 1, .inr (.inl of2_4179))), (oD, .inl (G.2 6, 1, .inr (.inr (.inr (.inl og)))))] ++ (W2_4180 ++ (W2_4187 ++ []))) := D_left (D_perm hpm_4194 hD)
    have hl := lv_sub hl [2, 3, 4, 5, 6, 7] (l' := [(0, .ref b), (1, .ref d), (2, .ref m0), (3, .ref o), (4, .ref oD), (5, .int (nI i9))]) rfl
    exact W.widen (show cl + 3 ≤ cl + 20000 from by omega) (show sl + 12 ≤ sl + 45000 from by omega) (kk ls H locs C M (((q_loadOf (dC M) id)).1) W2_4180 W2_4187 of2_4179 og hP hD hS hl hq_4183 hq_4189 hLw.up)
  · refine lv_aload_n hx hb dL_law_1448 rfl (lv_at hl 5 rfl) ?_
    refine lv_iconst (v := nI 0) hx hb dL_law_1449 (by decide) ?_
    refine r_lald (v := (((q_loadOf (dC C) (sx9 xs (i9 + 1)))).2).toInt64) hx hb hK hP 1 5 rfl rfl (i := 0) (by omega) (by omega) ((hq_4181 (by omega))) dL_law_1450 ?_
    refine lv_iload hx hb dL_law_1451 (lv_at hl 0 rfl) ?_
    refine lv_toi (y := ((q_loadOf (dC C) (sx9 xs (i9 + 1)))).2) ((hq_4188 (by rw [hqs]; omega)).trans (by rw [hqs])) ?_
    refine lv_i2l (v := (((q_loadOf (dC C) (sx9 xs (i9 + 1)))).2).toInt64) hx hb dL_law_1453 rfl ?_
    refine W.lcmp hx hb dL_law_1454 ?_
    refine lv_ton (n := 0) (lcmp0 _) ?_
    refine n_if_eq (tgt := 1460) hx hb (by omega) dL_law_1455 (by decide) (fun c_4195 => ?_) (fun c_4195 => absurd c_4195 (by omega))
    refine lv_goto (tgt := 2788) hx hb dL_law_1460 (by decide) ?_
    have hpm_4196 : (([(oD, .inl (G.2 6, 1, .inr (.inr (.inr (.inl og))))), (o, .inl (G.2 5, 1, .inr (.inl of2_4179)))] ++ (W2_4180 ++ (W2_4187 ++ []))) : va_W).Perm (([(o, .inl (G.2 5, 1, .inr (.inl of2_4179))), (oD, .inl (G.2 6, 1, .inr (.inr (.inr (.inl og)))))] ++ (W2_4180 ++ (W2_4187 ++ []))) ++ []) := segs_perm [[(oD, .inl (G.2 6, 1, .inr (.inr (.inr (.inl og)))))], [(o, .inl (G.2 5, 1, .inr (.inl of2_4179)))], W2_4180, W2_4187] [1, 0, 2, 3] [] rfl
    have hP : va_P G.1 CL ([(o, .inl (G.2 5, 1, .inr (.inl of2_4179))), (oD, .inl (G.2 6, 1, .inr (.inr (.inr (.inl og)))))] ++ (W2_4180 ++ (W2_4187 ++ []))) H := P_left (P_perm hpm_4196 hP)
    have hD : va_D A ([(o, .inl (G.2 5, 1, .inr (.inl of2_4179))), (oD, .inl (G.2 6, 1, .inr (.inr (.inr (.inl og)))))] ++ (W2_4180 ++ (W2_4187 ++ []))) := D_left (D_perm hpm_4196 hD)
    have hl := lv_sub hl [2, 3, 4, 5, 6, 7] (l' := [(0, .ref b), (1, .ref d), (2, .ref m0), (3, .ref o), (4, .ref oD), (5, .int (nI i9))]) rfl
    exact W.widen (show cl + 3 ≤ cl + 20000 from by omega) (show sl + 12 ≤ sl + 45000 from by omega) (kk ls H locs C M (((q_loadOf (dC M) id)).1) W2_4180 W2_4187 of2_4179 og hP hD hS hl hq_4183 hq_4189 hLw.up)

set_option maxHeartbeats 4000000 in
theorem lawK_22 {p : Program} {l : Launch} {e : Env} {s : State} {m : MethodId} {below : List Frame} {meth : Method} {c : Code} {G : Gt} {A : Nat → Prop} {b L : Nat} {xs : Nat → Int32} {Q : State → Prop} {d m0 o oD i9 N cl sl : Nat} (hfl : l.stackTraces = false) (F : LwF G A p s m c b L xs) (hi9 : i9 + 4 ≤ L) (hN24 : N ≤ 24) (hcl : cl + 20000 ≤ 1200144) (hsl : sl + 45000 ≤ 5495674) (kk : ∀ (ls : Array Slot) (H : Heap) (locs : List Loc) (C M : DS) (th : Nat) (WD WM : va_W) (of : Nat → Int64) (og : Nat → UInt64), va_P G.1 CL ([(o, .inl (G.2 5, 1, .inr (.inl of))), (oD, .inl (G.2 6, 1, .inr (.inr (.inr (.inl og)))))] ++ (WD ++ (WM ++ []))) H → va_D A ([(o, .inl (G.2 5, 1, .inr (.inl of))), (oD, .inl (G.2 6, 1, .inr (.inr (.inr (.inl og)))))] ++ (WD ++ (WM ++ []))) → va_S A s.heap H locs → lv_has ls 10 [(0, .ref b), (1, .ref d), (2, .ref m0), (3, .ref o), (4, .ref oD), (5, .int (nI i9))] → DyW G d C WD → MdW G m0 M th WM → LawI C M (N + 1) → W p l e room_1 s m #[Value.ref b] below meth c H locs (cl + 20000) (sl + 45000) Q (F0 m 2788 ls [])) {ls : Array Slot} {H : Heap} {locs : List Loc} {C M : DS} {th : Nat} {WD WM : va_W} {of : Nat → Int64} {og : Nat → UInt64} (hP : va_P G.1 CL ([(o, .inl (G.2 5, 1, .inr (.inl of))), (oD, .inl (G.2 6, 1, .inr (.inr (.inr (.inl og)))))] ++ (WD ++ (WM ++ []))) H) (hD : va_D A ([(o, .inl (G.2 5, 1, .inr (.inl of))), (oD, .inl (G.2 6, 1, .inr (.inr (.inr (.inl og)))))] ++ (WD ++ (WM ++ [])))) (hS : va_S A s.heap H locs) (hl : lv_has ls 10 [(0, .ref b), (1, .ref d), (2, .ref m0), (3, .ref o), (4, .ref oD), (5, .int (nI i9))]) (hDy : DyW G d C WD) (hMd : MdW G m0 M th WM) (hLw : LawI C M N) : W p l e room_1 s m #[Value.ref b] below meth c H locs cl sl Q (F0 m 1463 ls []) := by
  obtain ⟨cf, hKB, hE, hA, hX9, hbl, hbA, hNc, hL96⟩ := F
  have hx := cf.1
  have hb := cf.2.1
  have hml := cf.2.2.1
  have hown : s.vm.findClass RX0 = some m.cls := cf.2.2.2.1
  have hts := cf.2.2.2.2
  have hK := hKB.1
  have hIc := hDy.inv.1
  have hIm : Inv (dC M) := Inv_sim hLw.1 hIc
  have hRk : RkOk (dC M) := RkOk_sim hLw.1 (RkOk_srt hDy.inv.2.2)
  have hl := hl
  refine lv_aload_n hx hb dL_law_1463 rfl (lv_at hl 1 rfl) ?_
  refine lv_aload_n hx hb dL_law_1464 rfl (lv_at hl 0 rfl) ?_
  refine lv_iload hx hb dL_law_1465 (lv_at hl 5 rfl) ?_
  refine lv_iconst (v := nI 1) hx hb dL_law_1467 (by decide) ?_
  refine lv_iadd hx hb dL_law_1468 ?_
  refine lv_ton (n := i9 + 1) (nadd (by omega)) ?_
  refine va_sld hx hb hX9 hbl hbA hS (i := nI (i9 + 1)) (vp9 (by omega) hL96) dL_law_1469 ?_
  refine W.eq (g2 := F0 m 1470 ls [.int (sx9 xs (i9 + 1)), .ref d]) rfl ?_
  refine lv_aload_n hx hb dL_law_1470 rfl (lv_at hl 3 rfl) ?_
  have hpm_4197 : (([(o, .inl (G.2 5, 1, .inr (.inl of))), (oD, .inl (G.2 6, 1, .inr (.inr (.inr (.inl og)))))] ++ (WD ++ (WM ++ []))) : va_W).Perm (([(o, .inl (G.2 5, 1, .inr (.inl of)))] ++ (WD ++ [])) ++ ([(oD, .inl (G.2 6, 1, .inr (.inr (.inr (.inl og)))))] ++ (WM ++ []))) := segs_perm [[(o, .inl (G.2 5, 1, .inr (.inl of)))], [(oD, .inl (G.2 6, 1, .inr (.inr (.inr (.inl og)))))], WD, WM] [0, 2] [1, 3] rfl
  have hF := hF_ofP (wc := ([(o, .inl (G.2 5, 1, .inr (.inl of)))] ++ (WD ++ []))) hD hS hA hpm_4197
  refine go_ctP hS hP hD hpm_4197 hF
      (vx_runSW (As := [.ref d, .int (sx9 xs (i9 + 1)), .ref o]) (rest := []) cf (wX0_loadOn l G d C WD o of (sx9 xs (i9 + 1)) (hDy) hfl H.size) (vx_cwSW 3 hts (lw_SW q1264 q1265 q46 q1266) rfl rfl rfl (by decide +kernel) ⟨Nat.le_of_ble_eq_true rfl, Nat.le_of_ble_eq_true rfl⟩) (preS_ofW hNc hKB hE hS hF (P_left (P_perm hpm_4197 hP)) ((D_left (D_perm hpm_4197 hD)).weaken (fun _ _ _ _ => trivial)) trivial) rfl rfl hl.1 rfl (lv_room (Nat.le_of_ble_eq_true rfl)) dL_law_1471 ⟨show cl + 8300 ≤ 1200144 from by first | decide | omega, show sl + 17000 ≤ 5495674 from by first | decide | omega⟩)
      (fun u_ H locs hq hph (hP : va_P G.1 CL (([(oD, .inl (G.2 6, 1, .inr (.inr (.inr (.inl og)))))] ++ (WM ++ [])) ++ ([(o, .inl (G.2 5, 1, .inr (.inl u_.1)))] ++ (u_.2 ++ []))) H) (hD : va_D A (([(oD, .inl (G.2 6, 1, .inr (.inr (.inr (.inl og)))))] ++ (WM ++ [])) ++ ([(o, .inl (G.2 5, 1, .inr (.inl u_.1)))] ++ (u_.2 ++ [])))) hS hfz hfk => ?_)
  obtain ⟨of2_4198, W2_4199⟩ := u_
  obtain ⟨hq_4200, hq_4201, hq_4202⟩ : ((q_loadOn (dC C) (sx9 xs (i9 + 1))).1 = 0 → of2_4198 0 = ((q_loadOn (dC C) (sx9 xs (i9 + 1))).2).toInt64) ∧ (q_loadOn (dC C) (sx9 xs (i9 + 1))).1 < 10 ∧ DyW G d C W2_4199 := hq
  have hpm_4203 : (([(oD, .inl (G.2 6, 1, .inr (.inr (.inr (.inl og)))))] ++ (WM ++ [])) ++ ([(o, .inl (G.2 5, 1, .inr (.inl of2_4198)))] ++ (W2_4199 ++ [])) : va_W).Perm ([(oD, .inl (G.2 6, 1, .inr (.inr (.inr (.inl og))))), (o, .inl (G.2 5, 1, .inr (.inl of2_4198)))] ++ (WM ++ (W2_4199 ++ []))) := segs_perm2 [[(oD, .inl (G.2 6, 1, .inr (.inr (.inr (.inl og)))))], WM] [[(o, .inl (G.2 5, 1, .inr (.inl of2_4198)))], W2_4199] [0, 2, 1, 3] rfl
  have hP : va_P G.1 CL ([(oD, .inl (G.2 6, 1, .inr (.inr (.inr (.inl og))))), (o, .inl (G.2 5, 1, .inr (.inl of2_4198)))] ++ (WM ++ (W2_4199 ++ []))) H := P_perm hpm_4203 hP
  have hD : va_D A ([(oD, .inl (G.2 6, 1, .inr (.inr (.inr (.inl og))))), (o, .inl (G.2 5, 1, .inr (.inl of2_4198)))] ++ (WM ++ (W2_4199 ++ []))) := D_perm hpm_4203 hD
  refine W.eq (g2 := F0 m 1474 ls [.int (nI ((q_loadOn (dC C) (sx9 xs (i9 + 1))).1))]) rfl ?_
  have hqs : (q_loadOn (dC M) (sx9 xs (i9 + 1))) = (q_loadOn (dC C) (sx9 xs (i9 + 1))) := q_loadOn_sim hLw.1.symm hIm (sx9 xs (i9 + 1))
  refine lv_istore (lv' := [(6, .int (nI ((q_loadOn (dC C) (sx9 xs (i9 + 1))).1))), (0, .ref b), (1, .ref d), (2, .ref m0), (3, .ref o), (4, .ref oD), (5, .int (nI i9))]) hx hb dL_law_1474 hl (by decide) rfl (fun ls hl => ?_)
  refine lv_aload_n hx hb dL_law_1476 rfl (lv_at hl 3 rfl) ?_
  refine lv_aload_n hx hb dL_law_1477 rfl (lv_at hl 1 rfl) ?_
  refine lv_iload hx hb dL_law_1478 (lv_at hl 6 rfl) ?_
  refine lv_iconst (v := nI 1) hx hb dL_law_1480 (by decide) ?_
  refine lv_iadd hx hb dL_law_1481 ?_
  refine lv_ton (n := i9 + 1) (nadd (by omega)) ?_
  refine va_sld hx hb hX9 hbl hbA hS (i := nI (i9 + 1)) (vp9 (by omega) hL96) dL_law_1482 ?_
  refine W.eq (g2 := F0 m 1483 ls [.int (sx9 xs (i9 + 1)), .ref m0]) rfl ?_
  have hpm_4204 : (([(oD, .inl (G.2 6, 1, .inr (.inr (.inr (.inl og))))), (o, .inl (G.2 5, 1, .inr (.inl of2_4198)))] ++ (WM ++ (W2_4199 ++ []))) : va_W).Perm ((WM ++ []) ++ ([(oD, .inl (G.2 6, 1, .inr (.inr (.inr (.inl og))))), (o, .inl (G.2 5, 1, .inr (.inl of2_4198)))] ++ (W2_4199 ++ []))) := segs_perm [[(oD, .inl (G.2 6, 1, .inr (.inr (.inr (.inl og)))))], [(o, .inl (G.2 5, 1, .inr (.inl of2_4198)))], WM, W2_4199] [2] [0, 1, 3] rfl
  have hF := hF_ofP (wc := (WM ++ [])) hD hS hA hpm_4204
  refine go_ctP hS hP hD hpm_4204 hF
      (va_runV (As := [.int (sx9 xs (i9 + 1))]) (rest := []) cf (eX4_loadOn l G m0 M th WM (sx9 xs (i9 + 1)) (hMd) (hIm) H.size) (cwV 1 hts (lw_V q1791 q1792 q1793 q58 q1794) rfl rfl rfl (by decide +kernel) ⟨Nat.le_of_ble_eq_true rfl, Nat.le_of_ble_eq_true rfl⟩) (preV_of hKB hE hS hF (MdW.recv hK hMd (seg_at [[(oD, .inl (G.2 6, 1, .inr (.inr (.inr (.inl og)))))], [(o, .inl (G.2 5, 1, .inr (.inl of2_4198)))], WM, W2_4199] 2 rfl hP)) (P_left (P_perm hpm_4204 hP)) ((D_left (D_perm hpm_4204 hD)).weaken (fun _ _ _ _ => trivial)) trivial) rfl rfl hl.1 rfl (lv_room (Nat.le_of_ble_eq_true rfl)) dL_law_1483 ⟨show cl + 8300 + 0 ≤ 1200144 from by first | decide | omega, show sl + 17000 + 0 ≤ 5495674 from by first | decide | omega⟩)
      (fun u_ H locs hq hph (hP : va_P G.1 CL (([(oD, .inl (G.2 6, 1, .inr (.inr (.inr (.inl og))))), (o, .inl (G.2 5, 1, .inr (.inl of2_4198)))] ++ (W2_4199 ++ [])) ++ (u_.2 ++ [])) H) (hD : va_D A (([(oD, .inl (G.2 6, 1, .inr (.inr (.inr (.inl og))))), (o, .inl (G.2 5, 1, .inr (.inl of2_4198)))] ++ (W2_4199 ++ [])) ++ (u_.2 ++ []))) hS hfz hfk => ?_)
  obtain ⟨rr_4205, W2_4206⟩ := u_
  obtain ⟨hq_4207, hq_4208⟩ : ((q_loadOn (dC M) (sx9 xs (i9 + 1))).1 = 0 → rr_4205 = (q_loadOn (dC M) (sx9 xs (i9 + 1))).2) ∧ MdW G m0 M (q_loadOn (dC M) (sx9 xs (i9 + 1))).1 W2_4206 := hq
  have hpm_4209 : (([(oD, .inl (G.2 6, 1, .inr (.inr (.inr (.inl og))))), (o, .inl (G.2 5, 1, .inr (.inl of2_4198)))] ++ (W2_4199 ++ [])) ++ (W2_4206 ++ []) : va_W).Perm ([(oD, .inl (G.2 6, 1, .inr (.inr (.inr (.inl og))))), (o, .inl (G.2 5, 1, .inr (.inl of2_4198)))] ++ (W2_4199 ++ (W2_4206 ++ []))) := segs_perm2 [[(oD, .inl (G.2 6, 1, .inr (.inr (.inr (.inl og)))))], [(o, .inl (G.2 5, 1, .inr (.inl of2_4198)))], W2_4199] [W2_4206] [0, 1, 2, 3] rfl
  have hP : va_P G.1 CL ([(oD, .inl (G.2 6, 1, .inr (.inr (.inr (.inl og))))), (o, .inl (G.2 5, 1, .inr (.inl of2_4198)))] ++ (W2_4199 ++ (W2_4206 ++ []))) H := P_perm hpm_4209 hP
  have hD : va_D A ([(oD, .inl (G.2 6, 1, .inr (.inr (.inr (.inl og))))), (o, .inl (G.2 5, 1, .inr (.inl of2_4198)))] ++ (W2_4199 ++ (W2_4206 ++ []))) := D_perm hpm_4209 hD
  refine W.eq (g2 := F0 m 1486 ls [.int rr_4205]) rfl ?_
  refine lv_istore (lv' := [(7, .int rr_4205), (6, .int (nI ((q_loadOn (dC C) (sx9 xs (i9 + 1))).1))), (0, .ref b), (1, .ref d), (2, .ref m0), (3, .ref o), (4, .ref oD), (5, .int (nI i9))]) hx hb dL_law_1486 hl (by decide) rfl (fun ls hl => ?_)
  refine lv_aload_n hx hb dL_law_1488 rfl (lv_at hl 4 rfl) ?_
  have hpm_4210 : (([(oD, .inl (G.2 6, 1, .inr (.inr (.inr (.inl og))))), (o, .inl (G.2 5, 1, .inr (.inl of2_4198)))] ++ (W2_4199 ++ (W2_4206 ++ []))) : va_W).Perm ([] ++ ([(oD, .inl (G.2 6, 1, .inr (.inr (.inr (.inl og))))), (o, .inl (G.2 5, 1, .inr (.inl of2_4198)))] ++ (W2_4199 ++ (W2_4206 ++ [])))) := segs_perm [[(oD, .inl (G.2 6, 1, .inr (.inr (.inr (.inl og)))))], [(o, .inl (G.2 5, 1, .inr (.inl of2_4198)))], W2_4199, W2_4206] [] [0, 1, 2, 3] rfl
  have hF := hF_ofP (wc := []) hD hS hA hpm_4210
  refine go_ctP hS hP hD hpm_4210 hF
      (va_runV (As := []) (rest := []) cf (eX4_thrown l G m0 M (((q_loadOn (dC M) (sx9 xs (i9 + 1)))).1) W2_4206 (hq_4208) H.size) (cwV 0 hts (lw_V q1639 q1640 q1641 q58 q1642) rfl rfl rfl (by decide +kernel) ⟨Nat.le_of_ble_eq_true rfl, Nat.le_of_ble_eq_true rfl⟩) (preV_of hKB hE hS hF (MdW.recv hK hq_4208 (seg_at [[(oD, .inl (G.2 6, 1, .inr (.inr (.inr (.inl og)))))], [(o, .inl (G.2 5, 1, .inr (.inl of2_4198)))], W2_4199, W2_4206] 3 rfl hP)) (P_left (P_perm hpm_4210 hP)) ((D_left (D_perm hpm_4210 hD)).weaken (fun _ _ _ _ => trivial)) (roW.nil (seg_at [[(oD, .inl (G.2 6, 1, .inr (.inr (.inr (.inl og)))))], [(o, .inl (G.2 5, 1, .inr (.inl of2_4198)))], W2_4199, W2_4206] 3 rfl hP))) rfl rfl hl.1 rfl (lv_room (Nat.le_of_ble_eq_true rfl)) dL_law_1489 ⟨show cl + 8300 + 0 ≤ 1200144 from by first | decide | omega, show sl + 17000 + 0 ≤ 5495674 from by first | decide | omega⟩)
      (fun u_ H locs hq hph (hP : va_P G.1 CL (([(oD, .inl (G.2 6, 1, .inr (.inr (.inr (.inl og))))), (o, .inl (G.2 5, 1, .inr (.inl of2_4198)))] ++ (W2_4199 ++ (W2_4206 ++ []))) ++ []) H) (hD : va_D A (([(oD, .inl (G.2 6, 1, .inr (.inr (.inr (.inl og))))), (o, .inl (G.2 5, 1, .inr (.inl of2_4198)))] ++ (W2_4199 ++ (W2_4206 ++ []))) ++ [])) hS hfz hfk => ?_)
  have hpm_4211 : (([(oD, .inl (G.2 6, 1, .inr (.inr (.inr (.inl og))))), (o, .inl (G.2 5, 1, .inr (.inl of2_4198)))] ++ (W2_4199 ++ (W2_4206 ++ []))) ++ [] : va_W).Perm ([(oD, .inl (G.2 6, 1, .inr (.inr (.inr (.inl og))))), (o, .inl (G.2 5, 1, .inr (.inl of2_4198)))] ++ (W2_4199 ++ (W2_4206 ++ []))) := segs_perm2 [[(oD, .inl (G.2 6, 1, .inr (.inr (.inr (.inl og)))))], [(o, .inl (G.2 5, 1, .inr (.inl of2_4198)))], W2_4199, W2_4206] [] [0, 1, 2, 3] rfl
  have hP : va_P G.1 CL ([(oD, .inl (G.2 6, 1, .inr (.inr (.inr (.inl og))))), (o, .inl (G.2 5, 1, .inr (.inl of2_4198)))] ++ (W2_4199 ++ (W2_4206 ++ []))) H := P_perm hpm_4211 hP
  have hD : va_D A ([(oD, .inl (G.2 6, 1, .inr (.inr (.inr (.inl og))))), (o, .inl (G.2 5, 1, .inr (.inl of2_4198)))] ++ (W2_4199 ++ (W2_4206 ++ []))) := D_perm hpm_4211 hD
  refine W.eq (g2 := F0 m 1492 ls [.int (nI (((q_loadOn (dC M) (sx9 xs (i9 + 1)))).1))]) rfl ?_
  refine lv_ton (n := ((q_loadOn (dC C) (sx9 xs (i9 + 1))).1)) (congrArg nI (by rw [hqs])) ?_
  refine lv_iload hx hb dL_law_1492 (lv_at hl 1 rfl) ?_
  refine lv_icmp_eq (tgt := 1499) hx hb dL_law_1494 (by decide) (fun _ => ?_) (fun c9 => absurd rfl c9)
  refine lv_iload hx hb dL_law_1499 (lv_at hl 1 rfl) ?_
  refine n_if_ne (tgt := 1516) hx hb (by omega) dL_law_1501 (by decide) (fun c_4212 => ?_) (fun c_4212 => ?_)
  · refine lv_goto (tgt := 2788) hx hb dL_law_1516 (by decide) ?_
    have hpm_4213 : (([(oD, .inl (G.2 6, 1, .inr (.inr (.inr (.inl og))))), (o, .inl (G.2 5, 1, .inr (.inl of2_4198)))] ++ (W2_4199 ++ (W2_4206 ++ []))) : va_W).Perm (([(o, .inl (G.2 5, 1, .inr (.inl of2_4198))), (oD, .inl (G.2 6, 1, .inr (.inr (.inr (.inl og)))))] ++ (W2_4199 ++ (W2_4206 ++ []))) ++ []) := segs_perm [[(oD, .inl (G.2 6, 1, .inr (.inr (.inr (.inl og)))))], [(o, .inl (G.2 5, 1, .inr (.inl of2_4198)))], W2_4199, W2_4206] [1, 0, 2, 3] [] rfl
    have hP : va_P G.1 CL ([(o, .inl (G.2 5, 1, .inr (.inl of2_4198))), (oD, .inl (G.2 6, 1, .inr (.inr (.inr (.inl og)))))] ++ (W2_4199 ++ (W2_4206 ++ []))) H := P_left (P_perm hpm_4213 hP)
    have hD : va_D A ([(o, .inl (G.2 5, 1, .inr (.inl of2_4198))), (oD, .inl (G.2 6, 1, .inr (.inr (.inr (.inl og)))))] ++ (W2_4199 ++ (W2_4206 ++ []))) := D_left (D_perm hpm_4213 hD)
    have hl := lv_sub hl [2, 3, 4, 5, 6, 7] (l' := [(0, .ref b), (1, .ref d), (2, .ref m0), (3, .ref o), (4, .ref oD), (5, .int (nI i9))]) rfl
    exact W.widen (show cl + 8300 ≤ cl + 20000 from by omega) (show sl + 17000 ≤ sl + 45000 from by omega) (kk ls H locs C M (((q_loadOn (dC M) (sx9 xs (i9 + 1)))).1) W2_4199 W2_4206 of2_4198 og hP hD hS hl hq_4202 hq_4208 hLw.up)
  · refine lv_aload_n hx hb dL_law_1504 rfl (lv_at hl 5 rfl) ?_
    refine lv_iconst (v := nI 0) hx hb dL_law_1505 (by decide) ?_
    refine r_lald (v := (((q_loadOn (dC C) (sx9 xs (i9 + 1)))).2).toInt64) hx hb hK hP 1 5 rfl rfl (i := 0) (by omega) (by omega) ((hq_4200 (by omega))) dL_law_1506 ?_
    refine lv_iload hx hb dL_law_1507 (lv_at hl 0 rfl) ?_
    refine lv_toi (y := ((q_loadOn (dC C) (sx9 xs (i9 + 1)))).2) ((hq_4207 (by rw [hqs]; omega)).trans (by rw [hqs])) ?_
    refine lv_i2l (v := (((q_loadOn (dC C) (sx9 xs (i9 + 1)))).2).toInt64) hx hb dL_law_1509 rfl ?_
    refine W.lcmp hx hb dL_law_1510 ?_
    refine lv_ton (n := 0) (lcmp0 _) ?_
    refine n_if_eq (tgt := 1516) hx hb (by omega) dL_law_1511 (by decide) (fun c_4214 => ?_) (fun c_4214 => absurd c_4214 (by omega))
    refine lv_goto (tgt := 2788) hx hb dL_law_1516 (by decide) ?_
    have hpm_4215 : (([(oD, .inl (G.2 6, 1, .inr (.inr (.inr (.inl og))))), (o, .inl (G.2 5, 1, .inr (.inl of2_4198)))] ++ (W2_4199 ++ (W2_4206 ++ []))) : va_W).Perm (([(o, .inl (G.2 5, 1, .inr (.inl of2_4198))), (oD, .inl (G.2 6, 1, .inr (.inr (.inr (.inl og)))))] ++ (W2_4199 ++ (W2_4206 ++ []))) ++ []) := segs_perm [[(oD, .inl (G.2 6, 1, .inr (.inr (.inr (.inl og)))))], [(o, .inl (G.2 5, 1, .inr (.inl of2_4198)))], W2_4199, W2_4206] [1, 0, 2, 3] [] rfl
    have hP : va_P G.1 CL ([(o, .inl (G.2 5, 1, .inr (.inl of2_4198))), (oD, .inl (G.2 6, 1, .inr (.inr (.inr (.inl og)))))] ++ (W2_4199 ++ (W2_4206 ++ []))) H := P_left (P_perm hpm_4215 hP)
    have hD : va_D A ([(o, .inl (G.2 5, 1, .inr (.inl of2_4198))), (oD, .inl (G.2 6, 1, .inr (.inr (.inr (.inl og)))))] ++ (W2_4199 ++ (W2_4206 ++ []))) := D_left (D_perm hpm_4215 hD)
    have hl := lv_sub hl [2, 3, 4, 5, 6, 7] (l' := [(0, .ref b), (1, .ref d), (2, .ref m0), (3, .ref o), (4, .ref oD), (5, .int (nI i9))]) rfl
    exact W.widen (show cl + 8300 ≤ cl + 20000 from by omega) (show sl + 17000 ≤ sl + 45000 from by omega) (kk ls H locs C M (((q_loadOn (dC M) (sx9 xs (i9 + 1)))).1) W2_4199 W2_4206 of2_4198 og hP hD hS hl hq_4202 hq_4208 hLw.up)

set_option maxHeartbeats 4000000 in
theorem lawK_23 {p : Program} {l : Launch} {e : Env} {s : State} {m : MethodId} {below : List Frame} {meth : Method} {c : Code} {G : Gt} {A : Nat → Prop} {b L : Nat} {xs : Nat → Int32} {Q : State → Prop} {d m0 o oD i9 N cl sl : Nat} (hfl : l.stackTraces = false) (F : LwF G A p s m c b L xs) (hi9 : i9 + 4 ≤ L) (hN24 : N ≤ 24) (hcl : cl + 20000 ≤ 1200144) (hsl : sl + 45000 ≤ 5495674) (kk : ∀ (ls : Array Slot) (H : Heap) (locs : List Loc) (C M : DS) (th : Nat) (WD WM : va_W) (of : Nat → Int64) (og : Nat → UInt64), va_P G.1 CL ([(o, .inl (G.2 5, 1, .inr (.inl of))), (oD, .inl (G.2 6, 1, .inr (.inr (.inr (.inl og)))))] ++ (WD ++ (WM ++ []))) H → va_D A ([(o, .inl (G.2 5, 1, .inr (.inl of))), (oD, .inl (G.2 6, 1, .inr (.inr (.inr (.inl og)))))] ++ (WD ++ (WM ++ []))) → va_S A s.heap H locs → lv_has ls 10 [(0, .ref b), (1, .ref d), (2, .ref m0), (3, .ref o), (4, .ref oD), (5, .int (nI i9))] → DyW G d C WD → MdW G m0 M th WM → LawI C M (N + 1) → W p l e room_1 s m #[Value.ref b] below meth c H locs (cl + 20000) (sl + 45000) Q (F0 m 2788 ls [])) {ls : Array Slot} {H : Heap} {locs : List Loc} {C M : DS} {th : Nat} {WD WM : va_W} {of : Nat → Int64} {og : Nat → UInt64} (hP : va_P G.1 CL ([(o, .inl (G.2 5, 1, .inr (.inl of))), (oD, .inl (G.2 6, 1, .inr (.inr (.inr (.inl og)))))] ++ (WD ++ (WM ++ []))) H) (hD : va_D A ([(o, .inl (G.2 5, 1, .inr (.inl of))), (oD, .inl (G.2 6, 1, .inr (.inr (.inr (.inl og)))))] ++ (WD ++ (WM ++ [])))) (hS : va_S A s.heap H locs) (hl : lv_has ls 10 [(0, .ref b), (1, .ref d), (2, .ref m0), (3, .ref o), (4, .ref oD), (5, .int (nI i9))]) (hDy : DyW G d C WD) (hMd : MdW G m0 M th WM) (hLw : LawI C M N) : W p l e room_1 s m #[Value.ref b] below meth c H locs cl sl Q (F0 m 1519 ls []) := by
  obtain ⟨cf, hKB, hE, hA, hX9, hbl, hbA, hNc, hL96⟩ := F
  have hx := cf.1
  have hb := cf.2.1
  have hml := cf.2.2.1
  have hown : s.vm.findClass RX0 = some m.cls := cf.2.2.2.1
  have hts := cf.2.2.2.2
  have hK := hKB.1
  have hIc := hDy.inv.1
  have hIm : Inv (dC M) := Inv_sim hLw.1 hIc
  have hRk : RkOk (dC M) := RkOk_sim hLw.1 (RkOk_srt hDy.inv.2.2)
  have hl := hl
  refine lv_aload_n hx hb dL_law_1519 rfl (lv_at hl 1 rfl) ?_
  refine lv_aload_n hx hb dL_law_1520 rfl (lv_at hl 0 rfl) ?_
  refine lv_iload hx hb dL_law_1521 (lv_at hl 5 rfl) ?_
  refine lv_iconst (v := nI 1) hx hb dL_law_1523 (by decide) ?_
  refine lv_iadd hx hb dL_law_1524 ?_
  refine lv_ton (n := i9 + 1) (nadd (by omega)) ?_
  refine va_sld hx hb hX9 hbl hbA hS (i := nI (i9 + 1)) (vp9 (by omega) hL96) dL_law_1525 ?_
  refine W.eq (g2 := F0 m 1526 ls [.int (sx9 xs (i9 + 1)), .ref d]) rfl ?_
  refine lv_aload hx hb dL_law_1526 (lv_at hl 4 rfl) ?_
  have hpm_4216 : (([(o, .inl (G.2 5, 1, .inr (.inl of))), (oD, .inl (G.2 6, 1, .inr (.inr (.inr (.inl og)))))] ++ (WD ++ (WM ++ []))) : va_W).Perm (([(oD, .inl (G.2 6, 1, .inr (.inr (.inr (.inl og)))))] ++ (WD ++ [])) ++ ([(o, .inl (G.2 5, 1, .inr (.inl of)))] ++ (WM ++ []))) := segs_perm [[(o, .inl (G.2 5, 1, .inr (.inl of)))], [(oD, .inl (G.2 6, 1, .inr (.inr (.inr (.inl og)))))], WD, WM] [1, 2] [0, 3] rfl
  have hF := hF_ofP (wc := ([(oD, .inl (G.2 6, 1, .inr (.inr (.inr (.inl og)))))] ++ (WD ++ []))) hD hS hA hpm_4216
  refine go_ctP hS hP hD hpm_4216 hF
      (vx_runSW (As := [.ref d, .int (sx9 xs (i9 + 1)), .ref oD]) (rest := []) cf (wX0_zoneShare l G d C WD oD og (sx9 xs (i9 + 1)) (hDy) hfl H.size) (vx_cwSW 3 hts (lw_SW q1275 q1276 q46 q1277) rfl rfl rfl (by decide +kernel) ⟨Nat.le_of_ble_eq_true rfl, Nat.le_of_ble_eq_true rfl⟩) (preS_ofW hNc hKB hE hS hF (P_left (P_perm hpm_4216 hP)) ((D_left (D_perm hpm_4216 hD)).weaken (fun _ _ _ _ => trivial)) trivial) rfl rfl hl.1 rfl (lv_room (Nat.le_of_ble_eq_true rfl)) dL_law_1528 ⟨show cl + 60 ≤ 1200144 from by first | decide | omega, show sl + 200 ≤ 5495674 from by first | decide | omega⟩)
      (fun u_ H locs hq hph (hP : va_P G.1 CL (([(o, .inl (G.2 5, 1, .inr (.inl of)))] ++ (WM ++ [])) ++ ([(oD, .inl (G.2 6, 1, .inr (.inr (.inr (.inl u_.1)))))] ++ (u_.2 ++ []))) H) (hD : va_D A (([(o, .inl (G.2 5, 1, .inr (.inl of)))] ++ (WM ++ [])) ++ ([(oD, .inl (G.2 6, 1, .inr (.inr (.inr (.inl u_.1)))))] ++ (u_.2 ++ [])))) hS hfz hfk => ?_)
  obtain ⟨of2_4217, W2_4218⟩ := u_
  obtain ⟨hq_4219, hq_4220, hq_4221⟩ : ((q_share (dC C) (sx9 xs (i9 + 1))).1 = 0 → of2_4217 0 = FP.f2d (q_share (dC C) (sx9 xs (i9 + 1))).2) ∧ (q_share (dC C) (sx9 xs (i9 + 1))).1 < 10 ∧ DyW G d C W2_4218 := hq
  have hpm_4222 : (([(o, .inl (G.2 5, 1, .inr (.inl of)))] ++ (WM ++ [])) ++ ([(oD, .inl (G.2 6, 1, .inr (.inr (.inr (.inl of2_4217)))))] ++ (W2_4218 ++ [])) : va_W).Perm ([(o, .inl (G.2 5, 1, .inr (.inl of))), (oD, .inl (G.2 6, 1, .inr (.inr (.inr (.inl of2_4217)))))] ++ (WM ++ (W2_4218 ++ []))) := segs_perm2 [[(o, .inl (G.2 5, 1, .inr (.inl of)))], WM] [[(oD, .inl (G.2 6, 1, .inr (.inr (.inr (.inl of2_4217)))))], W2_4218] [0, 2, 1, 3] rfl
  have hP : va_P G.1 CL ([(o, .inl (G.2 5, 1, .inr (.inl of))), (oD, .inl (G.2 6, 1, .inr (.inr (.inr (.inl of2_4217)))))] ++ (WM ++ (W2_4218 ++ []))) H := P_perm hpm_4222 hP
  have hD : va_D A ([(o, .inl (G.2 5, 1, .inr (.inl of))), (oD, .inl (G.2 6, 1, .inr (.inr (.inr (.inl of2_4217)))))] ++ (WM ++ (W2_4218 ++ []))) := D_perm hpm_4222 hD
  refine W.eq (g2 := F0 m 1531 ls [.int (nI ((q_share (dC C) (sx9 xs (i9 + 1))).1))]) rfl ?_
  have hqs : (q_share (dC M) (sx9 xs (i9 + 1))) = (q_share (dC C) (sx9 xs (i9 + 1))) := q_share_sim hLw.1.symm hIm (sx9 xs (i9 + 1))
  refine lv_istore (lv' := [(6, .int (nI ((q_share (dC C) (sx9 xs (i9 + 1))).1))), (0, .ref b), (1, .ref d), (2, .ref m0), (3, .ref o), (4, .ref oD), (5, .int (nI i9))]) hx hb dL_law_1531 hl (by decide) rfl (fun ls hl => ?_)
  refine lv_aload_n hx hb dL_law_1533 rfl (lv_at hl 3 rfl) ?_
  refine lv_aload_n hx hb dL_law_1534 rfl (lv_at hl 1 rfl) ?_
  refine lv_iload hx hb dL_law_1535 (lv_at hl 6 rfl) ?_
  refine lv_iconst (v := nI 1) hx hb dL_law_1537 (by decide) ?_
  refine lv_iadd hx hb dL_law_1538 ?_
  refine lv_ton (n := i9 + 1) (nadd (by omega)) ?_
  refine va_sld hx hb hX9 hbl hbA hS (i := nI (i9 + 1)) (vp9 (by omega) hL96) dL_law_1539 ?_
  refine W.eq (g2 := F0 m 1540 ls [.int (sx9 xs (i9 + 1)), .ref m0]) rfl ?_
  have hpm_4223 : (([(o, .inl (G.2 5, 1, .inr (.inl of))), (oD, .inl (G.2 6, 1, .inr (.inr (.inr (.inl of2_4217)))))] ++ (WM ++ (W2_4218 ++ []))) : va_W).Perm ((WM ++ []) ++ ([(o, .inl (G.2 5, 1, .inr (.inl of))), (oD, .inl (G.2 6, 1, .inr (.inr (.inr (.inl of2_4217)))))] ++ (W2_4218 ++ []))) := segs_perm [[(o, .inl (G.2 5, 1, .inr (.inl of)))], [(oD, .inl (G.2 6, 1, .inr (.inr (.inr (.inl of2_4217)))))], WM, W2_4218] [2] [0, 1, 3] rfl
  have hF := hF_ofP (wc := (WM ++ [])) hD hS hA hpm_4223
  refine go_ctP hS hP hD hpm_4223 hF
      (va_runV (As := [.int (sx9 xs (i9 + 1))]) (rest := []) cf (eX4_zoneShare l G m0 M th WM (sx9 xs (i9 + 1)) (hMd) (hIm) H.size) (cwV 1 hts (lw_V q1799 q1800 q1801 q58 q1802) rfl rfl rfl (by decide +kernel) ⟨Nat.le_of_ble_eq_true rfl, Nat.le_of_ble_eq_true rfl⟩) (preV_of hKB hE hS hF (MdW.recv hK hMd (seg_at [[(o, .inl (G.2 5, 1, .inr (.inl of)))], [(oD, .inl (G.2 6, 1, .inr (.inr (.inr (.inl of2_4217)))))], WM, W2_4218] 2 rfl hP)) (P_left (P_perm hpm_4223 hP)) ((D_left (D_perm hpm_4223 hD)).weaken (fun _ _ _ _ => trivial)) trivial) rfl rfl hl.1 rfl (lv_room (Nat.le_of_ble_eq_true rfl)) dL_law_1540 ⟨show cl + 60 + 0 ≤ 1200144 from by first | decide | omega, show sl + 200 + 0 ≤ 5495674 from by first | decide | omega⟩)
      (fun u_ H locs hq hph (hP : va_P G.1 CL (([(o, .inl (G.2 5, 1, .inr (.inl of))), (oD, .inl (G.2 6, 1, .inr (.inr (.inr (.inl of2_4217)))))] ++ (W2_4218 ++ [])) ++ (u_.2 ++ [])) H) (hD : va_D A (([(o, .inl (G.2 5, 1, .inr (.inl of))), (oD, .inl (G.2 6, 1, .inr (.inr (.inr (.inl of2_4217)))))] ++ (W2_4218 ++ [])) ++ (u_.2 ++ []))) hS hfz hfk => ?_)
  obtain ⟨rr_4224, W2_4225⟩ := u_
  obtain ⟨hq_4226, hq_4227⟩ : ((q_share (dC M) (sx9 xs (i9 + 1))).1 = 0 → rr_4224 = (q_share (dC M) (sx9 xs (i9 + 1))).2) ∧ MdW G m0 M (q_share (dC M) (sx9 xs (i9 + 1))).1 W2_4225 := hq
  have hpm_4228 : (([(o, .inl (G.2 5, 1, .inr (.inl of))), (oD, .inl (G.2 6, 1, .inr (.inr (.inr (.inl of2_4217)))))] ++ (W2_4218 ++ [])) ++ (W2_4225 ++ []) : va_W).Perm ([(o, .inl (G.2 5, 1, .inr (.inl of))), (oD, .inl (G.2 6, 1, .inr (.inr (.inr (.inl of2_4217)))))] ++ (W2_4218 ++ (W2_4225 ++ []))) := segs_perm2 [[(o, .inl (G.2 5, 1, .inr (.inl of)))], [(oD, .inl (G.2 6, 1, .inr (.inr (.inr (.inl of2_4217)))))], W2_4218] [W2_4225] [0, 1, 2, 3] rfl
  have hP : va_P G.1 CL ([(o, .inl (G.2 5, 1, .inr (.inl of))), (oD, .inl (G.2 6, 1, .inr (.inr (.inr (.inl of2_4217)))))] ++ (W2_4218 ++ (W2_4225 ++ []))) H := P_perm hpm_4228 hP
  have hD : va_D A ([(o, .inl (G.2 5, 1, .inr (.inl of))), (oD, .inl (G.2 6, 1, .inr (.inr (.inr (.inl of2_4217)))))] ++ (W2_4218 ++ (W2_4225 ++ []))) := D_perm hpm_4228 hD
  refine W.eq (g2 := F0 m 1543 ls [.float rr_4224]) rfl ?_
  refine lv_fstore (lv' := [(7, .float rr_4224), (6, .int (nI ((q_share (dC C) (sx9 xs (i9 + 1))).1))), (0, .ref b), (1, .ref d), (2, .ref m0), (3, .ref o), (4, .ref oD), (5, .int (nI i9))]) hx hb dL_law_1543 hl (by decide) rfl (fun ls hl => ?_)
  refine lv_aload_n hx hb dL_law_1545 rfl (lv_at hl 4 rfl) ?_
  have hpm_4229 : (([(o, .inl (G.2 5, 1, .inr (.inl of))), (oD, .inl (G.2 6, 1, .inr (.inr (.inr (.inl of2_4217)))))] ++ (W2_4218 ++ (W2_4225 ++ []))) : va_W).Perm ([] ++ ([(o, .inl (G.2 5, 1, .inr (.inl of))), (oD, .inl (G.2 6, 1, .inr (.inr (.inr (.inl of2_4217)))))] ++ (W2_4218 ++ (W2_4225 ++ [])))) := segs_perm [[(o, .inl (G.2 5, 1, .inr (.inl of)))], [(oD, .inl (G.2 6, 1, .inr (.inr (.inr (.inl of2_4217)))))], W2_4218, W2_4225] [] [0, 1, 2, 3] rfl
  have hF := hF_ofP (wc := []) hD hS hA hpm_4229
  refine go_ctP hS hP hD hpm_4229 hF
      (va_runV (As := []) (rest := []) cf (eX4_thrown l G m0 M (((q_share (dC M) (sx9 xs (i9 + 1)))).1) W2_4225 (hq_4227) H.size) (cwV 0 hts (lw_V q1639 q1640 q1641 q58 q1642) rfl rfl rfl (by decide +kernel) ⟨Nat.le_of_ble_eq_true rfl, Nat.le_of_ble_eq_true rfl⟩) (preV_of hKB hE hS hF (MdW.recv hK hq_4227 (seg_at [[(o, .inl (G.2 5, 1, .inr (.inl of)))], [(oD, .inl (G.2 6, 1, .inr (.inr (.inr (.inl of2_4217)))))], W2_4218, W2_4225] 3 rfl hP)) (P_left (P_perm hpm_4229 hP)) ((D_left (D_perm hpm_4229 hD)).weaken (fun _ _ _ _ => trivial)) (roW.nil (seg_at [[(o, .inl (G.2 5, 1, .inr (.inl of)))], [(oD, .inl (G.2 6, 1, .inr (.inr (.inr (.inl of2_4217)))))], W2_4218, W2_4225] 3 rfl hP))) rfl rfl hl.1 rfl (lv_room (Nat.le_of_ble_eq_true rfl)) dL_law_1546 ⟨show cl + 60 + 0 ≤ 1200144 from by first | decide | omega, show sl + 200 + 0 ≤ 5495674 from by first | decide | omega⟩)
      (fun u_ H locs hq hph (hP : va_P G.1 CL (([(o, .inl (G.2 5, 1, .inr (.inl of))), (oD, .inl (G.2 6, 1, .inr (.inr (.inr (.inl of2_4217)))))] ++ (W2_4218 ++ (W2_4225 ++ []))) ++ []) H) (hD : va_D A (([(o, .inl (G.2 5, 1, .inr (.inl of))), (oD, .inl (G.2 6, 1, .inr (.inr (.inr (.inl of2_4217)))))] ++ (W2_4218 ++ (W2_4225 ++ []))) ++ [])) hS hfz hfk => ?_)
  have hpm_4230 : (([(o, .inl (G.2 5, 1, .inr (.inl of))), (oD, .inl (G.2 6, 1, .inr (.inr (.inr (.inl of2_4217)))))] ++ (W2_4218 ++ (W2_4225 ++ []))) ++ [] : va_W).Perm ([(o, .inl (G.2 5, 1, .inr (.inl of))), (oD, .inl (G.2 6, 1, .inr (.inr (.inr (.inl of2_4217)))))] ++ (W2_4218 ++ (W2_4225 ++ []))) := segs_perm2 [[(o, .inl (G.2 5, 1, .inr (.inl of)))], [(oD, .inl (G.2 6, 1, .inr (.inr (.inr (.inl of2_4217)))))], W2_4218, W2_4225] [] [0, 1, 2, 3] rfl
  have hP : va_P G.1 CL ([(o, .inl (G.2 5, 1, .inr (.inl of))), (oD, .inl (G.2 6, 1, .inr (.inr (.inr (.inl of2_4217)))))] ++ (W2_4218 ++ (W2_4225 ++ []))) H := P_perm hpm_4230 hP
  have hD : va_D A ([(o, .inl (G.2 5, 1, .inr (.inl of))), (oD, .inl (G.2 6, 1, .inr (.inr (.inr (.inl of2_4217)))))] ++ (W2_4218 ++ (W2_4225 ++ []))) := D_perm hpm_4230 hD
  refine W.eq (g2 := F0 m 1549 ls [.int (nI (((q_share (dC M) (sx9 xs (i9 + 1)))).1))]) rfl ?_
  refine lv_ton (n := ((q_share (dC C) (sx9 xs (i9 + 1))).1)) (congrArg nI (by rw [hqs])) ?_
  refine lv_iload hx hb dL_law_1549 (lv_at hl 1 rfl) ?_
  refine lv_icmp_eq (tgt := 1556) hx hb dL_law_1551 (by decide) (fun _ => ?_) (fun c9 => absurd rfl c9)
  refine lv_iload hx hb dL_law_1556 (lv_at hl 1 rfl) ?_
  refine n_if_ne (tgt := 1594) hx hb (by omega) dL_law_1558 (by decide) (fun c_4231 => ?_) (fun c_4231 => ?_)
  · refine lv_goto (tgt := 2788) hx hb dL_law_1594 (by decide) ?_
    have hpm_4232 : (([(o, .inl (G.2 5, 1, .inr (.inl of))), (oD, .inl (G.2 6, 1, .inr (.inr (.inr (.inl of2_4217)))))] ++ (W2_4218 ++ (W2_4225 ++ []))) : va_W).Perm (([(o, .inl (G.2 5, 1, .inr (.inl of))), (oD, .inl (G.2 6, 1, .inr (.inr (.inr (.inl of2_4217)))))] ++ (W2_4218 ++ (W2_4225 ++ []))) ++ []) := segs_perm [[(o, .inl (G.2 5, 1, .inr (.inl of)))], [(oD, .inl (G.2 6, 1, .inr (.inr (.inr (.inl of2_4217)))))], W2_4218, W2_4225] [0, 1, 2, 3] [] rfl
    have hP : va_P G.1 CL ([(o, .inl (G.2 5, 1, .inr (.inl of))), (oD, .inl (G.2 6, 1, .inr (.inr (.inr (.inl of2_4217)))))] ++ (W2_4218 ++ (W2_4225 ++ []))) H := P_left (P_perm hpm_4232 hP)
    have hD : va_D A ([(o, .inl (G.2 5, 1, .inr (.inl of))), (oD, .inl (G.2 6, 1, .inr (.inr (.inr (.inl of2_4217)))))] ++ (W2_4218 ++ (W2_4225 ++ []))) := D_left (D_perm hpm_4232 hD)
    have hl := lv_sub hl [2, 3, 4, 5, 6, 7] (l' := [(0, .ref b), (1, .ref d), (2, .ref m0), (3, .ref o), (4, .ref oD), (5, .int (nI i9))]) rfl
    exact W.widen (show cl + 60 ≤ cl + 20000 from by omega) (show sl + 200 ≤ sl + 45000 from by omega) (kk ls H locs C M (((q_share (dC M) (sx9 xs (i9 + 1)))).1) W2_4218 W2_4225 of of2_4217 hP hD hS hl hq_4221 hq_4227 hLw.up)
  · refine lv_aload hx hb dL_law_1561 (lv_at hl 6 rfl) ?_
    refine lv_iconst (v := nI 0) hx hb dL_law_1563 (by decide) ?_
    refine r_dald (v := FP.f2d (((q_share (dC C) (sx9 xs (i9 + 1)))).2)) hx hb hK hP 1 6 rfl rfl (i := 0) (by omega) (by omega) ((hq_4219 (by omega))) dL_law_1564 ?_
    refine lv_fload hx hb dL_law_1565 (lv_at hl 0 rfl) ?_
    refine lv_tov (y := .float (((q_share (dC C) (sx9 xs (i9 + 1)))).2)) ((hq_4226 (by rw [hqs]; omega)).trans (by rw [hqs])) ?_
    refine lv_f2d hx hb dL_law_1567 (share_f2d hIc (show (q_share (dC C) (sx9 xs (i9 + 1))) = (0, ((q_share (dC C) (sx9 xs (i9 + 1)))).2) from Prod.ext (by show _ = 0; omega) rfl)) ?_
    refine lv_dcmp hx hb dL_law_1568 ?_
    refine lv_ton (n := 0) (by rw [dcmp_rf (share_f2d hIc (show (q_share (dC C) (sx9 xs (i9 + 1))) = (0, ((q_share (dC C) (sx9 xs (i9 + 1)))).2) from Prod.ext (by show _ = 0; omega) rfl))]; rfl) ?_
    refine n_if_eq (tgt := 1594) hx hb (by omega) dL_law_1569 (by decide) (fun c_4233 => ?_) (fun c_4233 => absurd c_4233 (by omega))
    refine lv_goto (tgt := 2788) hx hb dL_law_1594 (by decide) ?_
    have hpm_4234 : (([(o, .inl (G.2 5, 1, .inr (.inl of))), (oD, .inl (G.2 6, 1, .inr (.inr (.inr (.inl of2_4217)))))] ++ (W2_4218 ++ (W2_4225 ++ []))) : va_W).Perm (([(o, .inl (G.2 5, 1, .inr (.inl of))), (oD, .inl (G.2 6, 1, .inr (.inr (.inr (.inl of2_4217)))))] ++ (W2_4218 ++ (W2_4225 ++ []))) ++ []) := segs_perm [[(o, .inl (G.2 5, 1, .inr (.inl of)))], [(oD, .inl (G.2 6, 1, .inr (.inr (.inr (.inl of2_4217)))))], W2_4218, W2_4225] [0, 1, 2, 3] [] rfl
    have hP : va_P G.1 CL ([(o, .inl (G.2 5, 1, .inr (.inl of))), (oD, .inl (G.2 6, 1, .inr (.inr (.inr (.inl of2_4217)))))] ++ (W2_4218 ++ (W2_4225 ++ []))) H := P_left (P_perm hpm_4234 hP)
    have hD : va_D A ([(o, .inl (G.2 5, 1, .inr (.inl of))), (oD, .inl (G.2 6, 1, .inr (.inr (.inr (.inl of2_4217)))))] ++ (W2_4218 ++ (W2_4225 ++ []))) := D_left (D_perm hpm_4234 hD)
    have hl := lv_sub hl [2, 3, 4, 5, 6, 7] (l' := [(0, .ref b), (1, .ref d), (2, .ref m0), (3, .ref o), (4, .ref oD), (5, .int (nI i9))]) rfl
    exact W.widen (show cl + 60 ≤ cl + 20000 from by omega) (show sl + 200 ≤ sl + 45000 from by omega) (kk ls H locs C M (((q_share (dC M) (sx9 xs (i9 + 1)))).1) W2_4218 W2_4225 of of2_4217 hP hD hS hl hq_4221 hq_4227 hLw.up)

set_option maxHeartbeats 4000000 in
theorem lawK_24 {p : Program} {l : Launch} {e : Env} {s : State} {m : MethodId} {below : List Frame} {meth : Method} {c : Code} {G : Gt} {A : Nat → Prop} {b L : Nat} {xs : Nat → Int32} {Q : State → Prop} {d m0 o oD i9 N cl sl : Nat} (hfl : l.stackTraces = false) (F : LwF G A p s m c b L xs) (hi9 : i9 + 4 ≤ L) (hN24 : N ≤ 24) (hcl : cl + 20000 ≤ 1200144) (hsl : sl + 45000 ≤ 5495674) (kk : ∀ (ls : Array Slot) (H : Heap) (locs : List Loc) (C M : DS) (th : Nat) (WD WM : va_W) (of : Nat → Int64) (og : Nat → UInt64), va_P G.1 CL ([(o, .inl (G.2 5, 1, .inr (.inl of))), (oD, .inl (G.2 6, 1, .inr (.inr (.inr (.inl og)))))] ++ (WD ++ (WM ++ []))) H → va_D A ([(o, .inl (G.2 5, 1, .inr (.inl of))), (oD, .inl (G.2 6, 1, .inr (.inr (.inr (.inl og)))))] ++ (WD ++ (WM ++ []))) → va_S A s.heap H locs → lv_has ls 10 [(0, .ref b), (1, .ref d), (2, .ref m0), (3, .ref o), (4, .ref oD), (5, .int (nI i9))] → DyW G d C WD → MdW G m0 M th WM → LawI C M (N + 1) → W p l e room_1 s m #[Value.ref b] below meth c H locs (cl + 20000) (sl + 45000) Q (F0 m 2788 ls [])) {ls : Array Slot} {H : Heap} {locs : List Loc} {C M : DS} {th : Nat} {WD WM : va_W} {of : Nat → Int64} {og : Nat → UInt64} (hP : va_P G.1 CL ([(o, .inl (G.2 5, 1, .inr (.inl of))), (oD, .inl (G.2 6, 1, .inr (.inr (.inr (.inl og)))))] ++ (WD ++ (WM ++ []))) H) (hD : va_D A ([(o, .inl (G.2 5, 1, .inr (.inl of))), (oD, .inl (G.2 6, 1, .inr (.inr (.inr (.inl og)))))] ++ (WD ++ (WM ++ [])))) (hS : va_S A s.heap H locs) (hl : lv_has ls 10 [(0, .ref b), (1, .ref d), (2, .ref m0), (3, .ref o), (4, .ref oD), (5, .int (nI i9))]) (hDy : DyW G d C WD) (hMd : MdW G m0 M th WM) (hLw : LawI C M N) : W p l e room_1 s m #[Value.ref b] below meth c H locs cl sl Q (F0 m 1597 ls []) := by
  obtain ⟨cf, hKB, hE, hA, hX9, hbl, hbA, hNc, hL96⟩ := F
  have hx := cf.1
  have hb := cf.2.1
  have hml := cf.2.2.1
  have hown : s.vm.findClass RX0 = some m.cls := cf.2.2.2.1
  have hts := cf.2.2.2.2
  have hK := hKB.1
  have hIc := hDy.inv.1
  have hIm : Inv (dC M) := Inv_sim hLw.1 hIc
  have hRk : RkOk (dC M) := RkOk_sim hLw.1 (RkOk_srt hDy.inv.2.2)
  have hl := hl
  refine lv_aload_n hx hb dL_law_1597 rfl (lv_at hl 1 rfl) ?_
  have hpm_4235 : (([(o, .inl (G.2 5, 1, .inr (.inl of))), (oD, .inl (G.2 6, 1, .inr (.inr (.inr (.inl og)))))] ++ (WD ++ (WM ++ []))) : va_W).Perm ((WD ++ []) ++ ([(o, .inl (G.2 5, 1, .inr (.inl of))), (oD, .inl (G.2 6, 1, .inr (.inr (.inr (.inl og)))))] ++ (WM ++ []))) := segs_perm [[(o, .inl (G.2 5, 1, .inr (.inl of)))], [(oD, .inl (G.2 6, 1, .inr (.inr (.inr (.inl og)))))], WD, WM] [2] [0, 1, 3] rfl
  have hF := hF_ofP (wc := (WD ++ [])) hD hS hA hpm_4235
  refine go_ctP hS hP hD hpm_4235 hF
      (va_runV (As := []) (rest := []) cf (dX1_meanLoad l G d C WD (hDy) H.size) (cwV 0 hts (lw_V q271 q272 q273 q47 q274) rfl rfl rfl (by decide +kernel) ⟨Nat.le_of_ble_eq_true rfl, Nat.le_of_ble_eq_true rfl⟩) (preV_of hKB hE hS hF (DyW.recv hK hDy (seg_at [[(o, .inl (G.2 5, 1, .inr (.inl of)))], [(oD, .inl (G.2 6, 1, .inr (.inr (.inr (.inl og)))))], WD, WM] 2 rfl hP)) (P_left (P_perm hpm_4235 hP)) ((D_left (D_perm hpm_4235 hD)).weaken (fun _ _ _ _ => trivial)) trivial) rfl rfl hl.1 rfl (lv_room (Nat.le_of_ble_eq_true rfl)) dL_law_1598 ⟨show cl + 8300 ≤ 1200144 from by first | decide | omega, show sl + 17000 ≤ 5495674 from by first | decide | omega⟩)
      (fun u_ H locs hq hph (hP : va_P G.1 CL (([(o, .inl (G.2 5, 1, .inr (.inl of))), (oD, .inl (G.2 6, 1, .inr (.inr (.inr (.inl og)))))] ++ (WM ++ [])) ++ (u_.2 ++ [])) H) (hD : va_D A (([(o, .inl (G.2 5, 1, .inr (.inl of))), (oD, .inl (G.2 6, 1, .inr (.inr (.inr (.inl og)))))] ++ (WM ++ [])) ++ (u_.2 ++ []))) hS hfz hfk => ?_)
  obtain ⟨rr_4236, W2_4237⟩ := u_
  obtain ⟨hq_4238, hq_4239⟩ : q_mean (dC C) = (0, rr_4236) ∧ DyW G d C W2_4237 := hq
  have hpm_4240 : (([(o, .inl (G.2 5, 1, .inr (.inl of))), (oD, .inl (G.2 6, 1, .inr (.inr (.inr (.inl og)))))] ++ (WM ++ [])) ++ (W2_4237 ++ []) : va_W).Perm ([(o, .inl (G.2 5, 1, .inr (.inl of))), (oD, .inl (G.2 6, 1, .inr (.inr (.inr (.inl og)))))] ++ (WM ++ (W2_4237 ++ []))) := segs_perm2 [[(o, .inl (G.2 5, 1, .inr (.inl of)))], [(oD, .inl (G.2 6, 1, .inr (.inr (.inr (.inl og)))))], WM] [W2_4237] [0, 1, 2, 3] rfl
  have hP : va_P G.1 CL ([(o, .inl (G.2 5, 1, .inr (.inl of))), (oD, .inl (G.2 6, 1, .inr (.inr (.inr (.inl og)))))] ++ (WM ++ (W2_4237 ++ []))) H := P_perm hpm_4240 hP
  have hD : va_D A ([(o, .inl (G.2 5, 1, .inr (.inl of))), (oD, .inl (G.2 6, 1, .inr (.inr (.inr (.inl og)))))] ++ (WM ++ (W2_4237 ++ []))) := D_perm hpm_4240 hD
  refine W.eq (g2 := F0 m 1601 ls [.double rr_4236]) rfl ?_
  have hqs : (q_mean (dC M)) = (q_mean (dC C)) := q_mean_sim hLw.1.symm hIm 
  refine lv_tov (y := .double (((q_mean (dC C))).2)) ((congrArg Prod.snd hq_4238).symm) ?_
  refine lv_dstore (lv' := [(6, .double (((q_mean (dC C))).2)), (0, .ref b), (1, .ref d), (2, .ref m0), (3, .ref o), (4, .ref oD), (5, .int (nI i9))]) hx hb dL_law_1601 hl (by decide) rfl (fun ls hl => ?_)
  refine lv_aload_n hx hb dL_law_1603 rfl (lv_at hl 3 rfl) ?_
  have hpm_4241 : (([(o, .inl (G.2 5, 1, .inr (.inl of))), (oD, .inl (G.2 6, 1, .inr (.inr (.inr (.inl og)))))] ++ (WM ++ (W2_4237 ++ []))) : va_W).Perm ((WM ++ []) ++ ([(o, .inl (G.2 5, 1, .inr (.inl of))), (oD, .inl (G.2 6, 1, .inr (.inr (.inr (.inl og)))))] ++ (W2_4237 ++ []))) := segs_perm [[(o, .inl (G.2 5, 1, .inr (.inl of)))], [(oD, .inl (G.2 6, 1, .inr (.inr (.inr (.inl og)))))], WM, W2_4237] [2] [0, 1, 3] rfl
  have hF := hF_ofP (wc := (WM ++ [])) hD hS hA hpm_4241
  refine go_ctP hS hP hD hpm_4241 hF
      (va_runV (As := []) (rest := []) cf (eX4_meanLoad l G m0 M th WM (hMd) (hIm) H.size) (cwV 0 hts (lw_V q1803 q1804 q1805 q58 q1806) rfl rfl rfl (by decide +kernel) ⟨Nat.le_of_ble_eq_true rfl, Nat.le_of_ble_eq_true rfl⟩) (preV_of hKB hE hS hF (MdW.recv hK hMd (seg_at [[(o, .inl (G.2 5, 1, .inr (.inl of)))], [(oD, .inl (G.2 6, 1, .inr (.inr (.inr (.inl og)))))], WM, W2_4237] 2 rfl hP)) (P_left (P_perm hpm_4241 hP)) ((D_left (D_perm hpm_4241 hD)).weaken (fun _ _ _ _ => trivial)) trivial) rfl rfl hl.1 rfl (lv_room (Nat.le_of_ble_eq_true rfl)) dL_law_1604 ⟨show cl + 8300 + 0 ≤ 1200144 from by first | decide | omega, show sl + 17000 + 0 ≤ 5495674 from by first | decide | omega⟩)
      (fun u_ H locs hq hph (hP : va_P G.1 CL (([(o, .inl (G.2 5, 1, .inr (.inl of))), (oD, .inl (G.2 6, 1, .inr (.inr (.inr (.inl og)))))] ++ (W2_4237 ++ [])) ++ (u_.2 ++ [])) H) (hD : va_D A (([(o, .inl (G.2 5, 1, .inr (.inl of))), (oD, .inl (G.2 6, 1, .inr (.inr (.inr (.inl og)))))] ++ (W2_4237 ++ [])) ++ (u_.2 ++ []))) hS hfz hfk => ?_)
  obtain ⟨rr_4242, W2_4243⟩ := u_
  obtain ⟨hq_4244, hq_4245⟩ : ((q_mean (dC M)).1 = 0 → rr_4242 = (q_mean (dC M)).2) ∧ MdW G m0 M (q_mean (dC M)).1 W2_4243 := hq
  have hpm_4246 : (([(o, .inl (G.2 5, 1, .inr (.inl of))), (oD, .inl (G.2 6, 1, .inr (.inr (.inr (.inl og)))))] ++ (W2_4237 ++ [])) ++ (W2_4243 ++ []) : va_W).Perm ([(o, .inl (G.2 5, 1, .inr (.inl of))), (oD, .inl (G.2 6, 1, .inr (.inr (.inr (.inl og)))))] ++ (W2_4237 ++ (W2_4243 ++ []))) := segs_perm2 [[(o, .inl (G.2 5, 1, .inr (.inl of)))], [(oD, .inl (G.2 6, 1, .inr (.inr (.inr (.inl og)))))], W2_4237] [W2_4243] [0, 1, 2, 3] rfl
  have hP : va_P G.1 CL ([(o, .inl (G.2 5, 1, .inr (.inl of))), (oD, .inl (G.2 6, 1, .inr (.inr (.inr (.inl og)))))] ++ (W2_4237 ++ (W2_4243 ++ []))) H := P_perm hpm_4246 hP
  have hD : va_D A ([(o, .inl (G.2 5, 1, .inr (.inl of))), (oD, .inl (G.2 6, 1, .inr (.inr (.inr (.inl og)))))] ++ (W2_4237 ++ (W2_4243 ++ []))) := D_perm hpm_4246 hD
  refine W.eq (g2 := F0 m 1607 ls [.double rr_4242]) rfl ?_
  refine lv_tov (y := .double (((q_mean (dC C))).2)) ((hq_4244 (by rw [hqs, hq_4238])).trans (by rw [hqs])) ?_
  refine lv_dstore (lv' := [(8, .double (((q_mean (dC C))).2)), (6, .double (((q_mean (dC C))).2)), (0, .ref b), (1, .ref d), (2, .ref m0), (3, .ref o), (4, .ref oD), (5, .int (nI i9))]) hx hb dL_law_1607 hl (by decide) rfl (fun ls hl => ?_)
  refine lv_dload hx hb dL_law_1609 (lv_at hl 1 rfl) ?_
  refine lv_dload hx hb dL_law_1611 (lv_at hl 0 rfl) ?_
  refine lv_dcmp hx hb dL_law_1613 ?_
  refine lv_ton (n := 0) (by rw [dcmp_rf (mean_num _ (nI_ne0 (by omega) (by have := iv_bD hIc; omega)))]; rfl) ?_
  refine n_if_eq (tgt := 1635) hx hb (by omega) dL_law_1614 (by decide) (fun c_4247 => ?_) (fun c_4247 => absurd c_4247 (by omega))
  refine lv_goto (tgt := 2788) hx hb dL_law_1635 (by decide) ?_
  have hpm_4248 : (([(o, .inl (G.2 5, 1, .inr (.inl of))), (oD, .inl (G.2 6, 1, .inr (.inr (.inr (.inl og)))))] ++ (W2_4237 ++ (W2_4243 ++ []))) : va_W).Perm (([(o, .inl (G.2 5, 1, .inr (.inl of))), (oD, .inl (G.2 6, 1, .inr (.inr (.inr (.inl og)))))] ++ (W2_4237 ++ (W2_4243 ++ []))) ++ []) := segs_perm [[(o, .inl (G.2 5, 1, .inr (.inl of)))], [(oD, .inl (G.2 6, 1, .inr (.inr (.inr (.inl og)))))], W2_4237, W2_4243] [0, 1, 2, 3] [] rfl
  have hP : va_P G.1 CL ([(o, .inl (G.2 5, 1, .inr (.inl of))), (oD, .inl (G.2 6, 1, .inr (.inr (.inr (.inl og)))))] ++ (W2_4237 ++ (W2_4243 ++ []))) H := P_left (P_perm hpm_4248 hP)
  have hD : va_D A ([(o, .inl (G.2 5, 1, .inr (.inl of))), (oD, .inl (G.2 6, 1, .inr (.inr (.inr (.inl og)))))] ++ (W2_4237 ++ (W2_4243 ++ []))) := D_left (D_perm hpm_4248 hD)
  have hl := lv_sub hl [2, 3, 4, 5, 6, 7] (l' := [(0, .ref b), (1, .ref d), (2, .ref m0), (3, .ref o), (4, .ref oD), (5, .int (nI i9))]) rfl
  exact W.widen (show cl + 8300 ≤ cl + 20000 from by omega) (show sl + 17000 ≤ sl + 45000 from by omega) (kk ls H locs C M (((q_mean (dC M))).1) W2_4237 W2_4243 of og hP hD hS hl hq_4239 hq_4245 hLw.up)

set_option maxHeartbeats 4000000 in
theorem lawK_25 {p : Program} {l : Launch} {e : Env} {s : State} {m : MethodId} {below : List Frame} {meth : Method} {c : Code} {G : Gt} {A : Nat → Prop} {b L : Nat} {xs : Nat → Int32} {Q : State → Prop} {d m0 o oD i9 N cl sl : Nat} (hfl : l.stackTraces = false) (F : LwF G A p s m c b L xs) (hi9 : i9 + 4 ≤ L) (hN24 : N ≤ 24) (hcl : cl + 20000 ≤ 1200144) (hsl : sl + 45000 ≤ 5495674) (kk : ∀ (ls : Array Slot) (H : Heap) (locs : List Loc) (C M : DS) (th : Nat) (WD WM : va_W) (of : Nat → Int64) (og : Nat → UInt64), va_P G.1 CL ([(o, .inl (G.2 5, 1, .inr (.inl of))), (oD, .inl (G.2 6, 1, .inr (.inr (.inr (.inl og)))))] ++ (WD ++ (WM ++ []))) H → va_D A ([(o, .inl (G.2 5, 1, .inr (.inl of))), (oD, .inl (G.2 6, 1, .inr (.inr (.inr (.inl og)))))] ++ (WD ++ (WM ++ []))) → va_S A s.heap H locs → lv_has ls 10 [(0, .ref b), (1, .ref d), (2, .ref m0), (3, .ref o), (4, .ref oD), (5, .int (nI i9))] → DyW G d C WD → MdW G m0 M th WM → LawI C M (N + 1) → W p l e room_1 s m #[Value.ref b] below meth c H locs (cl + 20000) (sl + 45000) Q (F0 m 2788 ls [])) {ls : Array Slot} {H : Heap} {locs : List Loc} {C M : DS} {th : Nat} {WD WM : va_W} {of : Nat → Int64} {og : Nat → UInt64} (hP : va_P G.1 CL ([(o, .inl (G.2 5, 1, .inr (.inl of))), (oD, .inl (G.2 6, 1, .inr (.inr (.inr (.inl og)))))] ++ (WD ++ (WM ++ []))) H) (hD : va_D A ([(o, .inl (G.2 5, 1, .inr (.inl of))), (oD, .inl (G.2 6, 1, .inr (.inr (.inr (.inl og)))))] ++ (WD ++ (WM ++ [])))) (hS : va_S A s.heap H locs) (hl : lv_has ls 10 [(0, .ref b), (1, .ref d), (2, .ref m0), (3, .ref o), (4, .ref oD), (5, .int (nI i9))]) (hDy : DyW G d C WD) (hMd : MdW G m0 M th WM) (hLw : LawI C M N) : W p l e room_1 s m #[Value.ref b] below meth c H locs cl sl Q (F0 m 1638 ls []) := by
  obtain ⟨cf, hKB, hE, hA, hX9, hbl, hbA, hNc, hL96⟩ := F
  have hx := cf.1
  have hb := cf.2.1
  have hml := cf.2.2.1
  have hown : s.vm.findClass RX0 = some m.cls := cf.2.2.2.1
  have hts := cf.2.2.2.2
  have hK := hKB.1
  have hIc := hDy.inv.1
  have hIm : Inv (dC M) := Inv_sim hLw.1 hIc
  have hRk : RkOk (dC M) := RkOk_sim hLw.1 (RkOk_srt hDy.inv.2.2)
  have hl := hl
  refine lv_aload_n hx hb dL_law_1638 rfl (lv_at hl 1 rfl) ?_
  refine lv_aload_n hx hb dL_law_1639 rfl (lv_at hl 0 rfl) ?_
  refine lv_iload hx hb dL_law_1640 (lv_at hl 5 rfl) ?_
  refine lv_iconst (v := nI 1) hx hb dL_law_1642 (by decide) ?_
  refine lv_iadd hx hb dL_law_1643 ?_
  refine lv_ton (n := i9 + 1) (nadd (by omega)) ?_
  refine va_sld hx hb hX9 hbl hbA hS (i := nI (i9 + 1)) (vp9 (by omega) hL96) dL_law_1644 ?_
  refine W.eq (g2 := F0 m 1645 ls [.int (sx9 xs (i9 + 1)), .ref d]) rfl ?_
  refine lv_aload_n hx hb dL_law_1645 rfl (lv_at hl 3 rfl) ?_
  have hpm_4249 : (([(o, .inl (G.2 5, 1, .inr (.inl of))), (oD, .inl (G.2 6, 1, .inr (.inr (.inr (.inl og)))))] ++ (WD ++ (WM ++ []))) : va_W).Perm (([(o, .inl (G.2 5, 1, .inr (.inl of)))] ++ (WD ++ [])) ++ ([(oD, .inl (G.2 6, 1, .inr (.inr (.inr (.inl og)))))] ++ (WM ++ []))) := segs_perm [[(o, .inl (G.2 5, 1, .inr (.inl of)))], [(oD, .inl (G.2 6, 1, .inr (.inr (.inr (.inl og)))))], WD, WM] [0, 2] [1, 3] rfl
  have hF := hF_ofP (wc := ([(o, .inl (G.2 5, 1, .inr (.inl of)))] ++ (WD ++ []))) hD hS hA hpm_4249
  refine go_ctP hS hP hD hpm_4249 hF
      (vx_runSW (As := [.ref d, .int (sx9 xs (i9 + 1)), .ref o]) (rest := []) cf (wX0_fitnessOn l G d C WD o of (sx9 xs (i9 + 1)) (hDy) hfl H.size) (vx_cwSW 3 hts (lw_SW q1299 q1300 q46 q1301) rfl rfl rfl (by decide +kernel) ⟨Nat.le_of_ble_eq_true rfl, Nat.le_of_ble_eq_true rfl⟩) (preS_ofW hNc hKB hE hS hF (P_left (P_perm hpm_4249 hP)) ((D_left (D_perm hpm_4249 hD)).weaken (fun _ _ _ _ => trivial)) trivial) rfl rfl hl.1 rfl (lv_room (Nat.le_of_ble_eq_true rfl)) dL_law_1646 ⟨show cl + 8300 ≤ 1200144 from by first | decide | omega, show sl + 17000 ≤ 5495674 from by first | decide | omega⟩)
      (fun u_ H locs hq hph (hP : va_P G.1 CL (([(oD, .inl (G.2 6, 1, .inr (.inr (.inr (.inl og)))))] ++ (WM ++ [])) ++ ([(o, .inl (G.2 5, 1, .inr (.inl u_.1)))] ++ (u_.2 ++ []))) H) (hD : va_D A (([(oD, .inl (G.2 6, 1, .inr (.inr (.inr (.inl og)))))] ++ (WM ++ [])) ++ ([(o, .inl (G.2 5, 1, .inr (.inl u_.1)))] ++ (u_.2 ++ [])))) hS hfz hfk => ?_)
  obtain ⟨of2_4250, W2_4251⟩ := u_
  obtain ⟨hq_4252, hq_4253, hq_4254⟩ : ((q_fit (dC C) (sx9 xs (i9 + 1))).1 = 0 → of2_4250 0 = ((q_fit (dC C) (sx9 xs (i9 + 1))).2).toInt64) ∧ (q_fit (dC C) (sx9 xs (i9 + 1))).1 < 10 ∧ DyW G d C W2_4251 := hq
  have hpm_4255 : (([(oD, .inl (G.2 6, 1, .inr (.inr (.inr (.inl og)))))] ++ (WM ++ [])) ++ ([(o, .inl (G.2 5, 1, .inr (.inl of2_4250)))] ++ (W2_4251 ++ [])) : va_W).Perm ([(oD, .inl (G.2 6, 1, .inr (.inr (.inr (.inl og))))), (o, .inl (G.2 5, 1, .inr (.inl of2_4250)))] ++ (WM ++ (W2_4251 ++ []))) := segs_perm2 [[(oD, .inl (G.2 6, 1, .inr (.inr (.inr (.inl og)))))], WM] [[(o, .inl (G.2 5, 1, .inr (.inl of2_4250)))], W2_4251] [0, 2, 1, 3] rfl
  have hP : va_P G.1 CL ([(oD, .inl (G.2 6, 1, .inr (.inr (.inr (.inl og))))), (o, .inl (G.2 5, 1, .inr (.inl of2_4250)))] ++ (WM ++ (W2_4251 ++ []))) H := P_perm hpm_4255 hP
  have hD : va_D A ([(oD, .inl (G.2 6, 1, .inr (.inr (.inr (.inl og))))), (o, .inl (G.2 5, 1, .inr (.inl of2_4250)))] ++ (WM ++ (W2_4251 ++ []))) := D_perm hpm_4255 hD
  refine W.eq (g2 := F0 m 1649 ls [.int (nI ((q_fit (dC C) (sx9 xs (i9 + 1))).1))]) rfl ?_
  have hqs : (q_fit (dC M) (sx9 xs (i9 + 1))) = (q_fit (dC C) (sx9 xs (i9 + 1))) := q_fit_sim hLw.1.symm hIm (sx9 xs (i9 + 1))
  refine lv_istore (lv' := [(6, .int (nI ((q_fit (dC C) (sx9 xs (i9 + 1))).1))), (0, .ref b), (1, .ref d), (2, .ref m0), (3, .ref o), (4, .ref oD), (5, .int (nI i9))]) hx hb dL_law_1649 hl (by decide) rfl (fun ls hl => ?_)
  refine lv_aload_n hx hb dL_law_1651 rfl (lv_at hl 3 rfl) ?_
  refine lv_aload_n hx hb dL_law_1652 rfl (lv_at hl 1 rfl) ?_
  refine lv_iload hx hb dL_law_1653 (lv_at hl 6 rfl) ?_
  refine lv_iconst (v := nI 1) hx hb dL_law_1655 (by decide) ?_
  refine lv_iadd hx hb dL_law_1656 ?_
  refine lv_ton (n := i9 + 1) (nadd (by omega)) ?_
  refine va_sld hx hb hX9 hbl hbA hS (i := nI (i9 + 1)) (vp9 (by omega) hL96) dL_law_1657 ?_
  refine W.eq (g2 := F0 m 1658 ls [.int (sx9 xs (i9 + 1)), .ref m0]) rfl ?_
  have hpm_4256 : (([(oD, .inl (G.2 6, 1, .inr (.inr (.inr (.inl og))))), (o, .inl (G.2 5, 1, .inr (.inl of2_4250)))] ++ (WM ++ (W2_4251 ++ []))) : va_W).Perm ((WM ++ []) ++ ([(oD, .inl (G.2 6, 1, .inr (.inr (.inr (.inl og))))), (o, .inl (G.2 5, 1, .inr (.inl of2_4250)))] ++ (W2_4251 ++ []))) := segs_perm [[(oD, .inl (G.2 6, 1, .inr (.inr (.inr (.inl og)))))], [(o, .inl (G.2 5, 1, .inr (.inl of2_4250)))], WM, W2_4251] [2] [0, 1, 3] rfl
  have hF := hF_ofP (wc := (WM ++ [])) hD hS hA hpm_4256
  refine go_ctP hS hP hD hpm_4256 hF
      (va_runV (As := [.int (sx9 xs (i9 + 1))]) (rest := []) cf (eX4_fitnessOn l G m0 M th WM (sx9 xs (i9 + 1)) (hMd) (hIm) H.size) (cwV 1 hts (lw_V q1807 q1808 q1809 q58 q1810) rfl rfl rfl (by decide +kernel) ⟨Nat.le_of_ble_eq_true rfl, Nat.le_of_ble_eq_true rfl⟩) (preV_of hKB hE hS hF (MdW.recv hK hMd (seg_at [[(oD, .inl (G.2 6, 1, .inr (.inr (.inr (.inl og)))))], [(o, .inl (G.2 5, 1, .inr (.inl of2_4250)))], WM, W2_4251] 2 rfl hP)) (P_left (P_perm hpm_4256 hP)) ((D_left (D_perm hpm_4256 hD)).weaken (fun _ _ _ _ => trivial)) trivial) rfl rfl hl.1 rfl (lv_room (Nat.le_of_ble_eq_true rfl)) dL_law_1658 ⟨show cl + 8300 + 0 ≤ 1200144 from by first | decide | omega, show sl + 17000 + 0 ≤ 5495674 from by first | decide | omega⟩)
      (fun u_ H locs hq hph (hP : va_P G.1 CL (([(oD, .inl (G.2 6, 1, .inr (.inr (.inr (.inl og))))), (o, .inl (G.2 5, 1, .inr (.inl of2_4250)))] ++ (W2_4251 ++ [])) ++ (u_.2 ++ [])) H) (hD : va_D A (([(oD, .inl (G.2 6, 1, .inr (.inr (.inr (.inl og))))), (o, .inl (G.2 5, 1, .inr (.inl of2_4250)))] ++ (W2_4251 ++ [])) ++ (u_.2 ++ []))) hS hfz hfk => ?_)
  obtain ⟨rr_4257, W2_4258⟩ := u_
  obtain ⟨hq_4259, hq_4260⟩ : ((q_fit (dC M) (sx9 xs (i9 + 1))).1 = 0 → rr_4257 = (q_fit (dC M) (sx9 xs (i9 + 1))).2) ∧ MdW G m0 M (q_fit (dC M) (sx9 xs (i9 + 1))).1 W2_4258 := hq
  have hpm_4261 : (([(oD, .inl (G.2 6, 1, .inr (.inr (.inr (.inl og))))), (o, .inl (G.2 5, 1, .inr (.inl of2_4250)))] ++ (W2_4251 ++ [])) ++ (W2_4258 ++ []) : va_W).Perm ([(oD, .inl (G.2 6, 1, .inr (.inr (.inr (.inl og))))), (o, .inl (G.2 5, 1, .inr (.inl of2_4250)))] ++ (W2_4251 ++ (W2_4258 ++ []))) := segs_perm2 [[(oD, .inl (G.2 6, 1, .inr (.inr (.inr (.inl og)))))], [(o, .inl (G.2 5, 1, .inr (.inl of2_4250)))], W2_4251] [W2_4258] [0, 1, 2, 3] rfl
  have hP : va_P G.1 CL ([(oD, .inl (G.2 6, 1, .inr (.inr (.inr (.inl og))))), (o, .inl (G.2 5, 1, .inr (.inl of2_4250)))] ++ (W2_4251 ++ (W2_4258 ++ []))) H := P_perm hpm_4261 hP
  have hD : va_D A ([(oD, .inl (G.2 6, 1, .inr (.inr (.inr (.inl og))))), (o, .inl (G.2 5, 1, .inr (.inl of2_4250)))] ++ (W2_4251 ++ (W2_4258 ++ []))) := D_perm hpm_4261 hD
  refine W.eq (g2 := F0 m 1661 ls [.int rr_4257]) rfl ?_
  refine lv_istore (lv' := [(7, .int rr_4257), (6, .int (nI ((q_fit (dC C) (sx9 xs (i9 + 1))).1))), (0, .ref b), (1, .ref d), (2, .ref m0), (3, .ref o), (4, .ref oD), (5, .int (nI i9))]) hx hb dL_law_1661 hl (by decide) rfl (fun ls hl => ?_)
  refine lv_aload_n hx hb dL_law_1663 rfl (lv_at hl 4 rfl) ?_
  have hpm_4262 : (([(oD, .inl (G.2 6, 1, .inr (.inr (.inr (.inl og))))), (o, .inl (G.2 5, 1, .inr (.inl of2_4250)))] ++ (W2_4251 ++ (W2_4258 ++ []))) : va_W).Perm ([] ++ ([(oD, .inl (G.2 6, 1, .inr (.inr (.inr (.inl og))))), (o, .inl (G.2 5, 1, .inr (.inl of2_4250)))] ++ (W2_4251 ++ (W2_4258 ++ [])))) := segs_perm [[(oD, .inl (G.2 6, 1, .inr (.inr (.inr (.inl og)))))], [(o, .inl (G.2 5, 1, .inr (.inl of2_4250)))], W2_4251, W2_4258] [] [0, 1, 2, 3] rfl
  have hF := hF_ofP (wc := []) hD hS hA hpm_4262
  refine go_ctP hS hP hD hpm_4262 hF
      (va_runV (As := []) (rest := []) cf (eX4_thrown l G m0 M (((q_fit (dC M) (sx9 xs (i9 + 1)))).1) W2_4258 (hq_4260) H.size) (cwV 0 hts (lw_V q1639 q1640 q1641 q58 q1642) rfl rfl rfl (by decide +kernel) ⟨Nat.le_of_ble_eq_true rfl, Nat.le_of_ble_eq_true rfl⟩) (preV_of hKB hE hS hF (MdW.recv hK hq_4260 (seg_at [[(oD, .inl (G.2 6, 1, .inr (.inr (.inr (.inl og)))))], [(o, .inl (G.2 5, 1, .inr (.inl of2_4250)))], W2_4251, W2_4258] 3 rfl hP)) (P_left (P_perm hpm_4262 hP)) ((D_left (D_perm hpm_4262 hD)).weaken (fun _ _ _ _ => trivial)) (roW.nil (seg_at [[(oD, .inl (G.2 6, 1, .inr (.inr (.inr (.inl og)))))], [(o, .inl (G.2 5, 1, .inr (.inl of2_4250)))], W2_4251, W2_4258] 3 rfl hP))) rfl rfl hl.1 rfl (lv_room (Nat.le_of_ble_eq_true rfl)) dL_law_1664 ⟨show cl + 8300 + 0 ≤ 1200144 from by first | decide | omega, show sl + 17000 + 0 ≤ 5495674 from by first | decide | omega⟩)
      (fun u_ H locs hq hph (hP : va_P G.1 CL (([(oD, .inl (G.2 6, 1, .inr (.inr (.inr (.inl og))))), (o, .inl (G.2 5, 1, .inr (.inl of2_4250)))] ++ (W2_4251 ++ (W2_4258 ++ []))) ++ []) H) (hD : va_D A (([(oD, .inl (G.2 6, 1, .inr (.inr (.inr (.inl og))))), (o, .inl (G.2 5, 1, .inr (.inl of2_4250)))] ++ (W2_4251 ++ (W2_4258 ++ []))) ++ [])) hS hfz hfk => ?_)
  have hpm_4263 : (([(oD, .inl (G.2 6, 1, .inr (.inr (.inr (.inl og))))), (o, .inl (G.2 5, 1, .inr (.inl of2_4250)))] ++ (W2_4251 ++ (W2_4258 ++ []))) ++ [] : va_W).Perm ([(oD, .inl (G.2 6, 1, .inr (.inr (.inr (.inl og))))), (o, .inl (G.2 5, 1, .inr (.inl of2_4250)))] ++ (W2_4251 ++ (W2_4258 ++ []))) := segs_perm2 [[(oD, .inl (G.2 6, 1, .inr (.inr (.inr (.inl og)))))], [(o, .inl (G.2 5, 1, .inr (.inl of2_4250)))], W2_4251, W2_4258] [] [0, 1, 2, 3] rfl
  have hP : va_P G.1 CL ([(oD, .inl (G.2 6, 1, .inr (.inr (.inr (.inl og))))), (o, .inl (G.2 5, 1, .inr (.inl of2_4250)))] ++ (W2_4251 ++ (W2_4258 ++ []))) H := P_perm hpm_4263 hP
  have hD : va_D A ([(oD, .inl (G.2 6, 1, .inr (.inr (.inr (.inl og))))), (o, .inl (G.2 5, 1, .inr (.inl of2_4250)))] ++ (W2_4251 ++ (W2_4258 ++ []))) := D_perm hpm_4263 hD
  refine W.eq (g2 := F0 m 1667 ls [.int (nI (((q_fit (dC M) (sx9 xs (i9 + 1)))).1))]) rfl ?_
  refine lv_ton (n := ((q_fit (dC C) (sx9 xs (i9 + 1))).1)) (congrArg nI (by rw [hqs])) ?_
  refine lv_iload hx hb dL_law_1667 (lv_at hl 1 rfl) ?_
  refine lv_icmp_eq (tgt := 1674) hx hb dL_law_1669 (by decide) (fun _ => ?_) (fun c9 => absurd rfl c9)
  refine lv_iload hx hb dL_law_1674 (lv_at hl 1 rfl) ?_
  refine n_if_ne (tgt := 1691) hx hb (by omega) dL_law_1676 (by decide) (fun c_4264 => ?_) (fun c_4264 => ?_)
  · refine lv_goto (tgt := 2788) hx hb dL_law_1691 (by decide) ?_
    have hpm_4265 : (([(oD, .inl (G.2 6, 1, .inr (.inr (.inr (.inl og))))), (o, .inl (G.2 5, 1, .inr (.inl of2_4250)))] ++ (W2_4251 ++ (W2_4258 ++ []))) : va_W).Perm (([(o, .inl (G.2 5, 1, .inr (.inl of2_4250))), (oD, .inl (G.2 6, 1, .inr (.inr (.inr (.inl og)))))] ++ (W2_4251 ++ (W2_4258 ++ []))) ++ []) := segs_perm [[(oD, .inl (G.2 6, 1, .inr (.inr (.inr (.inl og)))))], [(o, .inl (G.2 5, 1, .inr (.inl of2_4250)))], W2_4251, W2_4258] [1, 0, 2, 3] [] rfl
    have hP : va_P G.1 CL ([(o, .inl (G.2 5, 1, .inr (.inl of2_4250))), (oD, .inl (G.2 6, 1, .inr (.inr (.inr (.inl og)))))] ++ (W2_4251 ++ (W2_4258 ++ []))) H := P_left (P_perm hpm_4265 hP)
    have hD : va_D A ([(o, .inl (G.2 5, 1, .inr (.inl of2_4250))), (oD, .inl (G.2 6, 1, .inr (.inr (.inr (.inl og)))))] ++ (W2_4251 ++ (W2_4258 ++ []))) := D_left (D_perm hpm_4265 hD)
    have hl := lv_sub hl [2, 3, 4, 5, 6, 7] (l' := [(0, .ref b), (1, .ref d), (2, .ref m0), (3, .ref o), (4, .ref oD), (5, .int (nI i9))]) rfl
    exact W.widen (show cl + 8300 ≤ cl + 20000 from by omega) (show sl + 17000 ≤ sl + 45000 from by omega) (kk ls H locs C M (((q_fit (dC M) (sx9 xs (i9 + 1)))).1) W2_4251 W2_4258 of2_4250 og hP hD hS hl hq_4254 hq_4260 hLw.up)
  · refine lv_aload_n hx hb dL_law_1679 rfl (lv_at hl 5 rfl) ?_
    refine lv_iconst (v := nI 0) hx hb dL_law_1680 (by decide) ?_
    refine r_lald (v := (((q_fit (dC C) (sx9 xs (i9 + 1)))).2).toInt64) hx hb hK hP 1 5 rfl rfl (i := 0) (by omega) (by omega) ((hq_4252 (by omega))) dL_law_1681 ?_
    refine lv_iload hx hb dL_law_1682 (lv_at hl 0 rfl) ?_
    refine lv_toi (y := ((q_fit (dC C) (sx9 xs (i9 + 1)))).2) ((hq_4259 (by rw [hqs]; omega)).trans (by rw [hqs])) ?_
    refine lv_i2l (v := (((q_fit (dC C) (sx9 xs (i9 + 1)))).2).toInt64) hx hb dL_law_1684 rfl ?_
    refine W.lcmp hx hb dL_law_1685 ?_
    refine lv_ton (n := 0) (lcmp0 _) ?_
    refine n_if_eq (tgt := 1691) hx hb (by omega) dL_law_1686 (by decide) (fun c_4266 => ?_) (fun c_4266 => absurd c_4266 (by omega))
    refine lv_goto (tgt := 2788) hx hb dL_law_1691 (by decide) ?_
    have hpm_4267 : (([(oD, .inl (G.2 6, 1, .inr (.inr (.inr (.inl og))))), (o, .inl (G.2 5, 1, .inr (.inl of2_4250)))] ++ (W2_4251 ++ (W2_4258 ++ []))) : va_W).Perm (([(o, .inl (G.2 5, 1, .inr (.inl of2_4250))), (oD, .inl (G.2 6, 1, .inr (.inr (.inr (.inl og)))))] ++ (W2_4251 ++ (W2_4258 ++ []))) ++ []) := segs_perm [[(oD, .inl (G.2 6, 1, .inr (.inr (.inr (.inl og)))))], [(o, .inl (G.2 5, 1, .inr (.inl of2_4250)))], W2_4251, W2_4258] [1, 0, 2, 3] [] rfl
    have hP : va_P G.1 CL ([(o, .inl (G.2 5, 1, .inr (.inl of2_4250))), (oD, .inl (G.2 6, 1, .inr (.inr (.inr (.inl og)))))] ++ (W2_4251 ++ (W2_4258 ++ []))) H := P_left (P_perm hpm_4267 hP)
    have hD : va_D A ([(o, .inl (G.2 5, 1, .inr (.inl of2_4250))), (oD, .inl (G.2 6, 1, .inr (.inr (.inr (.inl og)))))] ++ (W2_4251 ++ (W2_4258 ++ []))) := D_left (D_perm hpm_4267 hD)
    have hl := lv_sub hl [2, 3, 4, 5, 6, 7] (l' := [(0, .ref b), (1, .ref d), (2, .ref m0), (3, .ref o), (4, .ref oD), (5, .int (nI i9))]) rfl
    exact W.widen (show cl + 8300 ≤ cl + 20000 from by omega) (show sl + 17000 ≤ sl + 45000 from by omega) (kk ls H locs C M (((q_fit (dC M) (sx9 xs (i9 + 1)))).1) W2_4251 W2_4258 of2_4250 og hP hD hS hl hq_4254 hq_4260 hLw.up)

set_option maxHeartbeats 4000000 in
theorem lawK_26 {p : Program} {l : Launch} {e : Env} {s : State} {m : MethodId} {below : List Frame} {meth : Method} {c : Code} {G : Gt} {A : Nat → Prop} {b L : Nat} {xs : Nat → Int32} {Q : State → Prop} {d m0 o oD i9 N cl sl : Nat} (hfl : l.stackTraces = false) (F : LwF G A p s m c b L xs) (hi9 : i9 + 4 ≤ L) (hN24 : N ≤ 24) (hcl : cl + 20000 ≤ 1200144) (hsl : sl + 45000 ≤ 5495674) (kk : ∀ (ls : Array Slot) (H : Heap) (locs : List Loc) (C M : DS) (th : Nat) (WD WM : va_W) (of : Nat → Int64) (og : Nat → UInt64), va_P G.1 CL ([(o, .inl (G.2 5, 1, .inr (.inl of))), (oD, .inl (G.2 6, 1, .inr (.inr (.inr (.inl og)))))] ++ (WD ++ (WM ++ []))) H → va_D A ([(o, .inl (G.2 5, 1, .inr (.inl of))), (oD, .inl (G.2 6, 1, .inr (.inr (.inr (.inl og)))))] ++ (WD ++ (WM ++ []))) → va_S A s.heap H locs → lv_has ls 10 [(0, .ref b), (1, .ref d), (2, .ref m0), (3, .ref o), (4, .ref oD), (5, .int (nI i9))] → DyW G d C WD → MdW G m0 M th WM → LawI C M (N + 1) → W p l e room_1 s m #[Value.ref b] below meth c H locs (cl + 20000) (sl + 45000) Q (F0 m 2788 ls [])) {ls : Array Slot} {H : Heap} {locs : List Loc} {C M : DS} {th : Nat} {WD WM : va_W} {of : Nat → Int64} {og : Nat → UInt64} (hP : va_P G.1 CL ([(o, .inl (G.2 5, 1, .inr (.inl of))), (oD, .inl (G.2 6, 1, .inr (.inr (.inr (.inl og)))))] ++ (WD ++ (WM ++ []))) H) (hD : va_D A ([(o, .inl (G.2 5, 1, .inr (.inl of))), (oD, .inl (G.2 6, 1, .inr (.inr (.inr (.inl og)))))] ++ (WD ++ (WM ++ [])))) (hS : va_S A s.heap H locs) (hl : lv_has ls 10 [(0, .ref b), (1, .ref d), (2, .ref m0), (3, .ref o), (4, .ref oD), (5, .int (nI i9))]) (hDy : DyW G d C WD) (hMd : MdW G m0 M th WM) (hLw : LawI C M N) : W p l e room_1 s m #[Value.ref b] below meth c H locs cl sl Q (F0 m 1694 ls []) := by
  obtain ⟨cf, hKB, hE, hA, hX9, hbl, hbA, hNc, hL96⟩ := F
  have hx := cf.1
  have hb := cf.2.1
  have hml := cf.2.2.1
  have hown : s.vm.findClass RX0 = some m.cls := cf.2.2.2.1
  have hts := cf.2.2.2.2
  have hK := hKB.1
  have hIc := hDy.inv.1
  have hIm : Inv (dC M) := Inv_sim hLw.1 hIc
  have hRk : RkOk (dC M) := RkOk_sim hLw.1 (RkOk_srt hDy.inv.2.2)
  have hl := hl
  refine lv_aload_n hx hb dL_law_1694 rfl (lv_at hl 1 rfl) ?_
  refine lv_aload_n hx hb dL_law_1695 rfl (lv_at hl 0 rfl) ?_
  refine lv_iload hx hb dL_law_1696 (lv_at hl 5 rfl) ?_
  refine lv_iconst (v := nI 1) hx hb dL_law_1698 (by decide) ?_
  refine lv_iadd hx hb dL_law_1699 ?_
  refine lv_ton (n := i9 + 1) (nadd (by omega)) ?_
  refine va_sld hx hb hX9 hbl hbA hS (i := nI (i9 + 1)) (vp9 (by omega) hL96) dL_law_1700 ?_
  refine W.eq (g2 := F0 m 1701 ls [.int (sx9 xs (i9 + 1)), .ref d]) rfl ?_
  refine lv_aload_n hx hb dL_law_1701 rfl (lv_at hl 3 rfl) ?_
  have hpm_4268 : (([(o, .inl (G.2 5, 1, .inr (.inl of))), (oD, .inl (G.2 6, 1, .inr (.inr (.inr (.inl og)))))] ++ (WD ++ (WM ++ []))) : va_W).Perm (([(o, .inl (G.2 5, 1, .inr (.inl of)))] ++ (WD ++ [])) ++ ([(oD, .inl (G.2 6, 1, .inr (.inr (.inr (.inl og)))))] ++ (WM ++ []))) := segs_perm [[(o, .inl (G.2 5, 1, .inr (.inl of)))], [(oD, .inl (G.2 6, 1, .inr (.inr (.inr (.inl og)))))], WD, WM] [0, 2] [1, 3] rfl
  have hF := hF_ofP (wc := ([(o, .inl (G.2 5, 1, .inr (.inl of)))] ++ (WD ++ []))) hD hS hA hpm_4268
  refine go_ctP hS hP hD hpm_4268 hF
      (vx_runSW (As := [.ref d, .int (sx9 xs (i9 + 1)), .ref o]) (rest := []) cf (wX0_fitnessFromStart l G d C WD o of (sx9 xs (i9 + 1)) (hDy) hfl H.size) (vx_cwSW 3 hts (lw_SW q1307 q1308 q46 q1309) rfl rfl rfl (by decide +kernel) ⟨Nat.le_of_ble_eq_true rfl, Nat.le_of_ble_eq_true rfl⟩) (preS_ofW hNc hKB hE hS hF (P_left (P_perm hpm_4268 hP)) ((D_left (D_perm hpm_4268 hD)).weaken (fun _ _ _ _ => trivial)) trivial) rfl rfl hl.1 rfl (lv_room (Nat.le_of_ble_eq_true rfl)) dL_law_1702 ⟨show cl + 8300 ≤ 1200144 from by first | decide | omega, show sl + 17000 ≤ 5495674 from by first | decide | omega⟩)
      (fun u_ H locs hq hph (hP : va_P G.1 CL (([(oD, .inl (G.2 6, 1, .inr (.inr (.inr (.inl og)))))] ++ (WM ++ [])) ++ ([(o, .inl (G.2 5, 1, .inr (.inl u_.1)))] ++ (u_.2 ++ []))) H) (hD : va_D A (([(oD, .inl (G.2 6, 1, .inr (.inr (.inr (.inl og)))))] ++ (WM ++ [])) ++ ([(o, .inl (G.2 5, 1, .inr (.inl u_.1)))] ++ (u_.2 ++ [])))) hS hfz hfk => ?_)
  obtain ⟨of2_4269, W2_4270⟩ := u_
  obtain ⟨hq_4271, hq_4272, hq_4273⟩ : ((q_fit (dC C) (sx9 xs (i9 + 1))).1 = 0 → of2_4269 0 = ((q_fit (dC C) (sx9 xs (i9 + 1))).2).toInt64) ∧ (q_fit (dC C) (sx9 xs (i9 + 1))).1 < 10 ∧ DyW G d C W2_4270 := hq
  have hpm_4274 : (([(oD, .inl (G.2 6, 1, .inr (.inr (.inr (.inl og)))))] ++ (WM ++ [])) ++ ([(o, .inl (G.2 5, 1, .inr (.inl of2_4269)))] ++ (W2_4270 ++ [])) : va_W).Perm ([(oD, .inl (G.2 6, 1, .inr (.inr (.inr (.inl og))))), (o, .inl (G.2 5, 1, .inr (.inl of2_4269)))] ++ (WM ++ (W2_4270 ++ []))) := segs_perm2 [[(oD, .inl (G.2 6, 1, .inr (.inr (.inr (.inl og)))))], WM] [[(o, .inl (G.2 5, 1, .inr (.inl of2_4269)))], W2_4270] [0, 2, 1, 3] rfl
  have hP : va_P G.1 CL ([(oD, .inl (G.2 6, 1, .inr (.inr (.inr (.inl og))))), (o, .inl (G.2 5, 1, .inr (.inl of2_4269)))] ++ (WM ++ (W2_4270 ++ []))) H := P_perm hpm_4274 hP
  have hD : va_D A ([(oD, .inl (G.2 6, 1, .inr (.inr (.inr (.inl og))))), (o, .inl (G.2 5, 1, .inr (.inl of2_4269)))] ++ (WM ++ (W2_4270 ++ []))) := D_perm hpm_4274 hD
  refine W.eq (g2 := F0 m 1705 ls [.int (nI ((q_fit (dC C) (sx9 xs (i9 + 1))).1))]) rfl ?_
  have hqs : (q_fit (dC M) (sx9 xs (i9 + 1))) = (q_fit (dC C) (sx9 xs (i9 + 1))) := q_fit_sim hLw.1.symm hIm (sx9 xs (i9 + 1))
  refine lv_istore (lv' := [(6, .int (nI ((q_fit (dC C) (sx9 xs (i9 + 1))).1))), (0, .ref b), (1, .ref d), (2, .ref m0), (3, .ref o), (4, .ref oD), (5, .int (nI i9))]) hx hb dL_law_1705 hl (by decide) rfl (fun ls hl => ?_)
  refine lv_aload_n hx hb dL_law_1707 rfl (lv_at hl 3 rfl) ?_
  refine lv_aload_n hx hb dL_law_1708 rfl (lv_at hl 1 rfl) ?_
  refine lv_iload hx hb dL_law_1709 (lv_at hl 6 rfl) ?_
  refine lv_iconst (v := nI 1) hx hb dL_law_1711 (by decide) ?_
  refine lv_iadd hx hb dL_law_1712 ?_
  refine lv_ton (n := i9 + 1) (nadd (by omega)) ?_
  refine va_sld hx hb hX9 hbl hbA hS (i := nI (i9 + 1)) (vp9 (by omega) hL96) dL_law_1713 ?_
  refine W.eq (g2 := F0 m 1714 ls [.int (sx9 xs (i9 + 1)), .ref m0]) rfl ?_
  have hpm_4275 : (([(oD, .inl (G.2 6, 1, .inr (.inr (.inr (.inl og))))), (o, .inl (G.2 5, 1, .inr (.inl of2_4269)))] ++ (WM ++ (W2_4270 ++ []))) : va_W).Perm ((WM ++ []) ++ ([(oD, .inl (G.2 6, 1, .inr (.inr (.inr (.inl og))))), (o, .inl (G.2 5, 1, .inr (.inl of2_4269)))] ++ (W2_4270 ++ []))) := segs_perm [[(oD, .inl (G.2 6, 1, .inr (.inr (.inr (.inl og)))))], [(o, .inl (G.2 5, 1, .inr (.inl of2_4269)))], WM, W2_4270] [2] [0, 1, 3] rfl
  have hF := hF_ofP (wc := (WM ++ [])) hD hS hA hpm_4275
  refine go_ctP hS hP hD hpm_4275 hF
      (va_runV (As := [.int (sx9 xs (i9 + 1))]) (rest := []) cf (eX4_fitnessFromStart l G m0 M th WM (sx9 xs (i9 + 1)) (hMd) (hIm) H.size) (cwV 1 hts (lw_V q1815 q1816 q1817 q58 q1818) rfl rfl rfl (by decide +kernel) ⟨Nat.le_of_ble_eq_true rfl, Nat.le_of_ble_eq_true rfl⟩) (preV_of hKB hE hS hF (MdW.recv hK hMd (seg_at [[(oD, .inl (G.2 6, 1, .inr (.inr (.inr (.inl og)))))], [(o, .inl (G.2 5, 1, .inr (.inl of2_4269)))], WM, W2_4270] 2 rfl hP)) (P_left (P_perm hpm_4275 hP)) ((D_left (D_perm hpm_4275 hD)).weaken (fun _ _ _ _ => trivial)) trivial) rfl rfl hl.1 rfl (lv_room (Nat.le_of_ble_eq_true rfl)) dL_law_1714 ⟨show cl + 8300 + 0 ≤ 1200144 from by first | decide | omega, show sl + 17000 + 0 ≤ 5495674 from by first | decide | omega⟩)
      (fun u_ H locs hq hph (hP : va_P G.1 CL (([(oD, .inl (G.2 6, 1, .inr (.inr (.inr (.inl og))))), (o, .inl (G.2 5, 1, .inr (.inl of2_4269)))] ++ (W2_4270 ++ [])) ++ (u_.2 ++ [])) H) (hD : va_D A (([(oD, .inl (G.2 6, 1, .inr (.inr (.inr (.inl og))))), (o, .inl (G.2 5, 1, .inr (.inl of2_4269)))] ++ (W2_4270 ++ [])) ++ (u_.2 ++ []))) hS hfz hfk => ?_)
  obtain ⟨rr_4276, W2_4277⟩ := u_
  obtain ⟨hq_4278, hq_4279⟩ : ((q_fit (dC M) (sx9 xs (i9 + 1))).1 = 0 → rr_4276 = (q_fit (dC M) (sx9 xs (i9 + 1))).2) ∧ MdW G m0 M (q_fit (dC M) (sx9 xs (i9 + 1))).1 W2_4277 := hq
  have hpm_4280 : (([(oD, .inl (G.2 6, 1, .inr (.inr (.inr (.inl og))))), (o, .inl (G.2 5, 1, .inr (.inl of2_4269)))] ++ (W2_4270 ++ [])) ++ (W2_4277 ++ []) : va_W).Perm ([(oD, .inl (G.2 6, 1, .inr (.inr (.inr (.inl og))))), (o, .inl (G.2 5, 1, .inr (.inl of2_4269)))] ++ (W2_4270 ++ (W2_4277 ++ []))) := segs_perm2 [[(oD, .inl (G.2 6, 1, .inr (.inr (.inr (.inl og)))))], [(o, .inl (G.2 5, 1, .inr (.inl of2_4269)))], W2_4270] [W2_4277] [0, 1, 2, 3] rfl
  have hP : va_P G.1 CL ([(oD, .inl (G.2 6, 1, .inr (.inr (.inr (.inl og))))), (o, .inl (G.2 5, 1, .inr (.inl of2_4269)))] ++ (W2_4270 ++ (W2_4277 ++ []))) H := P_perm hpm_4280 hP
  have hD : va_D A ([(oD, .inl (G.2 6, 1, .inr (.inr (.inr (.inl og))))), (o, .inl (G.2 5, 1, .inr (.inl of2_4269)))] ++ (W2_4270 ++ (W2_4277 ++ []))) := D_perm hpm_4280 hD
  refine W.eq (g2 := F0 m 1717 ls [.int rr_4276]) rfl ?_
  refine lv_istore (lv' := [(7, .int rr_4276), (6, .int (nI ((q_fit (dC C) (sx9 xs (i9 + 1))).1))), (0, .ref b), (1, .ref d), (2, .ref m0), (3, .ref o), (4, .ref oD), (5, .int (nI i9))]) hx hb dL_law_1717 hl (by decide) rfl (fun ls hl => ?_)
  refine lv_aload_n hx hb dL_law_1719 rfl (lv_at hl 4 rfl) ?_
  have hpm_4281 : (([(oD, .inl (G.2 6, 1, .inr (.inr (.inr (.inl og))))), (o, .inl (G.2 5, 1, .inr (.inl of2_4269)))] ++ (W2_4270 ++ (W2_4277 ++ []))) : va_W).Perm ([] ++ ([(oD, .inl (G.2 6, 1, .inr (.inr (.inr (.inl og))))), (o, .inl (G.2 5, 1, .inr (.inl of2_4269)))] ++ (W2_4270 ++ (W2_4277 ++ [])))) := segs_perm [[(oD, .inl (G.2 6, 1, .inr (.inr (.inr (.inl og)))))], [(o, .inl (G.2 5, 1, .inr (.inl of2_4269)))], W2_4270, W2_4277] [] [0, 1, 2, 3] rfl
  have hF := hF_ofP (wc := []) hD hS hA hpm_4281
  refine go_ctP hS hP hD hpm_4281 hF
      (va_runV (As := []) (rest := []) cf (eX4_thrown l G m0 M (((q_fit (dC M) (sx9 xs (i9 + 1)))).1) W2_4277 (hq_4279) H.size) (cwV 0 hts (lw_V q1639 q1640 q1641 q58 q1642) rfl rfl rfl (by decide +kernel) ⟨Nat.le_of_ble_eq_true rfl, Nat.le_of_ble_eq_true rfl⟩) (preV_of hKB hE hS hF (MdW.recv hK hq_4279 (seg_at [[(oD, .inl (G.2 6, 1, .inr (.inr (.inr (.inl og)))))], [(o, .inl (G.2 5, 1, .inr (.inl of2_4269)))], W2_4270, W2_4277] 3 rfl hP)) (P_left (P_perm hpm_4281 hP)) ((D_left (D_perm hpm_4281 hD)).weaken (fun _ _ _ _ => trivial)) (roW.nil (seg_at [[(oD, .inl (G.2 6, 1, .inr (.inr (.inr (.inl og)))))], [(o, .inl (G.2 5, 1, .inr (.inl of2_4269)))], W2_4270, W2_4277] 3 rfl hP))) rfl rfl hl.1 rfl (lv_room (Nat.le_of_ble_eq_true rfl)) dL_law_1720 ⟨show cl + 8300 + 0 ≤ 1200144 from by first | decide | omega, show sl + 17000 + 0 ≤ 5495674 from by first | decide | omega⟩)
      (fun u_ H locs hq hph (hP : va_P G.1 CL (([(oD, .inl (G.2 6, 1, .inr (.inr (.inr (.inl og))))), (o, .inl (G.2 5, 1, .inr (.inl of2_4269)))] ++ (W2_4270 ++ (W2_4277 ++ []))) ++ []) H) (hD : va_D A (([(oD, .inl (G.2 6, 1, .inr (.inr (.inr (.inl og))))), (o, .inl (G.2 5, 1, .inr (.inl of2_4269)))] ++ (W2_4270 ++ (W2_4277 ++ []))) ++ [])) hS hfz hfk => ?_)
  have hpm_4282 : (([(oD, .inl (G.2 6, 1, .inr (.inr (.inr (.inl og))))), (o, .inl (G.2 5, 1, .inr (.inl of2_4269)))] ++ (W2_4270 ++ (W2_4277 ++ []))) ++ [] : va_W).Perm ([(oD, .inl (G.2 6, 1, .inr (.inr (.inr (.inl og))))), (o, .inl (G.2 5, 1, .inr (.inl of2_4269)))] ++ (W2_4270 ++ (W2_4277 ++ []))) := segs_perm2 [[(oD, .inl (G.2 6, 1, .inr (.inr (.inr (.inl og)))))], [(o, .inl (G.2 5, 1, .inr (.inl of2_4269)))], W2_4270, W2_4277] [] [0, 1, 2, 3] rfl
  have hP : va_P G.1 CL ([(oD, .inl (G.2 6, 1, .inr (.inr (.inr (.inl og))))), (o, .inl (G.2 5, 1, .inr (.inl of2_4269)))] ++ (W2_4270 ++ (W2_4277 ++ []))) H := P_perm hpm_4282 hP
  have hD : va_D A ([(oD, .inl (G.2 6, 1, .inr (.inr (.inr (.inl og))))), (o, .inl (G.2 5, 1, .inr (.inl of2_4269)))] ++ (W2_4270 ++ (W2_4277 ++ []))) := D_perm hpm_4282 hD
  refine W.eq (g2 := F0 m 1723 ls [.int (nI (((q_fit (dC M) (sx9 xs (i9 + 1)))).1))]) rfl ?_
  refine lv_ton (n := ((q_fit (dC C) (sx9 xs (i9 + 1))).1)) (congrArg nI (by rw [hqs])) ?_
  refine lv_iload hx hb dL_law_1723 (lv_at hl 1 rfl) ?_
  refine lv_icmp_eq (tgt := 1730) hx hb dL_law_1725 (by decide) (fun _ => ?_) (fun c9 => absurd rfl c9)
  refine lv_iload hx hb dL_law_1730 (lv_at hl 1 rfl) ?_
  refine n_if_ne (tgt := 1747) hx hb (by omega) dL_law_1732 (by decide) (fun c_4283 => ?_) (fun c_4283 => ?_)
  · refine lv_goto (tgt := 2788) hx hb dL_law_1747 (by decide) ?_
    have hpm_4284 : (([(oD, .inl (G.2 6, 1, .inr (.inr (.inr (.inl og))))), (o, .inl (G.2 5, 1, .inr (.inl of2_4269)))] ++ (W2_4270 ++ (W2_4277 ++ []))) : va_W).Perm (([(o, .inl (G.2 5, 1, .inr (.inl of2_4269))), (oD, .inl (G.2 6, 1, .inr (.inr (.inr (.inl og)))))] ++ (W2_4270 ++ (W2_4277 ++ []))) ++ []) := segs_perm [[(oD, .inl (G.2 6, 1, .inr (.inr (.inr (.inl og)))))], [(o, .inl (G.2 5, 1, .inr (.inl of2_4269)))], W2_4270, W2_4277] [1, 0, 2, 3] [] rfl
    have hP : va_P G.1 CL ([(o, .inl (G.2 5, 1, .inr (.inl of2_4269))), (oD, .inl (G.2 6, 1, .inr (.inr (.inr (.inl og)))))] ++ (W2_4270 ++ (W2_4277 ++ []))) H := P_left (P_perm hpm_4284 hP)
    have hD : va_D A ([(o, .inl (G.2 5, 1, .inr (.inl of2_4269))), (oD, .inl (G.2 6, 1, .inr (.inr (.inr (.inl og)))))] ++ (W2_4270 ++ (W2_4277 ++ []))) := D_left (D_perm hpm_4284 hD)
    have hl := lv_sub hl [2, 3, 4, 5, 6, 7] (l' := [(0, .ref b), (1, .ref d), (2, .ref m0), (3, .ref o), (4, .ref oD), (5, .int (nI i9))]) rfl
    exact W.widen (show cl + 8300 ≤ cl + 20000 from by omega) (show sl + 17000 ≤ sl + 45000 from by omega) (kk ls H locs C M (((q_fit (dC M) (sx9 xs (i9 + 1)))).1) W2_4270 W2_4277 of2_4269 og hP hD hS hl hq_4273 hq_4279 hLw.up)
  · refine lv_aload_n hx hb dL_law_1735 rfl (lv_at hl 5 rfl) ?_
    refine lv_iconst (v := nI 0) hx hb dL_law_1736 (by decide) ?_
    refine r_lald (v := (((q_fit (dC C) (sx9 xs (i9 + 1)))).2).toInt64) hx hb hK hP 1 5 rfl rfl (i := 0) (by omega) (by omega) ((hq_4271 (by omega))) dL_law_1737 ?_
    refine lv_iload hx hb dL_law_1738 (lv_at hl 0 rfl) ?_
    refine lv_toi (y := ((q_fit (dC C) (sx9 xs (i9 + 1)))).2) ((hq_4278 (by rw [hqs]; omega)).trans (by rw [hqs])) ?_
    refine lv_i2l (v := (((q_fit (dC C) (sx9 xs (i9 + 1)))).2).toInt64) hx hb dL_law_1740 rfl ?_
    refine W.lcmp hx hb dL_law_1741 ?_
    refine lv_ton (n := 0) (lcmp0 _) ?_
    refine n_if_eq (tgt := 1747) hx hb (by omega) dL_law_1742 (by decide) (fun c_4285 => ?_) (fun c_4285 => absurd c_4285 (by omega))
    refine lv_goto (tgt := 2788) hx hb dL_law_1747 (by decide) ?_
    have hpm_4286 : (([(oD, .inl (G.2 6, 1, .inr (.inr (.inr (.inl og))))), (o, .inl (G.2 5, 1, .inr (.inl of2_4269)))] ++ (W2_4270 ++ (W2_4277 ++ []))) : va_W).Perm (([(o, .inl (G.2 5, 1, .inr (.inl of2_4269))), (oD, .inl (G.2 6, 1, .inr (.inr (.inr (.inl og)))))] ++ (W2_4270 ++ (W2_4277 ++ []))) ++ []) := segs_perm [[(oD, .inl (G.2 6, 1, .inr (.inr (.inr (.inl og)))))], [(o, .inl (G.2 5, 1, .inr (.inl of2_4269)))], W2_4270, W2_4277] [1, 0, 2, 3] [] rfl
    have hP : va_P G.1 CL ([(o, .inl (G.2 5, 1, .inr (.inl of2_4269))), (oD, .inl (G.2 6, 1, .inr (.inr (.inr (.inl og)))))] ++ (W2_4270 ++ (W2_4277 ++ []))) H := P_left (P_perm hpm_4286 hP)
    have hD : va_D A ([(o, .inl (G.2 5, 1, .inr (.inl of2_4269))), (oD, .inl (G.2 6, 1, .inr (.inr (.inr (.inl og)))))] ++ (W2_4270 ++ (W2_4277 ++ []))) := D_left (D_perm hpm_4286 hD)
    have hl := lv_sub hl [2, 3, 4, 5, 6, 7] (l' := [(0, .ref b), (1, .ref d), (2, .ref m0), (3, .ref o), (4, .ref oD), (5, .int (nI i9))]) rfl
    exact W.widen (show cl + 8300 ≤ cl + 20000 from by omega) (show sl + 17000 ≤ sl + 45000 from by omega) (kk ls H locs C M (((q_fit (dC M) (sx9 xs (i9 + 1)))).1) W2_4270 W2_4277 of2_4269 og hP hD hS hl hq_4273 hq_4279 hLw.up)

set_option maxHeartbeats 4000000 in
theorem lawK_27 {p : Program} {l : Launch} {e : Env} {s : State} {m : MethodId} {below : List Frame} {meth : Method} {c : Code} {G : Gt} {A : Nat → Prop} {b L : Nat} {xs : Nat → Int32} {Q : State → Prop} {d m0 o oD i9 N cl sl : Nat} (hfl : l.stackTraces = false) (F : LwF G A p s m c b L xs) (hi9 : i9 + 4 ≤ L) (hN24 : N ≤ 24) (hcl : cl + 20000 ≤ 1200144) (hsl : sl + 45000 ≤ 5495674) (kk : ∀ (ls : Array Slot) (H : Heap) (locs : List Loc) (C M : DS) (th : Nat) (WD WM : va_W) (of : Nat → Int64) (og : Nat → UInt64), va_P G.1 CL ([(o, .inl (G.2 5, 1, .inr (.inl of))), (oD, .inl (G.2 6, 1, .inr (.inr (.inr (.inl og)))))] ++ (WD ++ (WM ++ []))) H → va_D A ([(o, .inl (G.2 5, 1, .inr (.inl of))), (oD, .inl (G.2 6, 1, .inr (.inr (.inr (.inl og)))))] ++ (WD ++ (WM ++ []))) → va_S A s.heap H locs → lv_has ls 10 [(0, .ref b), (1, .ref d), (2, .ref m0), (3, .ref o), (4, .ref oD), (5, .int (nI i9))] → DyW G d C WD → MdW G m0 M th WM → LawI C M (N + 1) → W p l e room_1 s m #[Value.ref b] below meth c H locs (cl + 20000) (sl + 45000) Q (F0 m 2788 ls [])) {ls : Array Slot} {H : Heap} {locs : List Loc} {C M : DS} {th : Nat} {WD WM : va_W} {of : Nat → Int64} {og : Nat → UInt64} (hP : va_P G.1 CL ([(o, .inl (G.2 5, 1, .inr (.inl of))), (oD, .inl (G.2 6, 1, .inr (.inr (.inr (.inl og)))))] ++ (WD ++ (WM ++ []))) H) (hD : va_D A ([(o, .inl (G.2 5, 1, .inr (.inl of))), (oD, .inl (G.2 6, 1, .inr (.inr (.inr (.inl og)))))] ++ (WD ++ (WM ++ [])))) (hS : va_S A s.heap H locs) (hl : lv_has ls 10 [(0, .ref b), (1, .ref d), (2, .ref m0), (3, .ref o), (4, .ref oD), (5, .int (nI i9))]) (hDy : DyW G d C WD) (hMd : MdW G m0 M th WM) (hLw : LawI C M N) : W p l e room_1 s m #[Value.ref b] below meth c H locs cl sl Q (F0 m 1750 ls []) := by
  obtain ⟨cf, hKB, hE, hA, hX9, hbl, hbA, hNc, hL96⟩ := F
  have hx := cf.1
  have hb := cf.2.1
  have hml := cf.2.2.1
  have hown : s.vm.findClass RX0 = some m.cls := cf.2.2.2.1
  have hts := cf.2.2.2.2
  have hK := hKB.1
  have hIc := hDy.inv.1
  have hIm : Inv (dC M) := Inv_sim hLw.1 hIc
  have hRk : RkOk (dC M) := RkOk_sim hLw.1 (RkOk_srt hDy.inv.2.2)
  have hl := hl
  refine lv_aload_n hx hb dL_law_1750 rfl (lv_at hl 1 rfl) ?_
  refine lv_aload_n hx hb dL_law_1751 rfl (lv_at hl 0 rfl) ?_
  refine lv_iload hx hb dL_law_1752 (lv_at hl 5 rfl) ?_
  refine lv_iconst (v := nI 1) hx hb dL_law_1754 (by decide) ?_
  refine lv_iadd hx hb dL_law_1755 ?_
  refine lv_ton (n := i9 + 1) (nadd (by omega)) ?_
  refine va_sld hx hb hX9 hbl hbA hS (i := nI (i9 + 1)) (vp9 (by omega) hL96) dL_law_1756 ?_
  refine W.eq (g2 := F0 m 1757 ls [.int (sx9 xs (i9 + 1)), .ref d]) rfl ?_
  refine lv_aload_n hx hb dL_law_1757 rfl (lv_at hl 3 rfl) ?_
  have hpm_4287 : (([(o, .inl (G.2 5, 1, .inr (.inl of))), (oD, .inl (G.2 6, 1, .inr (.inr (.inr (.inl og)))))] ++ (WD ++ (WM ++ []))) : va_W).Perm (([(o, .inl (G.2 5, 1, .inr (.inl of)))] ++ (WD ++ [])) ++ ([(oD, .inl (G.2 6, 1, .inr (.inr (.inr (.inl og)))))] ++ (WM ++ []))) := segs_perm [[(o, .inl (G.2 5, 1, .inr (.inl of)))], [(oD, .inl (G.2 6, 1, .inr (.inr (.inr (.inl og)))))], WD, WM] [0, 2] [1, 3] rfl
  have hF := hF_ofP (wc := ([(o, .inl (G.2 5, 1, .inr (.inl of)))] ++ (WD ++ []))) hD hS hA hpm_4287
  refine go_ctP hS hP hD hpm_4287 hF
      (vx_runSW (As := [.ref d, .int (sx9 xs (i9 + 1)), .ref o]) (rest := []) cf (wX0_fatigueOn l G d C WD o of (sx9 xs (i9 + 1)) (hDy) hfl H.size) (vx_cwSW 3 hts (lw_SW q1318 q1319 q46 q1320) rfl rfl rfl (by decide +kernel) ⟨Nat.le_of_ble_eq_true rfl, Nat.le_of_ble_eq_true rfl⟩) (preS_ofW hNc hKB hE hS hF (P_left (P_perm hpm_4287 hP)) ((D_left (D_perm hpm_4287 hD)).weaken (fun _ _ _ _ => trivial)) trivial) rfl rfl hl.1 rfl (lv_room (Nat.le_of_ble_eq_true rfl)) dL_law_1758 ⟨show cl + 8300 ≤ 1200144 from by first | decide | omega, show sl + 17000 ≤ 5495674 from by first | decide | omega⟩)
      (fun u_ H locs hq hph (hP : va_P G.1 CL (([(oD, .inl (G.2 6, 1, .inr (.inr (.inr (.inl og)))))] ++ (WM ++ [])) ++ ([(o, .inl (G.2 5, 1, .inr (.inl u_.1)))] ++ (u_.2 ++ []))) H) (hD : va_D A (([(oD, .inl (G.2 6, 1, .inr (.inr (.inr (.inl og)))))] ++ (WM ++ [])) ++ ([(o, .inl (G.2 5, 1, .inr (.inl u_.1)))] ++ (u_.2 ++ [])))) hS hfz hfk => ?_)
  obtain ⟨of2_4288, W2_4289⟩ := u_
  obtain ⟨hq_4290, hq_4291, hq_4292⟩ : ((q_fat (dC C) (sx9 xs (i9 + 1))).1 = 0 → of2_4288 0 = ((q_fat (dC C) (sx9 xs (i9 + 1))).2).toInt64) ∧ (q_fat (dC C) (sx9 xs (i9 + 1))).1 < 10 ∧ DyW G d C W2_4289 := hq
  have hpm_4293 : (([(oD, .inl (G.2 6, 1, .inr (.inr (.inr (.inl og)))))] ++ (WM ++ [])) ++ ([(o, .inl (G.2 5, 1, .inr (.inl of2_4288)))] ++ (W2_4289 ++ [])) : va_W).Perm ([(oD, .inl (G.2 6, 1, .inr (.inr (.inr (.inl og))))), (o, .inl (G.2 5, 1, .inr (.inl of2_4288)))] ++ (WM ++ (W2_4289 ++ []))) := segs_perm2 [[(oD, .inl (G.2 6, 1, .inr (.inr (.inr (.inl og)))))], WM] [[(o, .inl (G.2 5, 1, .inr (.inl of2_4288)))], W2_4289] [0, 2, 1, 3] rfl
  have hP : va_P G.1 CL ([(oD, .inl (G.2 6, 1, .inr (.inr (.inr (.inl og))))), (o, .inl (G.2 5, 1, .inr (.inl of2_4288)))] ++ (WM ++ (W2_4289 ++ []))) H := P_perm hpm_4293 hP
  have hD : va_D A ([(oD, .inl (G.2 6, 1, .inr (.inr (.inr (.inl og))))), (o, .inl (G.2 5, 1, .inr (.inl of2_4288)))] ++ (WM ++ (W2_4289 ++ []))) := D_perm hpm_4293 hD
  refine W.eq (g2 := F0 m 1761 ls [.int (nI ((q_fat (dC C) (sx9 xs (i9 + 1))).1))]) rfl ?_
  have hqs : (q_fat (dC M) (sx9 xs (i9 + 1))) = (q_fat (dC C) (sx9 xs (i9 + 1))) := q_fat_sim hLw.1.symm hIm (sx9 xs (i9 + 1))
  refine lv_istore (lv' := [(6, .int (nI ((q_fat (dC C) (sx9 xs (i9 + 1))).1))), (0, .ref b), (1, .ref d), (2, .ref m0), (3, .ref o), (4, .ref oD), (5, .int (nI i9))]) hx hb dL_law_1761 hl (by decide) rfl (fun ls hl => ?_)
  refine lv_aload_n hx hb dL_law_1763 rfl (lv_at hl 3 rfl) ?_
  refine lv_aload_n hx hb dL_law_1764 rfl (lv_at hl 1 rfl) ?_
  refine lv_iload hx hb dL_law_1765 (lv_at hl 6 rfl) ?_
  refine lv_iconst (v := nI 1) hx hb dL_law_1767 (by decide) ?_
  refine lv_iadd hx hb dL_law_1768 ?_
  refine lv_ton (n := i9 + 1) (nadd (by omega)) ?_
  refine va_sld hx hb hX9 hbl hbA hS (i := nI (i9 + 1)) (vp9 (by omega) hL96) dL_law_1769 ?_
  refine W.eq (g2 := F0 m 1770 ls [.int (sx9 xs (i9 + 1)), .ref m0]) rfl ?_
  have hpm_4294 : (([(oD, .inl (G.2 6, 1, .inr (.inr (.inr (.inl og))))), (o, .inl (G.2 5, 1, .inr (.inl of2_4288)))] ++ (WM ++ (W2_4289 ++ []))) : va_W).Perm ((WM ++ []) ++ ([(oD, .inl (G.2 6, 1, .inr (.inr (.inr (.inl og))))), (o, .inl (G.2 5, 1, .inr (.inl of2_4288)))] ++ (W2_4289 ++ []))) := segs_perm [[(oD, .inl (G.2 6, 1, .inr (.inr (.inr (.inl og)))))], [(o, .inl (G.2 5, 1, .inr (.inl of2_4288)))], WM, W2_4289] [2] [0, 1, 3] rfl
  have hF := hF_ofP (wc := (WM ++ [])) hD hS hA hpm_4294
  refine go_ctP hS hP hD hpm_4294 hF
      (va_runV (As := [.int (sx9 xs (i9 + 1))]) (rest := []) cf (eX4_fatigueOn l G m0 M th WM (sx9 xs (i9 + 1)) (hMd) (hIm) H.size) (cwV 1 hts (lw_V q1820 q1821 q1822 q58 q1823) rfl rfl rfl (by decide +kernel) ⟨Nat.le_of_ble_eq_true rfl, Nat.le_of_ble_eq_true rfl⟩) (preV_of hKB hE hS hF (MdW.recv hK hMd (seg_at [[(oD, .inl (G.2 6, 1, .inr (.inr (.inr (.inl og)))))], [(o, .inl (G.2 5, 1, .inr (.inl of2_4288)))], WM, W2_4289] 2 rfl hP)) (P_left (P_perm hpm_4294 hP)) ((D_left (D_perm hpm_4294 hD)).weaken (fun _ _ _ _ => trivial)) trivial) rfl rfl hl.1 rfl (lv_room (Nat.le_of_ble_eq_true rfl)) dL_law_1770 ⟨show cl + 8300 + 0 ≤ 1200144 from by first | decide | omega, show sl + 17000 + 0 ≤ 5495674 from by first | decide | omega⟩)
      (fun u_ H locs hq hph (hP : va_P G.1 CL (([(oD, .inl (G.2 6, 1, .inr (.inr (.inr (.inl og))))), (o, .inl (G.2 5, 1, .inr (.inl of2_4288)))] ++ (W2_4289 ++ [])) ++ (u_.2 ++ [])) H) (hD : va_D A (([(oD, .inl (G.2 6, 1, .inr (.inr (.inr (.inl og))))), (o, .inl (G.2 5, 1, .inr (.inl of2_4288)))] ++ (W2_4289 ++ [])) ++ (u_.2 ++ []))) hS hfz hfk => ?_)
  obtain ⟨rr_4295, W2_4296⟩ := u_
  obtain ⟨hq_4297, hq_4298⟩ : ((q_fat (dC M) (sx9 xs (i9 + 1))).1 = 0 → rr_4295 = (q_fat (dC M) (sx9 xs (i9 + 1))).2) ∧ MdW G m0 M (q_fat (dC M) (sx9 xs (i9 + 1))).1 W2_4296 := hq
  have hpm_4299 : (([(oD, .inl (G.2 6, 1, .inr (.inr (.inr (.inl og))))), (o, .inl (G.2 5, 1, .inr (.inl of2_4288)))] ++ (W2_4289 ++ [])) ++ (W2_4296 ++ []) : va_W).Perm ([(oD, .inl (G.2 6, 1, .inr (.inr (.inr (.inl og))))), (o, .inl (G.2 5, 1, .inr (.inl of2_4288)))] ++ (W2_4289 ++ (W2_4296 ++ []))) := segs_perm2 [[(oD, .inl (G.2 6, 1, .inr (.inr (.inr (.inl og)))))], [(o, .inl (G.2 5, 1, .inr (.inl of2_4288)))], W2_4289] [W2_4296] [0, 1, 2, 3] rfl
  have hP : va_P G.1 CL ([(oD, .inl (G.2 6, 1, .inr (.inr (.inr (.inl og))))), (o, .inl (G.2 5, 1, .inr (.inl of2_4288)))] ++ (W2_4289 ++ (W2_4296 ++ []))) H := P_perm hpm_4299 hP
  have hD : va_D A ([(oD, .inl (G.2 6, 1, .inr (.inr (.inr (.inl og))))), (o, .inl (G.2 5, 1, .inr (.inl of2_4288)))] ++ (W2_4289 ++ (W2_4296 ++ []))) := D_perm hpm_4299 hD
  refine W.eq (g2 := F0 m 1773 ls [.int rr_4295]) rfl ?_
  refine lv_istore (lv' := [(7, .int rr_4295), (6, .int (nI ((q_fat (dC C) (sx9 xs (i9 + 1))).1))), (0, .ref b), (1, .ref d), (2, .ref m0), (3, .ref o), (4, .ref oD), (5, .int (nI i9))]) hx hb dL_law_1773 hl (by decide) rfl (fun ls hl => ?_)
  refine lv_aload_n hx hb dL_law_1775 rfl (lv_at hl 4 rfl) ?_
  have hpm_4300 : (([(oD, .inl (G.2 6, 1, .inr (.inr (.inr (.inl og))))), (o, .inl (G.2 5, 1, .inr (.inl of2_4288)))] ++ (W2_4289 ++ (W2_4296 ++ []))) : va_W).Perm ([] ++ ([(oD, .inl (G.2 6, 1, .inr (.inr (.inr (.inl og))))), (o, .inl (G.2 5, 1, .inr (.inl of2_4288)))] ++ (W2_4289 ++ (W2_4296 ++ [])))) := segs_perm [[(oD, .inl (G.2 6, 1, .inr (.inr (.inr (.inl og)))))], [(o, .inl (G.2 5, 1, .inr (.inl of2_4288)))], W2_4289, W2_4296] [] [0, 1, 2, 3] rfl
  have hF := hF_ofP (wc := []) hD hS hA hpm_4300
  refine go_ctP hS hP hD hpm_4300 hF
      (va_runV (As := []) (rest := []) cf (eX4_thrown l G m0 M (((q_fat (dC M) (sx9 xs (i9 + 1)))).1) W2_4296 (hq_4298) H.size) (cwV 0 hts (lw_V q1639 q1640 q1641 q58 q1642) rfl rfl rfl (by decide +kernel) ⟨Nat.le_of_ble_eq_true rfl, Nat.le_of_ble_eq_true rfl⟩) (preV_of hKB hE hS hF (MdW.recv hK hq_4298 (seg_at [[(oD, .inl (G.2 6, 1, .inr (.inr (.inr (.inl og)))))], [(o, .inl (G.2 5, 1, .inr (.inl of2_4288)))], W2_4289, W2_4296] 3 rfl hP)) (P_left (P_perm hpm_4300 hP)) ((D_left (D_perm hpm_4300 hD)).weaken (fun _ _ _ _ => trivial)) (roW.nil (seg_at [[(oD, .inl (G.2 6, 1, .inr (.inr (.inr (.inl og)))))], [(o, .inl (G.2 5, 1, .inr (.inl of2_4288)))], W2_4289, W2_4296] 3 rfl hP))) rfl rfl hl.1 rfl (lv_room (Nat.le_of_ble_eq_true rfl)) dL_law_1776 ⟨show cl + 8300 + 0 ≤ 1200144 from by first | decide | omega, show sl + 17000 + 0 ≤ 5495674 from by first | decide | omega⟩)
      (fun u_ H locs hq hph (hP : va_P G.1 CL (([(oD, .inl (G.2 6, 1, .inr (.inr (.inr (.inl og))))), (o, .inl (G.2 5, 1, .inr (.inl of2_4288)))] ++ (W2_4289 ++ (W2_4296 ++ []))) ++ []) H) (hD : va_D A (([(oD, .inl (G.2 6, 1, .inr (.inr (.inr (.inl og))))), (o, .inl (G.2 5, 1, .inr (.inl of2_4288)))] ++ (W2_4289 ++ (W2_4296 ++ []))) ++ [])) hS hfz hfk => ?_)
  have hpm_4301 : (([(oD, .inl (G.2 6, 1, .inr (.inr (.inr (.inl og))))), (o, .inl (G.2 5, 1, .inr (.inl of2_4288)))] ++ (W2_4289 ++ (W2_4296 ++ []))) ++ [] : va_W).Perm ([(oD, .inl (G.2 6, 1, .inr (.inr (.inr (.inl og))))), (o, .inl (G.2 5, 1, .inr (.inl of2_4288)))] ++ (W2_4289 ++ (W2_4296 ++ []))) := segs_perm2 [[(oD, .inl (G.2 6, 1, .inr (.inr (.inr (.inl og)))))], [(o, .inl (G.2 5, 1, .inr (.inl of2_4288)))], W2_4289, W2_4296] [] [0, 1, 2, 3] rfl
  have hP : va_P G.1 CL ([(oD, .inl (G.2 6, 1, .inr (.inr (.inr (.inl og))))), (o, .inl (G.2 5, 1, .inr (.inl of2_4288)))] ++ (W2_4289 ++ (W2_4296 ++ []))) H := P_perm hpm_4301 hP
  have hD : va_D A ([(oD, .inl (G.2 6, 1, .inr (.inr (.inr (.inl og))))), (o, .inl (G.2 5, 1, .inr (.inl of2_4288)))] ++ (W2_4289 ++ (W2_4296 ++ []))) := D_perm hpm_4301 hD
  refine W.eq (g2 := F0 m 1779 ls [.int (nI (((q_fat (dC M) (sx9 xs (i9 + 1)))).1))]) rfl ?_
  refine lv_ton (n := ((q_fat (dC C) (sx9 xs (i9 + 1))).1)) (congrArg nI (by rw [hqs])) ?_
  refine lv_iload hx hb dL_law_1779 (lv_at hl 1 rfl) ?_
  refine lv_icmp_eq (tgt := 1786) hx hb dL_law_1781 (by decide) (fun _ => ?_) (fun c9 => absurd rfl c9)
  refine lv_iload hx hb dL_law_1786 (lv_at hl 1 rfl) ?_
  refine n_if_ne (tgt := 1803) hx hb (by omega) dL_law_1788 (by decide) (fun c_4302 => ?_) (fun c_4302 => ?_)
  · refine lv_goto (tgt := 2788) hx hb dL_law_1803 (by decide) ?_
    have hpm_4303 : (([(oD, .inl (G.2 6, 1, .inr (.inr (.inr (.inl og))))), (o, .inl (G.2 5, 1, .inr (.inl of2_4288)))] ++ (W2_4289 ++ (W2_4296 ++ []))) : va_W).Perm (([(o, .inl (G.2 5, 1, .inr (.inl of2_4288))), (oD, .inl (G.2 6, 1, .inr (.inr (.inr (.inl og)))))] ++ (W2_4289 ++ (W2_4296 ++ []))) ++ []) := segs_perm [[(oD, .inl (G.2 6, 1, .inr (.inr (.inr (.inl og)))))], [(o, .inl (G.2 5, 1, .inr (.inl of2_4288)))], W2_4289, W2_4296] [1, 0, 2, 3] [] rfl
    have hP : va_P G.1 CL ([(o, .inl (G.2 5, 1, .inr (.inl of2_4288))), (oD, .inl (G.2 6, 1, .inr (.inr (.inr (.inl og)))))] ++ (W2_4289 ++ (W2_4296 ++ []))) H := P_left (P_perm hpm_4303 hP)
    have hD : va_D A ([(o, .inl (G.2 5, 1, .inr (.inl of2_4288))), (oD, .inl (G.2 6, 1, .inr (.inr (.inr (.inl og)))))] ++ (W2_4289 ++ (W2_4296 ++ []))) := D_left (D_perm hpm_4303 hD)
    have hl := lv_sub hl [2, 3, 4, 5, 6, 7] (l' := [(0, .ref b), (1, .ref d), (2, .ref m0), (3, .ref o), (4, .ref oD), (5, .int (nI i9))]) rfl
    exact W.widen (show cl + 8300 ≤ cl + 20000 from by omega) (show sl + 17000 ≤ sl + 45000 from by omega) (kk ls H locs C M (((q_fat (dC M) (sx9 xs (i9 + 1)))).1) W2_4289 W2_4296 of2_4288 og hP hD hS hl hq_4292 hq_4298 hLw.up)
  · refine lv_aload_n hx hb dL_law_1791 rfl (lv_at hl 5 rfl) ?_
    refine lv_iconst (v := nI 0) hx hb dL_law_1792 (by decide) ?_
    refine r_lald (v := (((q_fat (dC C) (sx9 xs (i9 + 1)))).2).toInt64) hx hb hK hP 1 5 rfl rfl (i := 0) (by omega) (by omega) ((hq_4290 (by omega))) dL_law_1793 ?_
    refine lv_iload hx hb dL_law_1794 (lv_at hl 0 rfl) ?_
    refine lv_toi (y := ((q_fat (dC C) (sx9 xs (i9 + 1)))).2) ((hq_4297 (by rw [hqs]; omega)).trans (by rw [hqs])) ?_
    refine lv_i2l (v := (((q_fat (dC C) (sx9 xs (i9 + 1)))).2).toInt64) hx hb dL_law_1796 rfl ?_
    refine W.lcmp hx hb dL_law_1797 ?_
    refine lv_ton (n := 0) (lcmp0 _) ?_
    refine n_if_eq (tgt := 1803) hx hb (by omega) dL_law_1798 (by decide) (fun c_4304 => ?_) (fun c_4304 => absurd c_4304 (by omega))
    refine lv_goto (tgt := 2788) hx hb dL_law_1803 (by decide) ?_
    have hpm_4305 : (([(oD, .inl (G.2 6, 1, .inr (.inr (.inr (.inl og))))), (o, .inl (G.2 5, 1, .inr (.inl of2_4288)))] ++ (W2_4289 ++ (W2_4296 ++ []))) : va_W).Perm (([(o, .inl (G.2 5, 1, .inr (.inl of2_4288))), (oD, .inl (G.2 6, 1, .inr (.inr (.inr (.inl og)))))] ++ (W2_4289 ++ (W2_4296 ++ []))) ++ []) := segs_perm [[(oD, .inl (G.2 6, 1, .inr (.inr (.inr (.inl og)))))], [(o, .inl (G.2 5, 1, .inr (.inl of2_4288)))], W2_4289, W2_4296] [1, 0, 2, 3] [] rfl
    have hP : va_P G.1 CL ([(o, .inl (G.2 5, 1, .inr (.inl of2_4288))), (oD, .inl (G.2 6, 1, .inr (.inr (.inr (.inl og)))))] ++ (W2_4289 ++ (W2_4296 ++ []))) H := P_left (P_perm hpm_4305 hP)
    have hD : va_D A ([(o, .inl (G.2 5, 1, .inr (.inl of2_4288))), (oD, .inl (G.2 6, 1, .inr (.inr (.inr (.inl og)))))] ++ (W2_4289 ++ (W2_4296 ++ []))) := D_left (D_perm hpm_4305 hD)
    have hl := lv_sub hl [2, 3, 4, 5, 6, 7] (l' := [(0, .ref b), (1, .ref d), (2, .ref m0), (3, .ref o), (4, .ref oD), (5, .int (nI i9))]) rfl
    exact W.widen (show cl + 8300 ≤ cl + 20000 from by omega) (show sl + 17000 ≤ sl + 45000 from by omega) (kk ls H locs C M (((q_fat (dC M) (sx9 xs (i9 + 1)))).1) W2_4289 W2_4296 of2_4288 og hP hD hS hl hq_4292 hq_4298 hLw.up)

set_option maxHeartbeats 4000000 in
theorem lawK_28 {p : Program} {l : Launch} {e : Env} {s : State} {m : MethodId} {below : List Frame} {meth : Method} {c : Code} {G : Gt} {A : Nat → Prop} {b L : Nat} {xs : Nat → Int32} {Q : State → Prop} {d m0 o oD i9 N cl sl : Nat} (hfl : l.stackTraces = false) (F : LwF G A p s m c b L xs) (hi9 : i9 + 4 ≤ L) (hN24 : N ≤ 24) (hcl : cl + 20000 ≤ 1200144) (hsl : sl + 45000 ≤ 5495674) (kk : ∀ (ls : Array Slot) (H : Heap) (locs : List Loc) (C M : DS) (th : Nat) (WD WM : va_W) (of : Nat → Int64) (og : Nat → UInt64), va_P G.1 CL ([(o, .inl (G.2 5, 1, .inr (.inl of))), (oD, .inl (G.2 6, 1, .inr (.inr (.inr (.inl og)))))] ++ (WD ++ (WM ++ []))) H → va_D A ([(o, .inl (G.2 5, 1, .inr (.inl of))), (oD, .inl (G.2 6, 1, .inr (.inr (.inr (.inl og)))))] ++ (WD ++ (WM ++ []))) → va_S A s.heap H locs → lv_has ls 10 [(0, .ref b), (1, .ref d), (2, .ref m0), (3, .ref o), (4, .ref oD), (5, .int (nI i9))] → DyW G d C WD → MdW G m0 M th WM → LawI C M (N + 1) → W p l e room_1 s m #[Value.ref b] below meth c H locs (cl + 20000) (sl + 45000) Q (F0 m 2788 ls [])) {ls : Array Slot} {H : Heap} {locs : List Loc} {C M : DS} {th : Nat} {WD WM : va_W} {of : Nat → Int64} {og : Nat → UInt64} (hP : va_P G.1 CL ([(o, .inl (G.2 5, 1, .inr (.inl of))), (oD, .inl (G.2 6, 1, .inr (.inr (.inr (.inl og)))))] ++ (WD ++ (WM ++ []))) H) (hD : va_D A ([(o, .inl (G.2 5, 1, .inr (.inl of))), (oD, .inl (G.2 6, 1, .inr (.inr (.inr (.inl og)))))] ++ (WD ++ (WM ++ [])))) (hS : va_S A s.heap H locs) (hl : lv_has ls 10 [(0, .ref b), (1, .ref d), (2, .ref m0), (3, .ref o), (4, .ref oD), (5, .int (nI i9))]) (hDy : DyW G d C WD) (hMd : MdW G m0 M th WM) (hLw : LawI C M N) : W p l e room_1 s m #[Value.ref b] below meth c H locs cl sl Q (F0 m 1806 ls []) := by
  obtain ⟨cf, hKB, hE, hA, hX9, hbl, hbA, hNc, hL96⟩ := F
  have hx := cf.1
  have hb := cf.2.1
  have hml := cf.2.2.1
  have hown : s.vm.findClass RX0 = some m.cls := cf.2.2.2.1
  have hts := cf.2.2.2.2
  have hK := hKB.1
  have hIc := hDy.inv.1
  have hIm : Inv (dC M) := Inv_sim hLw.1 hIc
  have hRk : RkOk (dC M) := RkOk_sim hLw.1 (RkOk_srt hDy.inv.2.2)
  have hl := hl
  refine lv_aload_n hx hb dL_law_1806 rfl (lv_at hl 1 rfl) ?_
  refine lv_aload_n hx hb dL_law_1807 rfl (lv_at hl 0 rfl) ?_
  refine lv_iload hx hb dL_law_1808 (lv_at hl 5 rfl) ?_
  refine lv_iconst (v := nI 1) hx hb dL_law_1810 (by decide) ?_
  refine lv_iadd hx hb dL_law_1811 ?_
  refine lv_ton (n := i9 + 1) (nadd (by omega)) ?_
  refine va_sld hx hb hX9 hbl hbA hS (i := nI (i9 + 1)) (vp9 (by omega) hL96) dL_law_1812 ?_
  refine W.eq (g2 := F0 m 1813 ls [.int (sx9 xs (i9 + 1)), .ref d]) rfl ?_
  refine lv_aload_n hx hb dL_law_1813 rfl (lv_at hl 3 rfl) ?_
  have hpm_4306 : (([(o, .inl (G.2 5, 1, .inr (.inl of))), (oD, .inl (G.2 6, 1, .inr (.inr (.inr (.inl og)))))] ++ (WD ++ (WM ++ []))) : va_W).Perm (([(o, .inl (G.2 5, 1, .inr (.inl of)))] ++ (WD ++ [])) ++ ([(oD, .inl (G.2 6, 1, .inr (.inr (.inr (.inl og)))))] ++ (WM ++ []))) := segs_perm [[(o, .inl (G.2 5, 1, .inr (.inl of)))], [(oD, .inl (G.2 6, 1, .inr (.inr (.inr (.inl og)))))], WD, WM] [0, 2] [1, 3] rfl
  have hF := hF_ofP (wc := ([(o, .inl (G.2 5, 1, .inr (.inl of)))] ++ (WD ++ []))) hD hS hA hpm_4306
  refine go_ctP hS hP hD hpm_4306 hF
      (vx_runSW (As := [.ref d, .int (sx9 xs (i9 + 1)), .ref o]) (rest := []) cf (wX0_fatigueFromStart l G d C WD o of (sx9 xs (i9 + 1)) (hDy) hfl H.size) (vx_cwSW 3 hts (lw_SW q1326 q1327 q46 q1328) rfl rfl rfl (by decide +kernel) ⟨Nat.le_of_ble_eq_true rfl, Nat.le_of_ble_eq_true rfl⟩) (preS_ofW hNc hKB hE hS hF (P_left (P_perm hpm_4306 hP)) ((D_left (D_perm hpm_4306 hD)).weaken (fun _ _ _ _ => trivial)) trivial) rfl rfl hl.1 rfl (lv_room (Nat.le_of_ble_eq_true rfl)) dL_law_1814 ⟨show cl + 8300 ≤ 1200144 from by first | decide | omega, show sl + 17000 ≤ 5495674 from by first | decide | omega⟩)
      (fun u_ H locs hq hph (hP : va_P G.1 CL (([(oD, .inl (G.2 6, 1, .inr (.inr (.inr (.inl og)))))] ++ (WM ++ [])) ++ ([(o, .inl (G.2 5, 1, .inr (.inl u_.1)))] ++ (u_.2 ++ []))) H) (hD : va_D A (([(oD, .inl (G.2 6, 1, .inr (.inr (.inr (.inl og)))))] ++ (WM ++ [])) ++ ([(o, .inl (G.2 5, 1, .inr (.inl u_.1)))] ++ (u_.2 ++ [])))) hS hfz hfk => ?_)
  obtain ⟨of2_4307, W2_4308⟩ := u_
  obtain ⟨hq_4309, hq_4310, hq_4311⟩ : ((q_fat (dC C) (sx9 xs (i9 + 1))).1 = 0 → of2_4307 0 = ((q_fat (dC C) (sx9 xs (i9 + 1))).2).toInt64) ∧ (q_fat (dC C) (sx9 xs (i9 + 1))).1 < 10 ∧ DyW G d C W2_4308 := hq
  have hpm_4312 : (([(oD, .inl (G.2 6, 1, .inr (.inr (.inr (.inl og)))))] ++ (WM ++ [])) ++ ([(o, .inl (G.2 5, 1, .inr (.inl of2_4307)))] ++ (W2_4308 ++ [])) : va_W).Perm ([(oD, .inl (G.2 6, 1, .inr (.inr (.inr (.inl og))))), (o, .inl (G.2 5, 1, .inr (.inl of2_4307)))] ++ (WM ++ (W2_4308 ++ []))) := segs_perm2 [[(oD, .inl (G.2 6, 1, .inr (.inr (.inr (.inl og)))))], WM] [[(o, .inl (G.2 5, 1, .inr (.inl of2_4307)))], W2_4308] [0, 2, 1, 3] rfl
  have hP : va_P G.1 CL ([(oD, .inl (G.2 6, 1, .inr (.inr (.inr (.inl og))))), (o, .inl (G.2 5, 1, .inr (.inl of2_4307)))] ++ (WM ++ (W2_4308 ++ []))) H := P_perm hpm_4312 hP
  have hD : va_D A ([(oD, .inl (G.2 6, 1, .inr (.inr (.inr (.inl og))))), (o, .inl (G.2 5, 1, .inr (.inl of2_4307)))] ++ (WM ++ (W2_4308 ++ []))) := D_perm hpm_4312 hD
  refine W.eq (g2 := F0 m 1817 ls [.int (nI ((q_fat (dC C) (sx9 xs (i9 + 1))).1))]) rfl ?_
  have hqs : (q_fat (dC M) (sx9 xs (i9 + 1))) = (q_fat (dC C) (sx9 xs (i9 + 1))) := q_fat_sim hLw.1.symm hIm (sx9 xs (i9 + 1))
  refine lv_istore (lv' := [(6, .int (nI ((q_fat (dC C) (sx9 xs (i9 + 1))).1))), (0, .ref b), (1, .ref d), (2, .ref m0), (3, .ref o), (4, .ref oD), (5, .int (nI i9))]) hx hb dL_law_1817 hl (by decide) rfl (fun ls hl => ?_)
  refine lv_aload_n hx hb dL_law_1819 rfl (lv_at hl 3 rfl) ?_
  refine lv_aload_n hx hb dL_law_1820 rfl (lv_at hl 1 rfl) ?_
  refine lv_iload hx hb dL_law_1821 (lv_at hl 6 rfl) ?_
  refine lv_iconst (v := nI 1) hx hb dL_law_1823 (by decide) ?_
  refine lv_iadd hx hb dL_law_1824 ?_
  refine lv_ton (n := i9 + 1) (nadd (by omega)) ?_
  refine va_sld hx hb hX9 hbl hbA hS (i := nI (i9 + 1)) (vp9 (by omega) hL96) dL_law_1825 ?_
  refine W.eq (g2 := F0 m 1826 ls [.int (sx9 xs (i9 + 1)), .ref m0]) rfl ?_
  have hpm_4313 : (([(oD, .inl (G.2 6, 1, .inr (.inr (.inr (.inl og))))), (o, .inl (G.2 5, 1, .inr (.inl of2_4307)))] ++ (WM ++ (W2_4308 ++ []))) : va_W).Perm ((WM ++ []) ++ ([(oD, .inl (G.2 6, 1, .inr (.inr (.inr (.inl og))))), (o, .inl (G.2 5, 1, .inr (.inl of2_4307)))] ++ (W2_4308 ++ []))) := segs_perm [[(oD, .inl (G.2 6, 1, .inr (.inr (.inr (.inl og)))))], [(o, .inl (G.2 5, 1, .inr (.inl of2_4307)))], WM, W2_4308] [2] [0, 1, 3] rfl
  have hF := hF_ofP (wc := (WM ++ [])) hD hS hA hpm_4313
  refine go_ctP hS hP hD hpm_4313 hF
      (va_runV (As := [.int (sx9 xs (i9 + 1))]) (rest := []) cf (eX4_fatigueFromStart l G m0 M th WM (sx9 xs (i9 + 1)) (hMd) (hIm) H.size) (cwV 1 hts (lw_V q1824 q1825 q1826 q58 q1827) rfl rfl rfl (by decide +kernel) ⟨Nat.le_of_ble_eq_true rfl, Nat.le_of_ble_eq_true rfl⟩) (preV_of hKB hE hS hF (MdW.recv hK hMd (seg_at [[(oD, .inl (G.2 6, 1, .inr (.inr (.inr (.inl og)))))], [(o, .inl (G.2 5, 1, .inr (.inl of2_4307)))], WM, W2_4308] 2 rfl hP)) (P_left (P_perm hpm_4313 hP)) ((D_left (D_perm hpm_4313 hD)).weaken (fun _ _ _ _ => trivial)) trivial) rfl rfl hl.1 rfl (lv_room (Nat.le_of_ble_eq_true rfl)) dL_law_1826 ⟨show cl + 8300 + 0 ≤ 1200144 from by first | decide | omega, show sl + 17000 + 0 ≤ 5495674 from by first | decide | omega⟩)
      (fun u_ H locs hq hph (hP : va_P G.1 CL (([(oD, .inl (G.2 6, 1, .inr (.inr (.inr (.inl og))))), (o, .inl (G.2 5, 1, .inr (.inl of2_4307)))] ++ (W2_4308 ++ [])) ++ (u_.2 ++ [])) H) (hD : va_D A (([(oD, .inl (G.2 6, 1, .inr (.inr (.inr (.inl og))))), (o, .inl (G.2 5, 1, .inr (.inl of2_4307)))] ++ (W2_4308 ++ [])) ++ (u_.2 ++ []))) hS hfz hfk => ?_)
  obtain ⟨rr_4314, W2_4315⟩ := u_
  obtain ⟨hq_4316, hq_4317⟩ : ((q_fat (dC M) (sx9 xs (i9 + 1))).1 = 0 → rr_4314 = (q_fat (dC M) (sx9 xs (i9 + 1))).2) ∧ MdW G m0 M (q_fat (dC M) (sx9 xs (i9 + 1))).1 W2_4315 := hq
  have hpm_4318 : (([(oD, .inl (G.2 6, 1, .inr (.inr (.inr (.inl og))))), (o, .inl (G.2 5, 1, .inr (.inl of2_4307)))] ++ (W2_4308 ++ [])) ++ (W2_4315 ++ []) : va_W).Perm ([(oD, .inl (G.2 6, 1, .inr (.inr (.inr (.inl og))))), (o, .inl (G.2 5, 1, .inr (.inl of2_4307)))] ++ (W2_4308 ++ (W2_4315 ++ []))) := segs_perm2 [[(oD, .inl (G.2 6, 1, .inr (.inr (.inr (.inl og)))))], [(o, .inl (G.2 5, 1, .inr (.inl of2_4307)))], W2_4308] [W2_4315] [0, 1, 2, 3] rfl
  have hP : va_P G.1 CL ([(oD, .inl (G.2 6, 1, .inr (.inr (.inr (.inl og))))), (o, .inl (G.2 5, 1, .inr (.inl of2_4307)))] ++ (W2_4308 ++ (W2_4315 ++ []))) H := P_perm hpm_4318 hP
  have hD : va_D A ([(oD, .inl (G.2 6, 1, .inr (.inr (.inr (.inl og))))), (o, .inl (G.2 5, 1, .inr (.inl of2_4307)))] ++ (W2_4308 ++ (W2_4315 ++ []))) := D_perm hpm_4318 hD
  refine W.eq (g2 := F0 m 1829 ls [.int rr_4314]) rfl ?_
  refine lv_istore (lv' := [(7, .int rr_4314), (6, .int (nI ((q_fat (dC C) (sx9 xs (i9 + 1))).1))), (0, .ref b), (1, .ref d), (2, .ref m0), (3, .ref o), (4, .ref oD), (5, .int (nI i9))]) hx hb dL_law_1829 hl (by decide) rfl (fun ls hl => ?_)
  refine lv_aload_n hx hb dL_law_1831 rfl (lv_at hl 4 rfl) ?_
  have hpm_4319 : (([(oD, .inl (G.2 6, 1, .inr (.inr (.inr (.inl og))))), (o, .inl (G.2 5, 1, .inr (.inl of2_4307)))] ++ (W2_4308 ++ (W2_4315 ++ []))) : va_W).Perm ([] ++ ([(oD, .inl (G.2 6, 1, .inr (.inr (.inr (.inl og))))), (o, .inl (G.2 5, 1, .inr (.inl of2_4307)))] ++ (W2_4308 ++ (W2_4315 ++ [])))) := segs_perm [[(oD, .inl (G.2 6, 1, .inr (.inr (.inr (.inl og)))))], [(o, .inl (G.2 5, 1, .inr (.inl of2_4307)))], W2_4308, W2_4315] [] [0, 1, 2, 3] rfl
  have hF := hF_ofP (wc := []) hD hS hA hpm_4319
  refine go_ctP hS hP hD hpm_4319 hF
      (va_runV (As := []) (rest := []) cf (eX4_thrown l G m0 M (((q_fat (dC M) (sx9 xs (i9 + 1)))).1) W2_4315 (hq_4317) H.size) (cwV 0 hts (lw_V q1639 q1640 q1641 q58 q1642) rfl rfl rfl (by decide +kernel) ⟨Nat.le_of_ble_eq_true rfl, Nat.le_of_ble_eq_true rfl⟩) (preV_of hKB hE hS hF (MdW.recv hK hq_4317 (seg_at [[(oD, .inl (G.2 6, 1, .inr (.inr (.inr (.inl og)))))], [(o, .inl (G.2 5, 1, .inr (.inl of2_4307)))], W2_4308, W2_4315] 3 rfl hP)) (P_left (P_perm hpm_4319 hP)) ((D_left (D_perm hpm_4319 hD)).weaken (fun _ _ _ _ => trivial)) (roW.nil (seg_at [[(oD, .inl (G.2 6, 1, .inr (.inr (.inr (.inl og)))))], [(o, .inl (G.2 5, 1, .inr (.inl of2_4307)))], W2_4308, W2_4315] 3 rfl hP))) rfl rfl hl.1 rfl (lv_room (Nat.le_of_ble_eq_true rfl)) dL_law_1832 ⟨show cl + 8300 + 0 ≤ 1200144 from by first | decide | omega, show sl + 17000 + 0 ≤ 5495674 from by first | decide | omega⟩)
      (fun u_ H locs hq hph (hP : va_P G.1 CL (([(oD, .inl (G.2 6, 1, .inr (.inr (.inr (.inl og))))), (o, .inl (G.2 5, 1, .inr (.inl of2_4307)))] ++ (W2_4308 ++ (W2_4315 ++ []))) ++ []) H) (hD : va_D A (([(oD, .inl (G.2 6, 1, .inr (.inr (.inr (.inl og))))), (o, .inl (G.2 5, 1, .inr (.inl of2_4307)))] ++ (W2_4308 ++ (W2_4315 ++ []))) ++ [])) hS hfz hfk => ?_)
  have hpm_4320 : (([(oD, .inl (G.2 6, 1, .inr (.inr (.inr (.inl og))))), (o, .inl (G.2 5, 1, .inr (.inl of2_4307)))] ++ (W2_4308 ++ (W2_4315 ++ []))) ++ [] : va_W).Perm ([(oD, .inl (G.2 6, 1, .inr (.inr (.inr (.inl og))))), (o, .inl (G.2 5, 1, .inr (.inl of2_4307)))] ++ (W2_4308 ++ (W2_4315 ++ []))) := segs_perm2 [[(oD, .inl (G.2 6, 1, .inr (.inr (.inr (.inl og)))))], [(o, .inl (G.2 5, 1, .inr (.inl of2_4307)))], W2_4308, W2_4315] [] [0, 1, 2, 3] rfl
  have hP : va_P G.1 CL ([(oD, .inl (G.2 6, 1, .inr (.inr (.inr (.inl og))))), (o, .inl (G.2 5, 1, .inr (.inl of2_4307)))] ++ (W2_4308 ++ (W2_4315 ++ []))) H := P_perm hpm_4320 hP
  have hD : va_D A ([(oD, .inl (G.2 6, 1, .inr (.inr (.inr (.inl og))))), (o, .inl (G.2 5, 1, .inr (.inl of2_4307)))] ++ (W2_4308 ++ (W2_4315 ++ []))) := D_perm hpm_4320 hD
  refine W.eq (g2 := F0 m 1835 ls [.int (nI (((q_fat (dC M) (sx9 xs (i9 + 1)))).1))]) rfl ?_
  refine lv_ton (n := ((q_fat (dC C) (sx9 xs (i9 + 1))).1)) (congrArg nI (by rw [hqs])) ?_
  refine lv_iload hx hb dL_law_1835 (lv_at hl 1 rfl) ?_
  refine lv_icmp_eq (tgt := 1842) hx hb dL_law_1837 (by decide) (fun _ => ?_) (fun c9 => absurd rfl c9)
  refine lv_iload hx hb dL_law_1842 (lv_at hl 1 rfl) ?_
  refine n_if_ne (tgt := 1859) hx hb (by omega) dL_law_1844 (by decide) (fun c_4321 => ?_) (fun c_4321 => ?_)
  · refine lv_goto (tgt := 2788) hx hb dL_law_1859 (by decide) ?_
    have hpm_4322 : (([(oD, .inl (G.2 6, 1, .inr (.inr (.inr (.inl og))))), (o, .inl (G.2 5, 1, .inr (.inl of2_4307)))] ++ (W2_4308 ++ (W2_4315 ++ []))) : va_W).Perm (([(o, .inl (G.2 5, 1, .inr (.inl of2_4307))), (oD, .inl (G.2 6, 1, .inr (.inr (.inr (.inl og)))))] ++ (W2_4308 ++ (W2_4315 ++ []))) ++ []) := segs_perm [[(oD, .inl (G.2 6, 1, .inr (.inr (.inr (.inl og)))))], [(o, .inl (G.2 5, 1, .inr (.inl of2_4307)))], W2_4308, W2_4315] [1, 0, 2, 3] [] rfl
    have hP : va_P G.1 CL ([(o, .inl (G.2 5, 1, .inr (.inl of2_4307))), (oD, .inl (G.2 6, 1, .inr (.inr (.inr (.inl og)))))] ++ (W2_4308 ++ (W2_4315 ++ []))) H := P_left (P_perm hpm_4322 hP)
    have hD : va_D A ([(o, .inl (G.2 5, 1, .inr (.inl of2_4307))), (oD, .inl (G.2 6, 1, .inr (.inr (.inr (.inl og)))))] ++ (W2_4308 ++ (W2_4315 ++ []))) := D_left (D_perm hpm_4322 hD)
    have hl := lv_sub hl [2, 3, 4, 5, 6, 7] (l' := [(0, .ref b), (1, .ref d), (2, .ref m0), (3, .ref o), (4, .ref oD), (5, .int (nI i9))]) rfl
    exact W.widen (show cl + 8300 ≤ cl + 20000 from by omega) (show sl + 17000 ≤ sl + 45000 from by omega) (kk ls H locs C M (((q_fat (dC M) (sx9 xs (i9 + 1)))).1) W2_4308 W2_4315 of2_4307 og hP hD hS hl hq_4311 hq_4317 hLw.up)
  · refine lv_aload_n hx hb dL_law_1847 rfl (lv_at hl 5 rfl) ?_
    refine lv_iconst (v := nI 0) hx hb dL_law_1848 (by decide) ?_
    refine r_lald (v := (((q_fat (dC C) (sx9 xs (i9 + 1)))).2).toInt64) hx hb hK hP 1 5 rfl rfl (i := 0) (by omega) (by omega) ((hq_4309 (by omega))) dL_law_1849 ?_
    refine lv_iload hx hb dL_law_1850 (lv_at hl 0 rfl) ?_
    refine lv_toi (y := ((q_fat (dC C) (sx9 xs (i9 + 1)))).2) ((hq_4316 (by rw [hqs]; omega)).trans (by rw [hqs])) ?_
    refine lv_i2l (v := (((q_fat (dC C) (sx9 xs (i9 + 1)))).2).toInt64) hx hb dL_law_1852 rfl ?_
    refine W.lcmp hx hb dL_law_1853 ?_
    refine lv_ton (n := 0) (lcmp0 _) ?_
    refine n_if_eq (tgt := 1859) hx hb (by omega) dL_law_1854 (by decide) (fun c_4323 => ?_) (fun c_4323 => absurd c_4323 (by omega))
    refine lv_goto (tgt := 2788) hx hb dL_law_1859 (by decide) ?_
    have hpm_4324 : (([(oD, .inl (G.2 6, 1, .inr (.inr (.inr (.inl og))))), (o, .inl (G.2 5, 1, .inr (.inl of2_4307)))] ++ (W2_4308 ++ (W2_4315 ++ []))) : va_W).Perm (([(o, .inl (G.2 5, 1, .inr (.inl of2_4307))), (oD, .inl (G.2 6, 1, .inr (.inr (.inr (.inl og)))))] ++ (W2_4308 ++ (W2_4315 ++ []))) ++ []) := segs_perm [[(oD, .inl (G.2 6, 1, .inr (.inr (.inr (.inl og)))))], [(o, .inl (G.2 5, 1, .inr (.inl of2_4307)))], W2_4308, W2_4315] [1, 0, 2, 3] [] rfl
    have hP : va_P G.1 CL ([(o, .inl (G.2 5, 1, .inr (.inl of2_4307))), (oD, .inl (G.2 6, 1, .inr (.inr (.inr (.inl og)))))] ++ (W2_4308 ++ (W2_4315 ++ []))) H := P_left (P_perm hpm_4324 hP)
    have hD : va_D A ([(o, .inl (G.2 5, 1, .inr (.inl of2_4307))), (oD, .inl (G.2 6, 1, .inr (.inr (.inr (.inl og)))))] ++ (W2_4308 ++ (W2_4315 ++ []))) := D_left (D_perm hpm_4324 hD)
    have hl := lv_sub hl [2, 3, 4, 5, 6, 7] (l' := [(0, .ref b), (1, .ref d), (2, .ref m0), (3, .ref o), (4, .ref oD), (5, .int (nI i9))]) rfl
    exact W.widen (show cl + 8300 ≤ cl + 20000 from by omega) (show sl + 17000 ≤ sl + 45000 from by omega) (kk ls H locs C M (((q_fat (dC M) (sx9 xs (i9 + 1)))).1) W2_4308 W2_4315 of2_4307 og hP hD hS hl hq_4311 hq_4317 hLw.up)

set_option maxHeartbeats 4000000 in
theorem lawK_29 {p : Program} {l : Launch} {e : Env} {s : State} {m : MethodId} {below : List Frame} {meth : Method} {c : Code} {G : Gt} {A : Nat → Prop} {b L : Nat} {xs : Nat → Int32} {Q : State → Prop} {d m0 o oD i9 N cl sl : Nat} (hfl : l.stackTraces = false) (F : LwF G A p s m c b L xs) (hi9 : i9 + 4 ≤ L) (hN24 : N ≤ 24) (hcl : cl + 20000 ≤ 1200144) (hsl : sl + 45000 ≤ 5495674) (kk : ∀ (ls : Array Slot) (H : Heap) (locs : List Loc) (C M : DS) (th : Nat) (WD WM : va_W) (of : Nat → Int64) (og : Nat → UInt64), va_P G.1 CL ([(o, .inl (G.2 5, 1, .inr (.inl of))), (oD, .inl (G.2 6, 1, .inr (.inr (.inr (.inl og)))))] ++ (WD ++ (WM ++ []))) H → va_D A ([(o, .inl (G.2 5, 1, .inr (.inl of))), (oD, .inl (G.2 6, 1, .inr (.inr (.inr (.inl og)))))] ++ (WD ++ (WM ++ []))) → va_S A s.heap H locs → lv_has ls 10 [(0, .ref b), (1, .ref d), (2, .ref m0), (3, .ref o), (4, .ref oD), (5, .int (nI i9))] → DyW G d C WD → MdW G m0 M th WM → LawI C M (N + 1) → W p l e room_1 s m #[Value.ref b] below meth c H locs (cl + 20000) (sl + 45000) Q (F0 m 2788 ls [])) {ls : Array Slot} {H : Heap} {locs : List Loc} {C M : DS} {th : Nat} {WD WM : va_W} {of : Nat → Int64} {og : Nat → UInt64} (hP : va_P G.1 CL ([(o, .inl (G.2 5, 1, .inr (.inl of))), (oD, .inl (G.2 6, 1, .inr (.inr (.inr (.inl og)))))] ++ (WD ++ (WM ++ []))) H) (hD : va_D A ([(o, .inl (G.2 5, 1, .inr (.inl of))), (oD, .inl (G.2 6, 1, .inr (.inr (.inr (.inl og)))))] ++ (WD ++ (WM ++ [])))) (hS : va_S A s.heap H locs) (hl : lv_has ls 10 [(0, .ref b), (1, .ref d), (2, .ref m0), (3, .ref o), (4, .ref oD), (5, .int (nI i9))]) (hDy : DyW G d C WD) (hMd : MdW G m0 M th WM) (hLw : LawI C M N) : W p l e room_1 s m #[Value.ref b] below meth c H locs cl sl Q (F0 m 1862 ls []) := by
  obtain ⟨cf, hKB, hE, hA, hX9, hbl, hbA, hNc, hL96⟩ := F
  have hx := cf.1
  have hb := cf.2.1
  have hml := cf.2.2.1
  have hown : s.vm.findClass RX0 = some m.cls := cf.2.2.2.1
  have hts := cf.2.2.2.2
  have hK := hKB.1
  have hIc := hDy.inv.1
  have hIm : Inv (dC M) := Inv_sim hLw.1 hIc
  have hRk : RkOk (dC M) := RkOk_sim hLw.1 (RkOk_srt hDy.inv.2.2)
  have hl := hl
  refine lv_aload_n hx hb dL_law_1862 rfl (lv_at hl 1 rfl) ?_
  refine lv_aload_n hx hb dL_law_1863 rfl (lv_at hl 0 rfl) ?_
  refine lv_iload hx hb dL_law_1864 (lv_at hl 5 rfl) ?_
  refine lv_iconst (v := nI 1) hx hb dL_law_1866 (by decide) ?_
  refine lv_iadd hx hb dL_law_1867 ?_
  refine lv_ton (n := i9 + 1) (nadd (by omega)) ?_
  refine va_sld hx hb hX9 hbl hbA hS (i := nI (i9 + 1)) (vp9 (by omega) hL96) dL_law_1868 ?_
  refine W.eq (g2 := F0 m 1869 ls [.int (sx9 xs (i9 + 1)), .ref d]) rfl ?_
  refine lv_aload_n hx hb dL_law_1869 rfl (lv_at hl 3 rfl) ?_
  have hpm_4325 : (([(o, .inl (G.2 5, 1, .inr (.inl of))), (oD, .inl (G.2 6, 1, .inr (.inr (.inr (.inl og)))))] ++ (WD ++ (WM ++ []))) : va_W).Perm (([(o, .inl (G.2 5, 1, .inr (.inl of)))] ++ (WD ++ [])) ++ ([(oD, .inl (G.2 6, 1, .inr (.inr (.inr (.inl og)))))] ++ (WM ++ []))) := segs_perm [[(o, .inl (G.2 5, 1, .inr (.inl of)))], [(oD, .inl (G.2 6, 1, .inr (.inr (.inr (.inl og)))))], WD, WM] [0, 2] [1, 3] rfl
  have hF := hF_ofP (wc := ([(o, .inl (G.2 5, 1, .inr (.inl of)))] ++ (WD ++ []))) hD hS hA hpm_4325
  refine go_ctP hS hP hD hpm_4325 hF
      (vx_runSW (As := [.ref d, .int (sx9 xs (i9 + 1)), .ref o]) (rest := []) cf (wX0_formOn l G d C WD o of (sx9 xs (i9 + 1)) (hDy) hfl H.size) (vx_cwSW 3 hts (lw_SW q1333 q1334 q46 q1335) rfl rfl rfl (by decide +kernel) ⟨Nat.le_of_ble_eq_true rfl, Nat.le_of_ble_eq_true rfl⟩) (preS_ofW hNc hKB hE hS hF (P_left (P_perm hpm_4325 hP)) ((D_left (D_perm hpm_4325 hD)).weaken (fun _ _ _ _ => trivial)) trivial) rfl rfl hl.1 rfl (lv_room (Nat.le_of_ble_eq_true rfl)) dL_law_1870 ⟨show cl + 8300 ≤ 1200144 from by first | decide | omega, show sl + 17000 ≤ 5495674 from by first | decide | omega⟩)
      (fun u_ H locs hq hph (hP : va_P G.1 CL (([(oD, .inl (G.2 6, 1, .inr (.inr (.inr (.inl og)))))] ++ (WM ++ [])) ++ ([(o, .inl (G.2 5, 1, .inr (.inl u_.1)))] ++ (u_.2 ++ []))) H) (hD : va_D A (([(oD, .inl (G.2 6, 1, .inr (.inr (.inr (.inl og)))))] ++ (WM ++ [])) ++ ([(o, .inl (G.2 5, 1, .inr (.inl u_.1)))] ++ (u_.2 ++ [])))) hS hfz hfk => ?_)
  obtain ⟨of2_4326, W2_4327⟩ := u_
  obtain ⟨hq_4328, hq_4329, hq_4330⟩ : ((q_form (dC C) (sx9 xs (i9 + 1))).1 = 0 → of2_4326 0 = ((q_form (dC C) (sx9 xs (i9 + 1))).2).toInt64) ∧ (q_form (dC C) (sx9 xs (i9 + 1))).1 < 10 ∧ DyW G d C W2_4327 := hq
  have hpm_4331 : (([(oD, .inl (G.2 6, 1, .inr (.inr (.inr (.inl og)))))] ++ (WM ++ [])) ++ ([(o, .inl (G.2 5, 1, .inr (.inl of2_4326)))] ++ (W2_4327 ++ [])) : va_W).Perm ([(oD, .inl (G.2 6, 1, .inr (.inr (.inr (.inl og))))), (o, .inl (G.2 5, 1, .inr (.inl of2_4326)))] ++ (WM ++ (W2_4327 ++ []))) := segs_perm2 [[(oD, .inl (G.2 6, 1, .inr (.inr (.inr (.inl og)))))], WM] [[(o, .inl (G.2 5, 1, .inr (.inl of2_4326)))], W2_4327] [0, 2, 1, 3] rfl
  have hP : va_P G.1 CL ([(oD, .inl (G.2 6, 1, .inr (.inr (.inr (.inl og))))), (o, .inl (G.2 5, 1, .inr (.inl of2_4326)))] ++ (WM ++ (W2_4327 ++ []))) H := P_perm hpm_4331 hP
  have hD : va_D A ([(oD, .inl (G.2 6, 1, .inr (.inr (.inr (.inl og))))), (o, .inl (G.2 5, 1, .inr (.inl of2_4326)))] ++ (WM ++ (W2_4327 ++ []))) := D_perm hpm_4331 hD
  refine W.eq (g2 := F0 m 1873 ls [.int (nI ((q_form (dC C) (sx9 xs (i9 + 1))).1))]) rfl ?_
  have hqs : (q_form (dC M) (sx9 xs (i9 + 1))) = (q_form (dC C) (sx9 xs (i9 + 1))) := q_form_sim hLw.1.symm hIm (sx9 xs (i9 + 1))
  refine lv_istore (lv' := [(6, .int (nI ((q_form (dC C) (sx9 xs (i9 + 1))).1))), (0, .ref b), (1, .ref d), (2, .ref m0), (3, .ref o), (4, .ref oD), (5, .int (nI i9))]) hx hb dL_law_1873 hl (by decide) rfl (fun ls hl => ?_)
  refine lv_aload_n hx hb dL_law_1875 rfl (lv_at hl 3 rfl) ?_
  refine lv_aload_n hx hb dL_law_1876 rfl (lv_at hl 1 rfl) ?_
  refine lv_iload hx hb dL_law_1877 (lv_at hl 6 rfl) ?_
  refine lv_iconst (v := nI 1) hx hb dL_law_1879 (by decide) ?_
  refine lv_iadd hx hb dL_law_1880 ?_
  refine lv_ton (n := i9 + 1) (nadd (by omega)) ?_
  refine va_sld hx hb hX9 hbl hbA hS (i := nI (i9 + 1)) (vp9 (by omega) hL96) dL_law_1881 ?_
  refine W.eq (g2 := F0 m 1882 ls [.int (sx9 xs (i9 + 1)), .ref m0]) rfl ?_
  have hpm_4332 : (([(oD, .inl (G.2 6, 1, .inr (.inr (.inr (.inl og))))), (o, .inl (G.2 5, 1, .inr (.inl of2_4326)))] ++ (WM ++ (W2_4327 ++ []))) : va_W).Perm ((WM ++ []) ++ ([(oD, .inl (G.2 6, 1, .inr (.inr (.inr (.inl og))))), (o, .inl (G.2 5, 1, .inr (.inl of2_4326)))] ++ (W2_4327 ++ []))) := segs_perm [[(oD, .inl (G.2 6, 1, .inr (.inr (.inr (.inl og)))))], [(o, .inl (G.2 5, 1, .inr (.inl of2_4326)))], WM, W2_4327] [2] [0, 1, 3] rfl
  have hF := hF_ofP (wc := (WM ++ [])) hD hS hA hpm_4332
  refine go_ctP hS hP hD hpm_4332 hF
      (va_runV (As := [.int (sx9 xs (i9 + 1))]) (rest := []) cf (eX4_formOn l G m0 M th WM (sx9 xs (i9 + 1)) (hMd) (hIm) H.size) (cwV 1 hts (lw_V q1829 q1830 q1831 q58 q1832) rfl rfl rfl (by decide +kernel) ⟨Nat.le_of_ble_eq_true rfl, Nat.le_of_ble_eq_true rfl⟩) (preV_of hKB hE hS hF (MdW.recv hK hMd (seg_at [[(oD, .inl (G.2 6, 1, .inr (.inr (.inr (.inl og)))))], [(o, .inl (G.2 5, 1, .inr (.inl of2_4326)))], WM, W2_4327] 2 rfl hP)) (P_left (P_perm hpm_4332 hP)) ((D_left (D_perm hpm_4332 hD)).weaken (fun _ _ _ _ => trivial)) trivial) rfl rfl hl.1 rfl (lv_room (Nat.le_of_ble_eq_true rfl)) dL_law_1882 ⟨show cl + 8300 + 0 ≤ 1200144 from by first | decide | omega, show sl + 17000 + 0 ≤ 5495674 from by first | decide | omega⟩)
      (fun u_ H locs hq hph (hP : va_P G.1 CL (([(oD, .inl (G.2 6, 1, .inr (.inr (.inr (.inl og))))), (o, .inl (G.2 5, 1, .inr (.inl of2_4326)))] ++ (W2_4327 ++ [])) ++ (u_.2 ++ [])) H) (hD : va_D A (([(oD, .inl (G.2 6, 1, .inr (.inr (.inr (.inl og))))), (o, .inl (G.2 5, 1, .inr (.inl of2_4326)))] ++ (W2_4327 ++ [])) ++ (u_.2 ++ []))) hS hfz hfk => ?_)
  obtain ⟨rr_4333, W2_4334⟩ := u_
  obtain ⟨hq_4335, hq_4336⟩ : ((q_form (dC M) (sx9 xs (i9 + 1))).1 = 0 → rr_4333 = (q_form (dC M) (sx9 xs (i9 + 1))).2) ∧ MdW G m0 M (q_form (dC M) (sx9 xs (i9 + 1))).1 W2_4334 := hq
  have hpm_4337 : (([(oD, .inl (G.2 6, 1, .inr (.inr (.inr (.inl og))))), (o, .inl (G.2 5, 1, .inr (.inl of2_4326)))] ++ (W2_4327 ++ [])) ++ (W2_4334 ++ []) : va_W).Perm ([(oD, .inl (G.2 6, 1, .inr (.inr (.inr (.inl og))))), (o, .inl (G.2 5, 1, .inr (.inl of2_4326)))] ++ (W2_4327 ++ (W2_4334 ++ []))) := segs_perm2 [[(oD, .inl (G.2 6, 1, .inr (.inr (.inr (.inl og)))))], [(o, .inl (G.2 5, 1, .inr (.inl of2_4326)))], W2_4327] [W2_4334] [0, 1, 2, 3] rfl
  have hP : va_P G.1 CL ([(oD, .inl (G.2 6, 1, .inr (.inr (.inr (.inl og))))), (o, .inl (G.2 5, 1, .inr (.inl of2_4326)))] ++ (W2_4327 ++ (W2_4334 ++ []))) H := P_perm hpm_4337 hP
  have hD : va_D A ([(oD, .inl (G.2 6, 1, .inr (.inr (.inr (.inl og))))), (o, .inl (G.2 5, 1, .inr (.inl of2_4326)))] ++ (W2_4327 ++ (W2_4334 ++ []))) := D_perm hpm_4337 hD
  refine W.eq (g2 := F0 m 1885 ls [.int rr_4333]) rfl ?_
  refine lv_istore (lv' := [(7, .int rr_4333), (6, .int (nI ((q_form (dC C) (sx9 xs (i9 + 1))).1))), (0, .ref b), (1, .ref d), (2, .ref m0), (3, .ref o), (4, .ref oD), (5, .int (nI i9))]) hx hb dL_law_1885 hl (by decide) rfl (fun ls hl => ?_)
  refine lv_aload_n hx hb dL_law_1887 rfl (lv_at hl 4 rfl) ?_
  have hpm_4338 : (([(oD, .inl (G.2 6, 1, .inr (.inr (.inr (.inl og))))), (o, .inl (G.2 5, 1, .inr (.inl of2_4326)))] ++ (W2_4327 ++ (W2_4334 ++ []))) : va_W).Perm ([] ++ ([(oD, .inl (G.2 6, 1, .inr (.inr (.inr (.inl og))))), (o, .inl (G.2 5, 1, .inr (.inl of2_4326)))] ++ (W2_4327 ++ (W2_4334 ++ [])))) := segs_perm [[(oD, .inl (G.2 6, 1, .inr (.inr (.inr (.inl og)))))], [(o, .inl (G.2 5, 1, .inr (.inl of2_4326)))], W2_4327, W2_4334] [] [0, 1, 2, 3] rfl
  have hF := hF_ofP (wc := []) hD hS hA hpm_4338
  refine go_ctP hS hP hD hpm_4338 hF
      (va_runV (As := []) (rest := []) cf (eX4_thrown l G m0 M (((q_form (dC M) (sx9 xs (i9 + 1)))).1) W2_4334 (hq_4336) H.size) (cwV 0 hts (lw_V q1639 q1640 q1641 q58 q1642) rfl rfl rfl (by decide +kernel) ⟨Nat.le_of_ble_eq_true rfl, Nat.le_of_ble_eq_true rfl⟩) (preV_of hKB hE hS hF (MdW.recv hK hq_4336 (seg_at [[(oD, .inl (G.2 6, 1, .inr (.inr (.inr (.inl og)))))], [(o, .inl (G.2 5, 1, .inr (.inl of2_4326)))], W2_4327, W2_4334] 3 rfl hP)) (P_left (P_perm hpm_4338 hP)) ((D_left (D_perm hpm_4338 hD)).weaken (fun _ _ _ _ => trivial)) (roW.nil (seg_at [[(oD, .inl (G.2 6, 1, .inr (.inr (.inr (.inl og)))))], [(o, .inl (G.2 5, 1, .inr (.inl of2_4326)))], W2_4327, W2_4334] 3 rfl hP))) rfl rfl hl.1 rfl (lv_room (Nat.le_of_ble_eq_true rfl)) dL_law_1888 ⟨show cl + 8300 + 0 ≤ 1200144 from by first | decide | omega, show sl + 17000 + 0 ≤ 5495674 from by first | decide | omega⟩)
      (fun u_ H locs hq hph (hP : va_P G.1 CL (([(oD, .inl (G.2 6, 1, .inr (.inr (.inr (.inl og))))), (o, .inl (G.2 5, 1, .inr (.inl of2_4326)))] ++ (W2_4327 ++ (W2_4334 ++ []))) ++ []) H) (hD : va_D A (([(oD, .inl (G.2 6, 1, .inr (.inr (.inr (.inl og))))), (o, .inl (G.2 5, 1, .inr (.inl of2_4326)))] ++ (W2_4327 ++ (W2_4334 ++ []))) ++ [])) hS hfz hfk => ?_)
  have hpm_4339 : (([(oD, .inl (G.2 6, 1, .inr (.inr (.inr (.inl og))))), (o, .inl (G.2 5, 1, .inr (.inl of2_4326)))] ++ (W2_4327 ++ (W2_4334 ++ []))) ++ [] : va_W).Perm ([(oD, .inl (G.2 6, 1, .inr (.inr (.inr (.inl og))))), (o, .inl (G.2 5, 1, .inr (.inl of2_4326)))] ++ (W2_4327 ++ (W2_4334 ++ []))) := segs_perm2 [[(oD, .inl (G.2 6, 1, .inr (.inr (.inr (.inl og)))))], [(o, .inl (G.2 5, 1, .inr (.inl of2_4326)))], W2_4327, W2_4334] [] [0, 1, 2, 3] rfl
  have hP : va_P G.1 CL ([(oD, .inl (G.2 6, 1, .inr (.inr (.inr (.inl og))))), (o, .inl (G.2 5, 1, .inr (.inl of2_4326)))] ++ (W2_4327 ++ (W2_4334 ++ []))) H := P_perm hpm_4339 hP
  have hD : va_D A ([(oD, .inl (G.2 6, 1, .inr (.inr (.inr (.inl og))))), (o, .inl (G.2 5, 1, .inr (.inl of2_4326)))] ++ (W2_4327 ++ (W2_4334 ++ []))) := D_perm hpm_4339 hD
  refine W.eq (g2 := F0 m 1891 ls [.int (nI (((q_form (dC M) (sx9 xs (i9 + 1)))).1))]) rfl ?_
  refine lv_ton (n := ((q_form (dC C) (sx9 xs (i9 + 1))).1)) (congrArg nI (by rw [hqs])) ?_
  refine lv_iload hx hb dL_law_1891 (lv_at hl 1 rfl) ?_
  refine lv_icmp_eq (tgt := 1898) hx hb dL_law_1893 (by decide) (fun _ => ?_) (fun c9 => absurd rfl c9)
  refine lv_iload hx hb dL_law_1898 (lv_at hl 1 rfl) ?_
  refine n_if_ne (tgt := 1915) hx hb (by omega) dL_law_1900 (by decide) (fun c_4340 => ?_) (fun c_4340 => ?_)
  · refine lv_goto (tgt := 2788) hx hb dL_law_1915 (by decide) ?_
    have hpm_4341 : (([(oD, .inl (G.2 6, 1, .inr (.inr (.inr (.inl og))))), (o, .inl (G.2 5, 1, .inr (.inl of2_4326)))] ++ (W2_4327 ++ (W2_4334 ++ []))) : va_W).Perm (([(o, .inl (G.2 5, 1, .inr (.inl of2_4326))), (oD, .inl (G.2 6, 1, .inr (.inr (.inr (.inl og)))))] ++ (W2_4327 ++ (W2_4334 ++ []))) ++ []) := segs_perm [[(oD, .inl (G.2 6, 1, .inr (.inr (.inr (.inl og)))))], [(o, .inl (G.2 5, 1, .inr (.inl of2_4326)))], W2_4327, W2_4334] [1, 0, 2, 3] [] rfl
    have hP : va_P G.1 CL ([(o, .inl (G.2 5, 1, .inr (.inl of2_4326))), (oD, .inl (G.2 6, 1, .inr (.inr (.inr (.inl og)))))] ++ (W2_4327 ++ (W2_4334 ++ []))) H := P_left (P_perm hpm_4341 hP)
    have hD : va_D A ([(o, .inl (G.2 5, 1, .inr (.inl of2_4326))), (oD, .inl (G.2 6, 1, .inr (.inr (.inr (.inl og)))))] ++ (W2_4327 ++ (W2_4334 ++ []))) := D_left (D_perm hpm_4341 hD)
    have hl := lv_sub hl [2, 3, 4, 5, 6, 7] (l' := [(0, .ref b), (1, .ref d), (2, .ref m0), (3, .ref o), (4, .ref oD), (5, .int (nI i9))]) rfl
    exact W.widen (show cl + 8300 ≤ cl + 20000 from by omega) (show sl + 17000 ≤ sl + 45000 from by omega) (kk ls H locs C M (((q_form (dC M) (sx9 xs (i9 + 1)))).1) W2_4327 W2_4334 of2_4326 og hP hD hS hl hq_4330 hq_4336 hLw.up)
  · refine lv_aload_n hx hb dL_law_1903 rfl (lv_at hl 5 rfl) ?_
    refine lv_iconst (v := nI 0) hx hb dL_law_1904 (by decide) ?_
    refine r_lald (v := (((q_form (dC C) (sx9 xs (i9 + 1)))).2).toInt64) hx hb hK hP 1 5 rfl rfl (i := 0) (by omega) (by omega) ((hq_4328 (by omega))) dL_law_1905 ?_
    refine lv_iload hx hb dL_law_1906 (lv_at hl 0 rfl) ?_
    refine lv_toi (y := ((q_form (dC C) (sx9 xs (i9 + 1)))).2) ((hq_4335 (by rw [hqs]; omega)).trans (by rw [hqs])) ?_
    refine lv_i2l (v := (((q_form (dC C) (sx9 xs (i9 + 1)))).2).toInt64) hx hb dL_law_1908 rfl ?_
    refine W.lcmp hx hb dL_law_1909 ?_
    refine lv_ton (n := 0) (lcmp0 _) ?_
    refine n_if_eq (tgt := 1915) hx hb (by omega) dL_law_1910 (by decide) (fun c_4342 => ?_) (fun c_4342 => absurd c_4342 (by omega))
    refine lv_goto (tgt := 2788) hx hb dL_law_1915 (by decide) ?_
    have hpm_4343 : (([(oD, .inl (G.2 6, 1, .inr (.inr (.inr (.inl og))))), (o, .inl (G.2 5, 1, .inr (.inl of2_4326)))] ++ (W2_4327 ++ (W2_4334 ++ []))) : va_W).Perm (([(o, .inl (G.2 5, 1, .inr (.inl of2_4326))), (oD, .inl (G.2 6, 1, .inr (.inr (.inr (.inl og)))))] ++ (W2_4327 ++ (W2_4334 ++ []))) ++ []) := segs_perm [[(oD, .inl (G.2 6, 1, .inr (.inr (.inr (.inl og)))))], [(o, .inl (G.2 5, 1, .inr (.inl of2_4326)))], W2_4327, W2_4334] [1, 0, 2, 3] [] rfl
    have hP : va_P G.1 CL ([(o, .inl (G.2 5, 1, .inr (.inl of2_4326))), (oD, .inl (G.2 6, 1, .inr (.inr (.inr (.inl og)))))] ++ (W2_4327 ++ (W2_4334 ++ []))) H := P_left (P_perm hpm_4343 hP)
    have hD : va_D A ([(o, .inl (G.2 5, 1, .inr (.inl of2_4326))), (oD, .inl (G.2 6, 1, .inr (.inr (.inr (.inl og)))))] ++ (W2_4327 ++ (W2_4334 ++ []))) := D_left (D_perm hpm_4343 hD)
    have hl := lv_sub hl [2, 3, 4, 5, 6, 7] (l' := [(0, .ref b), (1, .ref d), (2, .ref m0), (3, .ref o), (4, .ref oD), (5, .int (nI i9))]) rfl
    exact W.widen (show cl + 8300 ≤ cl + 20000 from by omega) (show sl + 17000 ≤ sl + 45000 from by omega) (kk ls H locs C M (((q_form (dC M) (sx9 xs (i9 + 1)))).1) W2_4327 W2_4334 of2_4326 og hP hD hS hl hq_4330 hq_4336 hLw.up)

set_option maxHeartbeats 4000000 in
theorem lawK_30 {p : Program} {l : Launch} {e : Env} {s : State} {m : MethodId} {below : List Frame} {meth : Method} {c : Code} {G : Gt} {A : Nat → Prop} {b L : Nat} {xs : Nat → Int32} {Q : State → Prop} {d m0 o oD i9 N cl sl : Nat} (hfl : l.stackTraces = false) (F : LwF G A p s m c b L xs) (hi9 : i9 + 4 ≤ L) (hN24 : N ≤ 24) (hcl : cl + 20000 ≤ 1200144) (hsl : sl + 45000 ≤ 5495674) (kk : ∀ (ls : Array Slot) (H : Heap) (locs : List Loc) (C M : DS) (th : Nat) (WD WM : va_W) (of : Nat → Int64) (og : Nat → UInt64), va_P G.1 CL ([(o, .inl (G.2 5, 1, .inr (.inl of))), (oD, .inl (G.2 6, 1, .inr (.inr (.inr (.inl og)))))] ++ (WD ++ (WM ++ []))) H → va_D A ([(o, .inl (G.2 5, 1, .inr (.inl of))), (oD, .inl (G.2 6, 1, .inr (.inr (.inr (.inl og)))))] ++ (WD ++ (WM ++ []))) → va_S A s.heap H locs → lv_has ls 10 [(0, .ref b), (1, .ref d), (2, .ref m0), (3, .ref o), (4, .ref oD), (5, .int (nI i9))] → DyW G d C WD → MdW G m0 M th WM → LawI C M (N + 1) → W p l e room_1 s m #[Value.ref b] below meth c H locs (cl + 20000) (sl + 45000) Q (F0 m 2788 ls [])) {ls : Array Slot} {H : Heap} {locs : List Loc} {C M : DS} {th : Nat} {WD WM : va_W} {of : Nat → Int64} {og : Nat → UInt64} (hP : va_P G.1 CL ([(o, .inl (G.2 5, 1, .inr (.inl of))), (oD, .inl (G.2 6, 1, .inr (.inr (.inr (.inl og)))))] ++ (WD ++ (WM ++ []))) H) (hD : va_D A ([(o, .inl (G.2 5, 1, .inr (.inl of))), (oD, .inl (G.2 6, 1, .inr (.inr (.inr (.inl og)))))] ++ (WD ++ (WM ++ [])))) (hS : va_S A s.heap H locs) (hl : lv_has ls 10 [(0, .ref b), (1, .ref d), (2, .ref m0), (3, .ref o), (4, .ref oD), (5, .int (nI i9))]) (hDy : DyW G d C WD) (hMd : MdW G m0 M th WM) (hLw : LawI C M N) : W p l e room_1 s m #[Value.ref b] below meth c H locs cl sl Q (F0 m 1918 ls []) := by
  obtain ⟨cf, hKB, hE, hA, hX9, hbl, hbA, hNc, hL96⟩ := F
  have hx := cf.1
  have hb := cf.2.1
  have hml := cf.2.2.1
  have hown : s.vm.findClass RX0 = some m.cls := cf.2.2.2.1
  have hts := cf.2.2.2.2
  have hK := hKB.1
  have hIc := hDy.inv.1
  have hIm : Inv (dC M) := Inv_sim hLw.1 hIc
  have hRk : RkOk (dC M) := RkOk_sim hLw.1 (RkOk_srt hDy.inv.2.2)
  have hl := hl
  refine lv_aload_n hx hb dL_law_1918 rfl (lv_at hl 1 rfl) ?_
  have hpm_4344 : (([(o, .inl (G.2 5, 1, .inr (.inl of))), (oD, .inl (G.2 6, 1, .inr (.inr (.inr (.inl og)))))] ++ (WD ++ (WM ++ []))) : va_W).Perm ((WD ++ []) ++ ([(o, .inl (G.2 5, 1, .inr (.inl of))), (oD, .inl (G.2 6, 1, .inr (.inr (.inr (.inl og)))))] ++ (WM ++ []))) := segs_perm [[(o, .inl (G.2 5, 1, .inr (.inl of)))], [(oD, .inl (G.2 6, 1, .inr (.inr (.inr (.inl og)))))], WD, WM] [2] [0, 1, 3] rfl
  have hF := hF_ofP (wc := (WD ++ [])) hD hS hA hpm_4344
  refine go_ctP hS hP hD hpm_4344 hF
      (va_runV (As := []) (rest := []) cf (dX1_bestFormDay l G d C WD (hDy) H.size) (cwV 0 hts (lw_V q454 q455 q456 q47 q457) rfl rfl rfl (by decide +kernel) ⟨Nat.le_of_ble_eq_true rfl, Nat.le_of_ble_eq_true rfl⟩) (preV_of hKB hE hS hF (DyW.recv hK hDy (seg_at [[(o, .inl (G.2 5, 1, .inr (.inl of)))], [(oD, .inl (G.2 6, 1, .inr (.inr (.inr (.inl og)))))], WD, WM] 2 rfl hP)) (P_left (P_perm hpm_4344 hP)) ((D_left (D_perm hpm_4344 hD)).weaken (fun _ _ _ _ => trivial)) trivial) rfl rfl hl.1 rfl (lv_room (Nat.le_of_ble_eq_true rfl)) dL_law_1919 ⟨show cl + 8300 ≤ 1200144 from by first | decide | omega, show sl + 17000 ≤ 5495674 from by first | decide | omega⟩)
      (fun u_ H locs hq hph (hP : va_P G.1 CL (([(o, .inl (G.2 5, 1, .inr (.inl of))), (oD, .inl (G.2 6, 1, .inr (.inr (.inr (.inl og)))))] ++ (WM ++ [])) ++ (u_.2 ++ [])) H) (hD : va_D A (([(o, .inl (G.2 5, 1, .inr (.inl of))), (oD, .inl (G.2 6, 1, .inr (.inr (.inr (.inl og)))))] ++ (WM ++ [])) ++ (u_.2 ++ []))) hS hfz hfk => ?_)
  obtain ⟨rr_4345, W2_4346⟩ := u_
  obtain ⟨hq_4347, hq_4348⟩ : q_bestForm (dC C) = (0, rr_4345) ∧ DyW G d C W2_4346 := hq
  have hpm_4349 : (([(o, .inl (G.2 5, 1, .inr (.inl of))), (oD, .inl (G.2 6, 1, .inr (.inr (.inr (.inl og)))))] ++ (WM ++ [])) ++ (W2_4346 ++ []) : va_W).Perm ([(o, .inl (G.2 5, 1, .inr (.inl of))), (oD, .inl (G.2 6, 1, .inr (.inr (.inr (.inl og)))))] ++ (WM ++ (W2_4346 ++ []))) := segs_perm2 [[(o, .inl (G.2 5, 1, .inr (.inl of)))], [(oD, .inl (G.2 6, 1, .inr (.inr (.inr (.inl og)))))], WM] [W2_4346] [0, 1, 2, 3] rfl
  have hP : va_P G.1 CL ([(o, .inl (G.2 5, 1, .inr (.inl of))), (oD, .inl (G.2 6, 1, .inr (.inr (.inr (.inl og)))))] ++ (WM ++ (W2_4346 ++ []))) H := P_perm hpm_4349 hP
  have hD : va_D A ([(o, .inl (G.2 5, 1, .inr (.inl of))), (oD, .inl (G.2 6, 1, .inr (.inr (.inr (.inl og)))))] ++ (WM ++ (W2_4346 ++ []))) := D_perm hpm_4349 hD
  refine W.eq (g2 := F0 m 1922 ls [.int rr_4345]) rfl ?_
  have hqs : (q_bestForm (dC M)) = (q_bestForm (dC C)) := q_bestForm_sim hLw.1.symm hIm 
  refine lv_toi (y := ((q_bestForm (dC C))).2) ((congrArg Prod.snd hq_4347).symm) ?_
  refine lv_aload_n hx hb dL_law_1922 rfl (lv_at hl 2 rfl) ?_
  have hpm_4350 : (([(o, .inl (G.2 5, 1, .inr (.inl of))), (oD, .inl (G.2 6, 1, .inr (.inr (.inr (.inl og)))))] ++ (WM ++ (W2_4346 ++ []))) : va_W).Perm ((WM ++ []) ++ ([(o, .inl (G.2 5, 1, .inr (.inl of))), (oD, .inl (G.2 6, 1, .inr (.inr (.inr (.inl og)))))] ++ (W2_4346 ++ []))) := segs_perm [[(o, .inl (G.2 5, 1, .inr (.inl of)))], [(oD, .inl (G.2 6, 1, .inr (.inr (.inr (.inl og)))))], WM, W2_4346] [2] [0, 1, 3] rfl
  have hF := hF_ofP (wc := (WM ++ [])) hD hS hA hpm_4350
  refine go_ctP hS hP hD hpm_4350 hF
      (va_runV (As := []) (rest := [.int (((q_bestForm (dC C))).2)]) cf (eX4_bestFormDay l G m0 M th WM (hMd) (hIm) H.size) (cwV 0 hts (lw_V q1837 q1838 q1839 q58 q1840) rfl rfl rfl (by decide +kernel) ⟨Nat.le_of_ble_eq_true rfl, Nat.le_of_ble_eq_true rfl⟩) (preV_of hKB hE hS hF (MdW.recv hK hMd (seg_at [[(o, .inl (G.2 5, 1, .inr (.inl of)))], [(oD, .inl (G.2 6, 1, .inr (.inr (.inr (.inl og)))))], WM, W2_4346] 2 rfl hP)) (P_left (P_perm hpm_4350 hP)) ((D_left (D_perm hpm_4350 hD)).weaken (fun _ _ _ _ => trivial)) trivial) rfl rfl hl.1 rfl (lv_room (Nat.le_of_ble_eq_true rfl)) dL_law_1923 ⟨show cl + 8300 + 0 ≤ 1200144 from by first | decide | omega, show sl + 17000 + 0 ≤ 5495674 from by first | decide | omega⟩)
      (fun u_ H locs hq hph (hP : va_P G.1 CL (([(o, .inl (G.2 5, 1, .inr (.inl of))), (oD, .inl (G.2 6, 1, .inr (.inr (.inr (.inl og)))))] ++ (W2_4346 ++ [])) ++ (u_.2 ++ [])) H) (hD : va_D A (([(o, .inl (G.2 5, 1, .inr (.inl of))), (oD, .inl (G.2 6, 1, .inr (.inr (.inr (.inl og)))))] ++ (W2_4346 ++ [])) ++ (u_.2 ++ []))) hS hfz hfk => ?_)
  obtain ⟨rr_4351, W2_4352⟩ := u_
  obtain ⟨hq_4353, hq_4354⟩ : ((q_bestForm (dC M)).1 = 0 → rr_4351 = (q_bestForm (dC M)).2) ∧ MdW G m0 M (q_bestForm (dC M)).1 W2_4352 := hq
  have hpm_4355 : (([(o, .inl (G.2 5, 1, .inr (.inl of))), (oD, .inl (G.2 6, 1, .inr (.inr (.inr (.inl og)))))] ++ (W2_4346 ++ [])) ++ (W2_4352 ++ []) : va_W).Perm ([(o, .inl (G.2 5, 1, .inr (.inl of))), (oD, .inl (G.2 6, 1, .inr (.inr (.inr (.inl og)))))] ++ (W2_4346 ++ (W2_4352 ++ []))) := segs_perm2 [[(o, .inl (G.2 5, 1, .inr (.inl of)))], [(oD, .inl (G.2 6, 1, .inr (.inr (.inr (.inl og)))))], W2_4346] [W2_4352] [0, 1, 2, 3] rfl
  have hP : va_P G.1 CL ([(o, .inl (G.2 5, 1, .inr (.inl of))), (oD, .inl (G.2 6, 1, .inr (.inr (.inr (.inl og)))))] ++ (W2_4346 ++ (W2_4352 ++ []))) H := P_perm hpm_4355 hP
  have hD : va_D A ([(o, .inl (G.2 5, 1, .inr (.inl of))), (oD, .inl (G.2 6, 1, .inr (.inr (.inr (.inl og)))))] ++ (W2_4346 ++ (W2_4352 ++ []))) := D_perm hpm_4355 hD
  refine W.eq (g2 := F0 m 1926 ls [.int rr_4351, .int (((q_bestForm (dC C))).2)]) rfl ?_
  refine lv_toi (y := ((q_bestForm (dC C))).2) ((hq_4353 (by rw [hqs, hq_4347])).trans (by rw [hqs])) ?_
  refine lv_icmp_eq (tgt := 2788) hx hb dL_law_1926 (by decide) (fun _ => ?_) (fun c9 => absurd rfl c9)
  have hpm_4356 : (([(o, .inl (G.2 5, 1, .inr (.inl of))), (oD, .inl (G.2 6, 1, .inr (.inr (.inr (.inl og)))))] ++ (W2_4346 ++ (W2_4352 ++ []))) : va_W).Perm (([(o, .inl (G.2 5, 1, .inr (.inl of))), (oD, .inl (G.2 6, 1, .inr (.inr (.inr (.inl og)))))] ++ (W2_4346 ++ (W2_4352 ++ []))) ++ []) := segs_perm [[(o, .inl (G.2 5, 1, .inr (.inl of)))], [(oD, .inl (G.2 6, 1, .inr (.inr (.inr (.inl og)))))], W2_4346, W2_4352] [0, 1, 2, 3] [] rfl
  have hP : va_P G.1 CL ([(o, .inl (G.2 5, 1, .inr (.inl of))), (oD, .inl (G.2 6, 1, .inr (.inr (.inr (.inl og)))))] ++ (W2_4346 ++ (W2_4352 ++ []))) H := P_left (P_perm hpm_4356 hP)
  have hD : va_D A ([(o, .inl (G.2 5, 1, .inr (.inl of))), (oD, .inl (G.2 6, 1, .inr (.inr (.inr (.inl og)))))] ++ (W2_4346 ++ (W2_4352 ++ []))) := D_left (D_perm hpm_4356 hD)
  have hl := lv_sub hl [0, 1, 2, 3, 4, 5] (l' := [(0, .ref b), (1, .ref d), (2, .ref m0), (3, .ref o), (4, .ref oD), (5, .int (nI i9))]) rfl
  exact W.widen (show cl + 8300 ≤ cl + 20000 from by omega) (show sl + 17000 ≤ sl + 45000 from by omega) (kk ls H locs C M (((q_bestForm (dC M))).1) W2_4346 W2_4352 of og hP hD hS hl hq_4348 hq_4354 hLw.up)

set_option maxHeartbeats 4000000 in
theorem lawK_31 {p : Program} {l : Launch} {e : Env} {s : State} {m : MethodId} {below : List Frame} {meth : Method} {c : Code} {G : Gt} {A : Nat → Prop} {b L : Nat} {xs : Nat → Int32} {Q : State → Prop} {d m0 o oD i9 N cl sl : Nat} (hfl : l.stackTraces = false) (F : LwF G A p s m c b L xs) (hi9 : i9 + 4 ≤ L) (hN24 : N ≤ 24) (hcl : cl + 20000 ≤ 1200144) (hsl : sl + 45000 ≤ 5495674) (kk : ∀ (ls : Array Slot) (H : Heap) (locs : List Loc) (C M : DS) (th : Nat) (WD WM : va_W) (of : Nat → Int64) (og : Nat → UInt64), va_P G.1 CL ([(o, .inl (G.2 5, 1, .inr (.inl of))), (oD, .inl (G.2 6, 1, .inr (.inr (.inr (.inl og)))))] ++ (WD ++ (WM ++ []))) H → va_D A ([(o, .inl (G.2 5, 1, .inr (.inl of))), (oD, .inl (G.2 6, 1, .inr (.inr (.inr (.inl og)))))] ++ (WD ++ (WM ++ []))) → va_S A s.heap H locs → lv_has ls 10 [(0, .ref b), (1, .ref d), (2, .ref m0), (3, .ref o), (4, .ref oD), (5, .int (nI i9))] → DyW G d C WD → MdW G m0 M th WM → LawI C M (N + 1) → W p l e room_1 s m #[Value.ref b] below meth c H locs (cl + 20000) (sl + 45000) Q (F0 m 2788 ls [])) {ls : Array Slot} {H : Heap} {locs : List Loc} {C M : DS} {th : Nat} {WD WM : va_W} {of : Nat → Int64} {og : Nat → UInt64} (hP : va_P G.1 CL ([(o, .inl (G.2 5, 1, .inr (.inl of))), (oD, .inl (G.2 6, 1, .inr (.inr (.inr (.inl og)))))] ++ (WD ++ (WM ++ []))) H) (hD : va_D A ([(o, .inl (G.2 5, 1, .inr (.inl of))), (oD, .inl (G.2 6, 1, .inr (.inr (.inr (.inl og)))))] ++ (WD ++ (WM ++ [])))) (hS : va_S A s.heap H locs) (hl : lv_has ls 10 [(0, .ref b), (1, .ref d), (2, .ref m0), (3, .ref o), (4, .ref oD), (5, .int (nI i9))]) (hDy : DyW G d C WD) (hMd : MdW G m0 M th WM) (hLw : LawI C M N) : W p l e room_1 s m #[Value.ref b] below meth c H locs cl sl Q (F0 m 1931 ls []) := by
  obtain ⟨cf, hKB, hE, hA, hX9, hbl, hbA, hNc, hL96⟩ := F
  have hx := cf.1
  have hb := cf.2.1
  have hml := cf.2.2.1
  have hown : s.vm.findClass RX0 = some m.cls := cf.2.2.2.1
  have hts := cf.2.2.2.2
  have hK := hKB.1
  have hIc := hDy.inv.1
  have hIm : Inv (dC M) := Inv_sim hLw.1 hIc
  have hRk : RkOk (dC M) := RkOk_sim hLw.1 (RkOk_srt hDy.inv.2.2)
  have hl := hl
  refine lv_aload_n hx hb dL_law_1931 rfl (lv_at hl 1 rfl) ?_
  refine lv_aload_n hx hb dL_law_1932 rfl (lv_at hl 0 rfl) ?_
  refine lv_iload hx hb dL_law_1933 (lv_at hl 5 rfl) ?_
  refine lv_iconst (v := nI 1) hx hb dL_law_1935 (by decide) ?_
  refine lv_iadd hx hb dL_law_1936 ?_
  refine lv_ton (n := i9 + 1) (nadd (by omega)) ?_
  refine va_sld hx hb hX9 hbl hbA hS (i := nI (i9 + 1)) (vp9 (by omega) hL96) dL_law_1937 ?_
  refine W.eq (g2 := F0 m 1938 ls [.int (sx9 xs (i9 + 1)), .ref d]) rfl ?_
  refine lv_aload_n hx hb dL_law_1938 rfl (lv_at hl 3 rfl) ?_
  have hpm_4357 : (([(o, .inl (G.2 5, 1, .inr (.inl of))), (oD, .inl (G.2 6, 1, .inr (.inr (.inr (.inl og)))))] ++ (WD ++ (WM ++ []))) : va_W).Perm (([(o, .inl (G.2 5, 1, .inr (.inl of)))] ++ (WD ++ [])) ++ ([(oD, .inl (G.2 6, 1, .inr (.inr (.inr (.inl og)))))] ++ (WM ++ []))) := segs_perm [[(o, .inl (G.2 5, 1, .inr (.inl of)))], [(oD, .inl (G.2 6, 1, .inr (.inr (.inr (.inl og)))))], WD, WM] [0, 2] [1, 3] rfl
  have hF := hF_ofP (wc := ([(o, .inl (G.2 5, 1, .inr (.inl of)))] ++ (WD ++ []))) hD hS hA hpm_4357
  refine go_ctP hS hP hD hpm_4357 hF
      (vx_runSW (As := [.ref d, .int (sx9 xs (i9 + 1)), .ref o]) (rest := []) cf (wX0_daysToForm l G d C WD o of (sx9 xs (i9 + 1)) (hDy) hfl H.size) (vx_cwSW 3 hts (lw_SW q1340 q1341 q46 q1342) rfl rfl rfl (by decide +kernel) ⟨Nat.le_of_ble_eq_true rfl, Nat.le_of_ble_eq_true rfl⟩) (preS_ofW hNc hKB hE hS hF (P_left (P_perm hpm_4357 hP)) ((D_left (D_perm hpm_4357 hD)).weaken (fun _ _ _ _ => trivial)) trivial) rfl rfl hl.1 rfl (lv_room (Nat.le_of_ble_eq_true rfl)) dL_law_1939 ⟨show cl + 8300 ≤ 1200144 from by first | decide | omega, show sl + 17000 ≤ 5495674 from by first | decide | omega⟩)
      (fun u_ H locs hq hph (hP : va_P G.1 CL (([(oD, .inl (G.2 6, 1, .inr (.inr (.inr (.inl og)))))] ++ (WM ++ [])) ++ ([(o, .inl (G.2 5, 1, .inr (.inl u_.1)))] ++ (u_.2 ++ []))) H) (hD : va_D A (([(oD, .inl (G.2 6, 1, .inr (.inr (.inr (.inl og)))))] ++ (WM ++ [])) ++ ([(o, .inl (G.2 5, 1, .inr (.inl u_.1)))] ++ (u_.2 ++ [])))) hS hfz hfk => ?_)
  obtain ⟨of2_4358, W2_4359⟩ := u_
  obtain ⟨hq_4360, hq_4361, hq_4362⟩ : ((q_daysTo (dC C) (sx9 xs (i9 + 1))).1 = 0 → of2_4358 0 = ((q_daysTo (dC C) (sx9 xs (i9 + 1))).2).toInt64) ∧ (q_daysTo (dC C) (sx9 xs (i9 + 1))).1 < 10 ∧ DyW G d C W2_4359 := hq
  have hpm_4363 : (([(oD, .inl (G.2 6, 1, .inr (.inr (.inr (.inl og)))))] ++ (WM ++ [])) ++ ([(o, .inl (G.2 5, 1, .inr (.inl of2_4358)))] ++ (W2_4359 ++ [])) : va_W).Perm ([(oD, .inl (G.2 6, 1, .inr (.inr (.inr (.inl og))))), (o, .inl (G.2 5, 1, .inr (.inl of2_4358)))] ++ (WM ++ (W2_4359 ++ []))) := segs_perm2 [[(oD, .inl (G.2 6, 1, .inr (.inr (.inr (.inl og)))))], WM] [[(o, .inl (G.2 5, 1, .inr (.inl of2_4358)))], W2_4359] [0, 2, 1, 3] rfl
  have hP : va_P G.1 CL ([(oD, .inl (G.2 6, 1, .inr (.inr (.inr (.inl og))))), (o, .inl (G.2 5, 1, .inr (.inl of2_4358)))] ++ (WM ++ (W2_4359 ++ []))) H := P_perm hpm_4363 hP
  have hD : va_D A ([(oD, .inl (G.2 6, 1, .inr (.inr (.inr (.inl og))))), (o, .inl (G.2 5, 1, .inr (.inl of2_4358)))] ++ (WM ++ (W2_4359 ++ []))) := D_perm hpm_4363 hD
  refine W.eq (g2 := F0 m 1942 ls [.int (nI ((q_daysTo (dC C) (sx9 xs (i9 + 1))).1))]) rfl ?_
  have hqs : (q_daysTo (dC M) (sx9 xs (i9 + 1))) = (q_daysTo (dC C) (sx9 xs (i9 + 1))) := q_daysTo_sim hLw.1.symm hIm (sx9 xs (i9 + 1))
  refine lv_istore (lv' := [(6, .int (nI ((q_daysTo (dC C) (sx9 xs (i9 + 1))).1))), (0, .ref b), (1, .ref d), (2, .ref m0), (3, .ref o), (4, .ref oD), (5, .int (nI i9))]) hx hb dL_law_1942 hl (by decide) rfl (fun ls hl => ?_)
  refine lv_aload_n hx hb dL_law_1944 rfl (lv_at hl 3 rfl) ?_
  refine lv_aload_n hx hb dL_law_1945 rfl (lv_at hl 1 rfl) ?_
  refine lv_iload hx hb dL_law_1946 (lv_at hl 6 rfl) ?_
  refine lv_iconst (v := nI 1) hx hb dL_law_1948 (by decide) ?_
  refine lv_iadd hx hb dL_law_1949 ?_
  refine lv_ton (n := i9 + 1) (nadd (by omega)) ?_
  refine va_sld hx hb hX9 hbl hbA hS (i := nI (i9 + 1)) (vp9 (by omega) hL96) dL_law_1950 ?_
  refine W.eq (g2 := F0 m 1951 ls [.int (sx9 xs (i9 + 1)), .ref m0]) rfl ?_
  have hpm_4364 : (([(oD, .inl (G.2 6, 1, .inr (.inr (.inr (.inl og))))), (o, .inl (G.2 5, 1, .inr (.inl of2_4358)))] ++ (WM ++ (W2_4359 ++ []))) : va_W).Perm ((WM ++ []) ++ ([(oD, .inl (G.2 6, 1, .inr (.inr (.inr (.inl og))))), (o, .inl (G.2 5, 1, .inr (.inl of2_4358)))] ++ (W2_4359 ++ []))) := segs_perm [[(oD, .inl (G.2 6, 1, .inr (.inr (.inr (.inl og)))))], [(o, .inl (G.2 5, 1, .inr (.inl of2_4358)))], WM, W2_4359] [2] [0, 1, 3] rfl
  have hF := hF_ofP (wc := (WM ++ [])) hD hS hA hpm_4364
  refine go_ctP hS hP hD hpm_4364 hF
      (va_runV (As := [.int (sx9 xs (i9 + 1))]) (rest := []) cf (eX4_daysToForm l G m0 M th WM (sx9 xs (i9 + 1)) (hMd) (hIm) H.size) (cwV 1 hts (lw_V q1841 q1842 q1843 q58 q1844) rfl rfl rfl (by decide +kernel) ⟨Nat.le_of_ble_eq_true rfl, Nat.le_of_ble_eq_true rfl⟩) (preV_of hKB hE hS hF (MdW.recv hK hMd (seg_at [[(oD, .inl (G.2 6, 1, .inr (.inr (.inr (.inl og)))))], [(o, .inl (G.2 5, 1, .inr (.inl of2_4358)))], WM, W2_4359] 2 rfl hP)) (P_left (P_perm hpm_4364 hP)) ((D_left (D_perm hpm_4364 hD)).weaken (fun _ _ _ _ => trivial)) trivial) rfl rfl hl.1 rfl (lv_room (Nat.le_of_ble_eq_true rfl)) dL_law_1951 ⟨show cl + 8300 + 0 ≤ 1200144 from by first | decide | omega, show sl + 17000 + 0 ≤ 5495674 from by first | decide | omega⟩)
      (fun u_ H locs hq hph (hP : va_P G.1 CL (([(oD, .inl (G.2 6, 1, .inr (.inr (.inr (.inl og))))), (o, .inl (G.2 5, 1, .inr (.inl of2_4358)))] ++ (W2_4359 ++ [])) ++ (u_.2 ++ [])) H) (hD : va_D A (([(oD, .inl (G.2 6, 1, .inr (.inr (.inr (.inl og))))), (o, .inl (G.2 5, 1, .inr (.inl of2_4358)))] ++ (W2_4359 ++ [])) ++ (u_.2 ++ []))) hS hfz hfk => ?_)
  obtain ⟨rr_4365, W2_4366⟩ := u_
  obtain ⟨hq_4367, hq_4368⟩ : ((q_daysTo (dC M) (sx9 xs (i9 + 1))).1 = 0 → rr_4365 = (q_daysTo (dC M) (sx9 xs (i9 + 1))).2) ∧ MdW G m0 M (q_daysTo (dC M) (sx9 xs (i9 + 1))).1 W2_4366 := hq
  have hpm_4369 : (([(oD, .inl (G.2 6, 1, .inr (.inr (.inr (.inl og))))), (o, .inl (G.2 5, 1, .inr (.inl of2_4358)))] ++ (W2_4359 ++ [])) ++ (W2_4366 ++ []) : va_W).Perm ([(oD, .inl (G.2 6, 1, .inr (.inr (.inr (.inl og))))), (o, .inl (G.2 5, 1, .inr (.inl of2_4358)))] ++ (W2_4359 ++ (W2_4366 ++ []))) := segs_perm2 [[(oD, .inl (G.2 6, 1, .inr (.inr (.inr (.inl og)))))], [(o, .inl (G.2 5, 1, .inr (.inl of2_4358)))], W2_4359] [W2_4366] [0, 1, 2, 3] rfl
  have hP : va_P G.1 CL ([(oD, .inl (G.2 6, 1, .inr (.inr (.inr (.inl og))))), (o, .inl (G.2 5, 1, .inr (.inl of2_4358)))] ++ (W2_4359 ++ (W2_4366 ++ []))) H := P_perm hpm_4369 hP
  have hD : va_D A ([(oD, .inl (G.2 6, 1, .inr (.inr (.inr (.inl og))))), (o, .inl (G.2 5, 1, .inr (.inl of2_4358)))] ++ (W2_4359 ++ (W2_4366 ++ []))) := D_perm hpm_4369 hD
  refine W.eq (g2 := F0 m 1954 ls [.int rr_4365]) rfl ?_
  refine lv_istore (lv' := [(7, .int rr_4365), (6, .int (nI ((q_daysTo (dC C) (sx9 xs (i9 + 1))).1))), (0, .ref b), (1, .ref d), (2, .ref m0), (3, .ref o), (4, .ref oD), (5, .int (nI i9))]) hx hb dL_law_1954 hl (by decide) rfl (fun ls hl => ?_)
  refine lv_aload_n hx hb dL_law_1956 rfl (lv_at hl 4 rfl) ?_
  have hpm_4370 : (([(oD, .inl (G.2 6, 1, .inr (.inr (.inr (.inl og))))), (o, .inl (G.2 5, 1, .inr (.inl of2_4358)))] ++ (W2_4359 ++ (W2_4366 ++ []))) : va_W).Perm ([] ++ ([(oD, .inl (G.2 6, 1, .inr (.inr (.inr (.inl og))))), (o, .inl (G.2 5, 1, .inr (.inl of2_4358)))] ++ (W2_4359 ++ (W2_4366 ++ [])))) := segs_perm [[(oD, .inl (G.2 6, 1, .inr (.inr (.inr (.inl og)))))], [(o, .inl (G.2 5, 1, .inr (.inl of2_4358)))], W2_4359, W2_4366] [] [0, 1, 2, 3] rfl
  have hF := hF_ofP (wc := []) hD hS hA hpm_4370
  refine go_ctP hS hP hD hpm_4370 hF
      (va_runV (As := []) (rest := []) cf (eX4_thrown l G m0 M (((q_daysTo (dC M) (sx9 xs (i9 + 1)))).1) W2_4366 (hq_4368) H.size) (cwV 0 hts (lw_V q1639 q1640 q1641 q58 q1642) rfl rfl rfl (by decide +kernel) ⟨Nat.le_of_ble_eq_true rfl, Nat.le_of_ble_eq_true rfl⟩) (preV_of hKB hE hS hF (MdW.recv hK hq_4368 (seg_at [[(oD, .inl (G.2 6, 1, .inr (.inr (.inr (.inl og)))))], [(o, .inl (G.2 5, 1, .inr (.inl of2_4358)))], W2_4359, W2_4366] 3 rfl hP)) (P_left (P_perm hpm_4370 hP)) ((D_left (D_perm hpm_4370 hD)).weaken (fun _ _ _ _ => trivial)) (roW.nil (seg_at [[(oD, .inl (G.2 6, 1, .inr (.inr (.inr (.inl og)))))], [(o, .inl (G.2 5, 1, .inr (.inl of2_4358)))], W2_4359, W2_4366] 3 rfl hP))) rfl rfl hl.1 rfl (lv_room (Nat.le_of_ble_eq_true rfl)) dL_law_1957 ⟨show cl + 8300 + 0 ≤ 1200144 from by first | decide | omega, show sl + 17000 + 0 ≤ 5495674 from by first | decide | omega⟩)
      (fun u_ H locs hq hph (hP : va_P G.1 CL (([(oD, .inl (G.2 6, 1, .inr (.inr (.inr (.inl og))))), (o, .inl (G.2 5, 1, .inr (.inl of2_4358)))] ++ (W2_4359 ++ (W2_4366 ++ []))) ++ []) H) (hD : va_D A (([(oD, .inl (G.2 6, 1, .inr (.inr (.inr (.inl og))))), (o, .inl (G.2 5, 1, .inr (.inl of2_4358)))] ++ (W2_4359 ++ (W2_4366 ++ []))) ++ [])) hS hfz hfk => ?_)
  have hpm_4371 : (([(oD, .inl (G.2 6, 1, .inr (.inr (.inr (.inl og))))), (o, .inl (G.2 5, 1, .inr (.inl of2_4358)))] ++ (W2_4359 ++ (W2_4366 ++ []))) ++ [] : va_W).Perm ([(oD, .inl (G.2 6, 1, .inr (.inr (.inr (.inl og))))), (o, .inl (G.2 5, 1, .inr (.inl of2_4358)))] ++ (W2_4359 ++ (W2_4366 ++ []))) := segs_perm2 [[(oD, .inl (G.2 6, 1, .inr (.inr (.inr (.inl og)))))], [(o, .inl (G.2 5, 1, .inr (.inl of2_4358)))], W2_4359, W2_4366] [] [0, 1, 2, 3] rfl
  have hP : va_P G.1 CL ([(oD, .inl (G.2 6, 1, .inr (.inr (.inr (.inl og))))), (o, .inl (G.2 5, 1, .inr (.inl of2_4358)))] ++ (W2_4359 ++ (W2_4366 ++ []))) H := P_perm hpm_4371 hP
  have hD : va_D A ([(oD, .inl (G.2 6, 1, .inr (.inr (.inr (.inl og))))), (o, .inl (G.2 5, 1, .inr (.inl of2_4358)))] ++ (W2_4359 ++ (W2_4366 ++ []))) := D_perm hpm_4371 hD
  refine W.eq (g2 := F0 m 1960 ls [.int (nI (((q_daysTo (dC M) (sx9 xs (i9 + 1)))).1))]) rfl ?_
  refine lv_ton (n := ((q_daysTo (dC C) (sx9 xs (i9 + 1))).1)) (congrArg nI (by rw [hqs])) ?_
  refine lv_iload hx hb dL_law_1960 (lv_at hl 1 rfl) ?_
  refine lv_icmp_eq (tgt := 1967) hx hb dL_law_1962 (by decide) (fun _ => ?_) (fun c9 => absurd rfl c9)
  refine lv_iload hx hb dL_law_1967 (lv_at hl 1 rfl) ?_
  refine n_if_ne (tgt := 1984) hx hb (by omega) dL_law_1969 (by decide) (fun c_4372 => ?_) (fun c_4372 => ?_)
  · refine lv_goto (tgt := 2788) hx hb dL_law_1984 (by decide) ?_
    have hpm_4373 : (([(oD, .inl (G.2 6, 1, .inr (.inr (.inr (.inl og))))), (o, .inl (G.2 5, 1, .inr (.inl of2_4358)))] ++ (W2_4359 ++ (W2_4366 ++ []))) : va_W).Perm (([(o, .inl (G.2 5, 1, .inr (.inl of2_4358))), (oD, .inl (G.2 6, 1, .inr (.inr (.inr (.inl og)))))] ++ (W2_4359 ++ (W2_4366 ++ []))) ++ []) := segs_perm [[(oD, .inl (G.2 6, 1, .inr (.inr (.inr (.inl og)))))], [(o, .inl (G.2 5, 1, .inr (.inl of2_4358)))], W2_4359, W2_4366] [1, 0, 2, 3] [] rfl
    have hP : va_P G.1 CL ([(o, .inl (G.2 5, 1, .inr (.inl of2_4358))), (oD, .inl (G.2 6, 1, .inr (.inr (.inr (.inl og)))))] ++ (W2_4359 ++ (W2_4366 ++ []))) H := P_left (P_perm hpm_4373 hP)
    have hD : va_D A ([(o, .inl (G.2 5, 1, .inr (.inl of2_4358))), (oD, .inl (G.2 6, 1, .inr (.inr (.inr (.inl og)))))] ++ (W2_4359 ++ (W2_4366 ++ []))) := D_left (D_perm hpm_4373 hD)
    have hl := lv_sub hl [2, 3, 4, 5, 6, 7] (l' := [(0, .ref b), (1, .ref d), (2, .ref m0), (3, .ref o), (4, .ref oD), (5, .int (nI i9))]) rfl
    exact W.widen (show cl + 8300 ≤ cl + 20000 from by omega) (show sl + 17000 ≤ sl + 45000 from by omega) (kk ls H locs C M (((q_daysTo (dC M) (sx9 xs (i9 + 1)))).1) W2_4359 W2_4366 of2_4358 og hP hD hS hl hq_4362 hq_4368 hLw.up)
  · refine lv_aload_n hx hb dL_law_1972 rfl (lv_at hl 5 rfl) ?_
    refine lv_iconst (v := nI 0) hx hb dL_law_1973 (by decide) ?_
    refine r_lald (v := (((q_daysTo (dC C) (sx9 xs (i9 + 1)))).2).toInt64) hx hb hK hP 1 5 rfl rfl (i := 0) (by omega) (by omega) ((hq_4360 (by omega))) dL_law_1974 ?_
    refine lv_iload hx hb dL_law_1975 (lv_at hl 0 rfl) ?_
    refine lv_toi (y := ((q_daysTo (dC C) (sx9 xs (i9 + 1)))).2) ((hq_4367 (by rw [hqs]; omega)).trans (by rw [hqs])) ?_
    refine lv_i2l (v := (((q_daysTo (dC C) (sx9 xs (i9 + 1)))).2).toInt64) hx hb dL_law_1977 rfl ?_
    refine W.lcmp hx hb dL_law_1978 ?_
    refine lv_ton (n := 0) (lcmp0 _) ?_
    refine n_if_eq (tgt := 1984) hx hb (by omega) dL_law_1979 (by decide) (fun c_4374 => ?_) (fun c_4374 => absurd c_4374 (by omega))
    refine lv_goto (tgt := 2788) hx hb dL_law_1984 (by decide) ?_
    have hpm_4375 : (([(oD, .inl (G.2 6, 1, .inr (.inr (.inr (.inl og))))), (o, .inl (G.2 5, 1, .inr (.inl of2_4358)))] ++ (W2_4359 ++ (W2_4366 ++ []))) : va_W).Perm (([(o, .inl (G.2 5, 1, .inr (.inl of2_4358))), (oD, .inl (G.2 6, 1, .inr (.inr (.inr (.inl og)))))] ++ (W2_4359 ++ (W2_4366 ++ []))) ++ []) := segs_perm [[(oD, .inl (G.2 6, 1, .inr (.inr (.inr (.inl og)))))], [(o, .inl (G.2 5, 1, .inr (.inl of2_4358)))], W2_4359, W2_4366] [1, 0, 2, 3] [] rfl
    have hP : va_P G.1 CL ([(o, .inl (G.2 5, 1, .inr (.inl of2_4358))), (oD, .inl (G.2 6, 1, .inr (.inr (.inr (.inl og)))))] ++ (W2_4359 ++ (W2_4366 ++ []))) H := P_left (P_perm hpm_4375 hP)
    have hD : va_D A ([(o, .inl (G.2 5, 1, .inr (.inl of2_4358))), (oD, .inl (G.2 6, 1, .inr (.inr (.inr (.inl og)))))] ++ (W2_4359 ++ (W2_4366 ++ []))) := D_left (D_perm hpm_4375 hD)
    have hl := lv_sub hl [2, 3, 4, 5, 6, 7] (l' := [(0, .ref b), (1, .ref d), (2, .ref m0), (3, .ref o), (4, .ref oD), (5, .int (nI i9))]) rfl
    exact W.widen (show cl + 8300 ≤ cl + 20000 from by omega) (show sl + 17000 ≤ sl + 45000 from by omega) (kk ls H locs C M (((q_daysTo (dC M) (sx9 xs (i9 + 1)))).1) W2_4359 W2_4366 of2_4358 og hP hD hS hl hq_4362 hq_4368 hLw.up)

set_option maxHeartbeats 4000000 in
theorem lawK_32 {p : Program} {l : Launch} {e : Env} {s : State} {m : MethodId} {below : List Frame} {meth : Method} {c : Code} {G : Gt} {A : Nat → Prop} {b L : Nat} {xs : Nat → Int32} {Q : State → Prop} {d m0 o oD i9 N cl sl : Nat} (hfl : l.stackTraces = false) (F : LwF G A p s m c b L xs) (hi9 : i9 + 4 ≤ L) (hN24 : N ≤ 24) (hcl : cl + 20000 ≤ 1200144) (hsl : sl + 45000 ≤ 5495674) (kk : ∀ (ls : Array Slot) (H : Heap) (locs : List Loc) (C M : DS) (th : Nat) (WD WM : va_W) (of : Nat → Int64) (og : Nat → UInt64), va_P G.1 CL ([(o, .inl (G.2 5, 1, .inr (.inl of))), (oD, .inl (G.2 6, 1, .inr (.inr (.inr (.inl og)))))] ++ (WD ++ (WM ++ []))) H → va_D A ([(o, .inl (G.2 5, 1, .inr (.inl of))), (oD, .inl (G.2 6, 1, .inr (.inr (.inr (.inl og)))))] ++ (WD ++ (WM ++ []))) → va_S A s.heap H locs → lv_has ls 10 [(0, .ref b), (1, .ref d), (2, .ref m0), (3, .ref o), (4, .ref oD), (5, .int (nI i9))] → DyW G d C WD → MdW G m0 M th WM → LawI C M (N + 1) → W p l e room_1 s m #[Value.ref b] below meth c H locs (cl + 20000) (sl + 45000) Q (F0 m 2788 ls [])) {ls : Array Slot} {H : Heap} {locs : List Loc} {C M : DS} {th : Nat} {WD WM : va_W} {of : Nat → Int64} {og : Nat → UInt64} (hP : va_P G.1 CL ([(o, .inl (G.2 5, 1, .inr (.inl of))), (oD, .inl (G.2 6, 1, .inr (.inr (.inr (.inl og)))))] ++ (WD ++ (WM ++ []))) H) (hD : va_D A ([(o, .inl (G.2 5, 1, .inr (.inl of))), (oD, .inl (G.2 6, 1, .inr (.inr (.inr (.inl og)))))] ++ (WD ++ (WM ++ [])))) (hS : va_S A s.heap H locs) (hl : lv_has ls 10 [(0, .ref b), (1, .ref d), (2, .ref m0), (3, .ref o), (4, .ref oD), (5, .int (nI i9))]) (hDy : DyW G d C WD) (hMd : MdW G m0 M th WM) (hLw : LawI C M N) : W p l e room_1 s m #[Value.ref b] below meth c H locs cl sl Q (F0 m 1987 ls []) := by
  obtain ⟨cf, hKB, hE, hA, hX9, hbl, hbA, hNc, hL96⟩ := F
  have hx := cf.1
  have hb := cf.2.1
  have hml := cf.2.2.1
  have hown : s.vm.findClass RX0 = some m.cls := cf.2.2.2.1
  have hts := cf.2.2.2.2
  have hK := hKB.1
  have hIc := hDy.inv.1
  have hIm : Inv (dC M) := Inv_sim hLw.1 hIc
  have hRk : RkOk (dC M) := RkOk_sim hLw.1 (RkOk_srt hDy.inv.2.2)
  have hl := hl
  refine lv_aload_n hx hb dL_law_1987 rfl (lv_at hl 1 rfl) ?_
  refine lv_aload_n hx hb dL_law_1988 rfl (lv_at hl 0 rfl) ?_
  refine lv_iload hx hb dL_law_1989 (lv_at hl 5 rfl) ?_
  refine lv_iconst (v := nI 1) hx hb dL_law_1991 (by decide) ?_
  refine lv_iadd hx hb dL_law_1992 ?_
  refine lv_ton (n := i9 + 1) (nadd (by omega)) ?_
  refine va_sld hx hb hX9 hbl hbA hS (i := nI (i9 + 1)) (vp9 (by omega) hL96) dL_law_1993 ?_
  refine W.eq (g2 := F0 m 1994 ls [.int (sx9 xs (i9 + 1)), .ref d]) rfl ?_
  refine lv_aload_n hx hb dL_law_1994 rfl (lv_at hl 3 rfl) ?_
  have hpm_4376 : (([(o, .inl (G.2 5, 1, .inr (.inl of))), (oD, .inl (G.2 6, 1, .inr (.inr (.inr (.inl og)))))] ++ (WD ++ (WM ++ []))) : va_W).Perm (([(o, .inl (G.2 5, 1, .inr (.inl of)))] ++ (WD ++ [])) ++ ([(oD, .inl (G.2 6, 1, .inr (.inr (.inr (.inl og)))))] ++ (WM ++ []))) := segs_perm [[(o, .inl (G.2 5, 1, .inr (.inl of)))], [(oD, .inl (G.2 6, 1, .inr (.inr (.inr (.inl og)))))], WD, WM] [0, 2] [1, 3] rfl
  have hF := hF_ofP (wc := ([(o, .inl (G.2 5, 1, .inr (.inl of)))] ++ (WD ++ []))) hD hS hA hpm_4376
  refine go_ctP hS hP hD hpm_4376 hF
      (vx_runSW (As := [.ref d, .int (sx9 xs (i9 + 1)), .ref o]) (rest := []) cf (wX0_bestDays l G d C WD o of (sx9 xs (i9 + 1)) (hDy) hfl H.size) (vx_cwSW 3 hts (lw_SW q1350 q1351 q46 q1352) rfl rfl rfl (by decide +kernel) ⟨Nat.le_of_ble_eq_true rfl, Nat.le_of_ble_eq_true rfl⟩) (preS_ofW hNc hKB hE hS hF (P_left (P_perm hpm_4376 hP)) ((D_left (D_perm hpm_4376 hD)).weaken (fun _ _ _ _ => trivial)) trivial) rfl rfl hl.1 rfl (lv_room (Nat.le_of_ble_eq_true rfl)) dL_law_1995 ⟨show cl + 16600 ≤ 1200144 from by first | decide | omega, show sl + 34000 ≤ 5495674 from by first | decide | omega⟩)
      (fun u_ H locs hq hph (hP : va_P G.1 CL (([(oD, .inl (G.2 6, 1, .inr (.inr (.inr (.inl og)))))] ++ (WM ++ [])) ++ ([(o, .inl (G.2 5, 1, .inr (.inl u_.1)))] ++ (u_.2 ++ []))) H) (hD : va_D A (([(oD, .inl (G.2 6, 1, .inr (.inr (.inr (.inl og)))))] ++ (WM ++ [])) ++ ([(o, .inl (G.2 5, 1, .inr (.inl u_.1)))] ++ (u_.2 ++ [])))) hS hfz hfk => ?_)
  obtain ⟨of2_4377, W2_4378⟩ := u_
  obtain ⟨hq_4379, hq_4380, hq_4381⟩ : ((q_bestDays (dC C) (sx9 xs (i9 + 1))).1 = 0 → of2_4377 0 = ((q_bestDays (dC C) (sx9 xs (i9 + 1))).2).toInt64) ∧ (q_bestDays (dC C) (sx9 xs (i9 + 1))).1 < 10 ∧ DyW G d C W2_4378 := hq
  have hpm_4382 : (([(oD, .inl (G.2 6, 1, .inr (.inr (.inr (.inl og)))))] ++ (WM ++ [])) ++ ([(o, .inl (G.2 5, 1, .inr (.inl of2_4377)))] ++ (W2_4378 ++ [])) : va_W).Perm ([(oD, .inl (G.2 6, 1, .inr (.inr (.inr (.inl og))))), (o, .inl (G.2 5, 1, .inr (.inl of2_4377)))] ++ (WM ++ (W2_4378 ++ []))) := segs_perm2 [[(oD, .inl (G.2 6, 1, .inr (.inr (.inr (.inl og)))))], WM] [[(o, .inl (G.2 5, 1, .inr (.inl of2_4377)))], W2_4378] [0, 2, 1, 3] rfl
  have hP : va_P G.1 CL ([(oD, .inl (G.2 6, 1, .inr (.inr (.inr (.inl og))))), (o, .inl (G.2 5, 1, .inr (.inl of2_4377)))] ++ (WM ++ (W2_4378 ++ []))) H := P_perm hpm_4382 hP
  have hD : va_D A ([(oD, .inl (G.2 6, 1, .inr (.inr (.inr (.inl og))))), (o, .inl (G.2 5, 1, .inr (.inl of2_4377)))] ++ (WM ++ (W2_4378 ++ []))) := D_perm hpm_4382 hD
  refine W.eq (g2 := F0 m 1998 ls [.int (nI ((q_bestDays (dC C) (sx9 xs (i9 + 1))).1))]) rfl ?_
  have hqs : (q_bestDays (dC M) (sx9 xs (i9 + 1))) = (q_bestDays (dC C) (sx9 xs (i9 + 1))) := q_bestDays_sim hLw.1.symm hIm (sx9 xs (i9 + 1))
  refine lv_istore (lv' := [(6, .int (nI ((q_bestDays (dC C) (sx9 xs (i9 + 1))).1))), (0, .ref b), (1, .ref d), (2, .ref m0), (3, .ref o), (4, .ref oD), (5, .int (nI i9))]) hx hb dL_law_1998 hl (by decide) rfl (fun ls hl => ?_)
  refine lv_aload_n hx hb dL_law_2000 rfl (lv_at hl 3 rfl) ?_
  refine lv_aload_n hx hb dL_law_2001 rfl (lv_at hl 1 rfl) ?_
  refine lv_iload hx hb dL_law_2002 (lv_at hl 6 rfl) ?_
  refine lv_iconst (v := nI 1) hx hb dL_law_2004 (by decide) ?_
  refine lv_iadd hx hb dL_law_2005 ?_
  refine lv_ton (n := i9 + 1) (nadd (by omega)) ?_
  refine va_sld hx hb hX9 hbl hbA hS (i := nI (i9 + 1)) (vp9 (by omega) hL96) dL_law_2006 ?_
  refine W.eq (g2 := F0 m 2007 ls [.int (sx9 xs (i9 + 1)), .ref m0]) rfl ?_
  have hpm_4383 : (([(oD, .inl (G.2 6, 1, .inr (.inr (.inr (.inl og))))), (o, .inl (G.2 5, 1, .inr (.inl of2_4377)))] ++ (WM ++ (W2_4378 ++ []))) : va_W).Perm ((WM ++ []) ++ ([(oD, .inl (G.2 6, 1, .inr (.inr (.inr (.inl og))))), (o, .inl (G.2 5, 1, .inr (.inl of2_4377)))] ++ (W2_4378 ++ []))) := segs_perm [[(oD, .inl (G.2 6, 1, .inr (.inr (.inr (.inl og)))))], [(o, .inl (G.2 5, 1, .inr (.inl of2_4377)))], WM, W2_4378] [2] [0, 1, 3] rfl
  have hF := hF_ofP (wc := (WM ++ [])) hD hS hA hpm_4383
  refine go_ctP hS hP hD hpm_4383 hF
      (va_runV (As := [.int (sx9 xs (i9 + 1))]) (rest := []) cf (eX4_bestDays l G m0 M th WM (sx9 xs (i9 + 1)) (hMd) (hIm) H.size) (cwV 1 hts (lw_V q1847 q1848 q1849 q58 q1850) rfl rfl rfl (by decide +kernel) ⟨Nat.le_of_ble_eq_true rfl, Nat.le_of_ble_eq_true rfl⟩) (preV_of hKB hE hS hF (MdW.recv hK hMd (seg_at [[(oD, .inl (G.2 6, 1, .inr (.inr (.inr (.inl og)))))], [(o, .inl (G.2 5, 1, .inr (.inl of2_4377)))], WM, W2_4378] 2 rfl hP)) (P_left (P_perm hpm_4383 hP)) ((D_left (D_perm hpm_4383 hD)).weaken (fun _ _ _ _ => trivial)) trivial) rfl rfl hl.1 rfl (lv_room (Nat.le_of_ble_eq_true rfl)) dL_law_2007 ⟨show cl + 16600 + 0 ≤ 1200144 from by first | decide | omega, show sl + 34000 + 0 ≤ 5495674 from by first | decide | omega⟩)
      (fun u_ H locs hq hph (hP : va_P G.1 CL (([(oD, .inl (G.2 6, 1, .inr (.inr (.inr (.inl og))))), (o, .inl (G.2 5, 1, .inr (.inl of2_4377)))] ++ (W2_4378 ++ [])) ++ (u_.2 ++ [])) H) (hD : va_D A (([(oD, .inl (G.2 6, 1, .inr (.inr (.inr (.inl og))))), (o, .inl (G.2 5, 1, .inr (.inl of2_4377)))] ++ (W2_4378 ++ [])) ++ (u_.2 ++ []))) hS hfz hfk => ?_)
  obtain ⟨rr_4384, W2_4385⟩ := u_
  obtain ⟨hq_4386, hq_4387⟩ : ((q_bestDays (dC M) (sx9 xs (i9 + 1))).1 = 0 → rr_4384 = (q_bestDays (dC M) (sx9 xs (i9 + 1))).2) ∧ MdW G m0 M (q_bestDays (dC M) (sx9 xs (i9 + 1))).1 W2_4385 := hq
  have hpm_4388 : (([(oD, .inl (G.2 6, 1, .inr (.inr (.inr (.inl og))))), (o, .inl (G.2 5, 1, .inr (.inl of2_4377)))] ++ (W2_4378 ++ [])) ++ (W2_4385 ++ []) : va_W).Perm ([(oD, .inl (G.2 6, 1, .inr (.inr (.inr (.inl og))))), (o, .inl (G.2 5, 1, .inr (.inl of2_4377)))] ++ (W2_4378 ++ (W2_4385 ++ []))) := segs_perm2 [[(oD, .inl (G.2 6, 1, .inr (.inr (.inr (.inl og)))))], [(o, .inl (G.2 5, 1, .inr (.inl of2_4377)))], W2_4378] [W2_4385] [0, 1, 2, 3] rfl
  have hP : va_P G.1 CL ([(oD, .inl (G.2 6, 1, .inr (.inr (.inr (.inl og))))), (o, .inl (G.2 5, 1, .inr (.inl of2_4377)))] ++ (W2_4378 ++ (W2_4385 ++ []))) H := P_perm hpm_4388 hP
  have hD : va_D A ([(oD, .inl (G.2 6, 1, .inr (.inr (.inr (.inl og))))), (o, .inl (G.2 5, 1, .inr (.inl of2_4377)))] ++ (W2_4378 ++ (W2_4385 ++ []))) := D_perm hpm_4388 hD
  refine W.eq (g2 := F0 m 2010 ls [.int rr_4384]) rfl ?_
  refine lv_istore (lv' := [(7, .int rr_4384), (6, .int (nI ((q_bestDays (dC C) (sx9 xs (i9 + 1))).1))), (0, .ref b), (1, .ref d), (2, .ref m0), (3, .ref o), (4, .ref oD), (5, .int (nI i9))]) hx hb dL_law_2010 hl (by decide) rfl (fun ls hl => ?_)
  refine lv_aload_n hx hb dL_law_2012 rfl (lv_at hl 4 rfl) ?_
  have hpm_4389 : (([(oD, .inl (G.2 6, 1, .inr (.inr (.inr (.inl og))))), (o, .inl (G.2 5, 1, .inr (.inl of2_4377)))] ++ (W2_4378 ++ (W2_4385 ++ []))) : va_W).Perm ([] ++ ([(oD, .inl (G.2 6, 1, .inr (.inr (.inr (.inl og))))), (o, .inl (G.2 5, 1, .inr (.inl of2_4377)))] ++ (W2_4378 ++ (W2_4385 ++ [])))) := segs_perm [[(oD, .inl (G.2 6, 1, .inr (.inr (.inr (.inl og)))))], [(o, .inl (G.2 5, 1, .inr (.inl of2_4377)))], W2_4378, W2_4385] [] [0, 1, 2, 3] rfl
  have hF := hF_ofP (wc := []) hD hS hA hpm_4389
  refine go_ctP hS hP hD hpm_4389 hF
      (va_runV (As := []) (rest := []) cf (eX4_thrown l G m0 M (((q_bestDays (dC M) (sx9 xs (i9 + 1)))).1) W2_4385 (hq_4387) H.size) (cwV 0 hts (lw_V q1639 q1640 q1641 q58 q1642) rfl rfl rfl (by decide +kernel) ⟨Nat.le_of_ble_eq_true rfl, Nat.le_of_ble_eq_true rfl⟩) (preV_of hKB hE hS hF (MdW.recv hK hq_4387 (seg_at [[(oD, .inl (G.2 6, 1, .inr (.inr (.inr (.inl og)))))], [(o, .inl (G.2 5, 1, .inr (.inl of2_4377)))], W2_4378, W2_4385] 3 rfl hP)) (P_left (P_perm hpm_4389 hP)) ((D_left (D_perm hpm_4389 hD)).weaken (fun _ _ _ _ => trivial)) (roW.nil (seg_at [[(oD, .inl (G.2 6, 1, .inr (.inr (.inr (.inl og)))))], [(o, .inl (G.2 5, 1, .inr (.inl of2_4377)))], W2_4378, W2_4385] 3 rfl hP))) rfl rfl hl.1 rfl (lv_room (Nat.le_of_ble_eq_true rfl)) dL_law_2013 ⟨show cl + 16600 + 0 ≤ 1200144 from by first | decide | omega, show sl + 34000 + 0 ≤ 5495674 from by first | decide | omega⟩)
      (fun u_ H locs hq hph (hP : va_P G.1 CL (([(oD, .inl (G.2 6, 1, .inr (.inr (.inr (.inl og))))), (o, .inl (G.2 5, 1, .inr (.inl of2_4377)))] ++ (W2_4378 ++ (W2_4385 ++ []))) ++ []) H) (hD : va_D A (([(oD, .inl (G.2 6, 1, .inr (.inr (.inr (.inl og))))), (o, .inl (G.2 5, 1, .inr (.inl of2_4377)))] ++ (W2_4378 ++ (W2_4385 ++ []))) ++ [])) hS hfz hfk => ?_)
  have hpm_4390 : (([(oD, .inl (G.2 6, 1, .inr (.inr (.inr (.inl og))))), (o, .inl (G.2 5, 1, .inr (.inl of2_4377)))] ++ (W2_4378 ++ (W2_4385 ++ []))) ++ [] : va_W).Perm ([(oD, .inl (G.2 6, 1, .inr (.inr (.inr (.inl og))))), (o, .inl (G.2 5, 1, .inr (.inl of2_4377)))] ++ (W2_4378 ++ (W2_4385 ++ []))) := segs_perm2 [[(oD, .inl (G.2 6, 1, .inr (.inr (.inr (.inl og)))))], [(o, .inl (G.2 5, 1, .inr (.inl of2_4377)))], W2_4378, W2_4385] [] [0, 1, 2, 3] rfl
  have hP : va_P G.1 CL ([(oD, .inl (G.2 6, 1, .inr (.inr (.inr (.inl og))))), (o, .inl (G.2 5, 1, .inr (.inl of2_4377)))] ++ (W2_4378 ++ (W2_4385 ++ []))) H := P_perm hpm_4390 hP
  have hD : va_D A ([(oD, .inl (G.2 6, 1, .inr (.inr (.inr (.inl og))))), (o, .inl (G.2 5, 1, .inr (.inl of2_4377)))] ++ (W2_4378 ++ (W2_4385 ++ []))) := D_perm hpm_4390 hD
  refine W.eq (g2 := F0 m 2016 ls [.int (nI (((q_bestDays (dC M) (sx9 xs (i9 + 1)))).1))]) rfl ?_
  refine lv_ton (n := ((q_bestDays (dC C) (sx9 xs (i9 + 1))).1)) (congrArg nI (by rw [hqs])) ?_
  refine lv_iload hx hb dL_law_2016 (lv_at hl 1 rfl) ?_
  refine lv_icmp_eq (tgt := 2023) hx hb dL_law_2018 (by decide) (fun _ => ?_) (fun c9 => absurd rfl c9)
  refine lv_iload hx hb dL_law_2023 (lv_at hl 1 rfl) ?_
  refine n_if_ne (tgt := 2040) hx hb (by omega) dL_law_2025 (by decide) (fun c_4391 => ?_) (fun c_4391 => ?_)
  · refine lv_goto (tgt := 2788) hx hb dL_law_2040 (by decide) ?_
    have hpm_4392 : (([(oD, .inl (G.2 6, 1, .inr (.inr (.inr (.inl og))))), (o, .inl (G.2 5, 1, .inr (.inl of2_4377)))] ++ (W2_4378 ++ (W2_4385 ++ []))) : va_W).Perm (([(o, .inl (G.2 5, 1, .inr (.inl of2_4377))), (oD, .inl (G.2 6, 1, .inr (.inr (.inr (.inl og)))))] ++ (W2_4378 ++ (W2_4385 ++ []))) ++ []) := segs_perm [[(oD, .inl (G.2 6, 1, .inr (.inr (.inr (.inl og)))))], [(o, .inl (G.2 5, 1, .inr (.inl of2_4377)))], W2_4378, W2_4385] [1, 0, 2, 3] [] rfl
    have hP : va_P G.1 CL ([(o, .inl (G.2 5, 1, .inr (.inl of2_4377))), (oD, .inl (G.2 6, 1, .inr (.inr (.inr (.inl og)))))] ++ (W2_4378 ++ (W2_4385 ++ []))) H := P_left (P_perm hpm_4392 hP)
    have hD : va_D A ([(o, .inl (G.2 5, 1, .inr (.inl of2_4377))), (oD, .inl (G.2 6, 1, .inr (.inr (.inr (.inl og)))))] ++ (W2_4378 ++ (W2_4385 ++ []))) := D_left (D_perm hpm_4392 hD)
    have hl := lv_sub hl [2, 3, 4, 5, 6, 7] (l' := [(0, .ref b), (1, .ref d), (2, .ref m0), (3, .ref o), (4, .ref oD), (5, .int (nI i9))]) rfl
    exact W.widen (show cl + 16600 ≤ cl + 20000 from by omega) (show sl + 34000 ≤ sl + 45000 from by omega) (kk ls H locs C M (((q_bestDays (dC M) (sx9 xs (i9 + 1)))).1) W2_4378 W2_4385 of2_4377 og hP hD hS hl hq_4381 hq_4387 hLw.up)
  · refine lv_aload_n hx hb dL_law_2028 rfl (lv_at hl 5 rfl) ?_
    refine lv_iconst (v := nI 0) hx hb dL_law_2029 (by decide) ?_
    refine r_lald (v := (((q_bestDays (dC C) (sx9 xs (i9 + 1)))).2).toInt64) hx hb hK hP 1 5 rfl rfl (i := 0) (by omega) (by omega) ((hq_4379 (by omega))) dL_law_2030 ?_
    refine lv_iload hx hb dL_law_2031 (lv_at hl 0 rfl) ?_
    refine lv_toi (y := ((q_bestDays (dC C) (sx9 xs (i9 + 1)))).2) ((hq_4386 (by rw [hqs]; omega)).trans (by rw [hqs])) ?_
    refine lv_i2l (v := (((q_bestDays (dC C) (sx9 xs (i9 + 1)))).2).toInt64) hx hb dL_law_2033 rfl ?_
    refine W.lcmp hx hb dL_law_2034 ?_
    refine lv_ton (n := 0) (lcmp0 _) ?_
    refine n_if_eq (tgt := 2040) hx hb (by omega) dL_law_2035 (by decide) (fun c_4393 => ?_) (fun c_4393 => absurd c_4393 (by omega))
    refine lv_goto (tgt := 2788) hx hb dL_law_2040 (by decide) ?_
    have hpm_4394 : (([(oD, .inl (G.2 6, 1, .inr (.inr (.inr (.inl og))))), (o, .inl (G.2 5, 1, .inr (.inl of2_4377)))] ++ (W2_4378 ++ (W2_4385 ++ []))) : va_W).Perm (([(o, .inl (G.2 5, 1, .inr (.inl of2_4377))), (oD, .inl (G.2 6, 1, .inr (.inr (.inr (.inl og)))))] ++ (W2_4378 ++ (W2_4385 ++ []))) ++ []) := segs_perm [[(oD, .inl (G.2 6, 1, .inr (.inr (.inr (.inl og)))))], [(o, .inl (G.2 5, 1, .inr (.inl of2_4377)))], W2_4378, W2_4385] [1, 0, 2, 3] [] rfl
    have hP : va_P G.1 CL ([(o, .inl (G.2 5, 1, .inr (.inl of2_4377))), (oD, .inl (G.2 6, 1, .inr (.inr (.inr (.inl og)))))] ++ (W2_4378 ++ (W2_4385 ++ []))) H := P_left (P_perm hpm_4394 hP)
    have hD : va_D A ([(o, .inl (G.2 5, 1, .inr (.inl of2_4377))), (oD, .inl (G.2 6, 1, .inr (.inr (.inr (.inl og)))))] ++ (W2_4378 ++ (W2_4385 ++ []))) := D_left (D_perm hpm_4394 hD)
    have hl := lv_sub hl [2, 3, 4, 5, 6, 7] (l' := [(0, .ref b), (1, .ref d), (2, .ref m0), (3, .ref o), (4, .ref oD), (5, .int (nI i9))]) rfl
    exact W.widen (show cl + 16600 ≤ cl + 20000 from by omega) (show sl + 34000 ≤ sl + 45000 from by omega) (kk ls H locs C M (((q_bestDays (dC M) (sx9 xs (i9 + 1)))).1) W2_4378 W2_4385 of2_4377 og hP hD hS hl hq_4381 hq_4387 hLw.up)

set_option maxHeartbeats 4000000 in
theorem lawK_33 {p : Program} {l : Launch} {e : Env} {s : State} {m : MethodId} {below : List Frame} {meth : Method} {c : Code} {G : Gt} {A : Nat → Prop} {b L : Nat} {xs : Nat → Int32} {Q : State → Prop} {d m0 o oD i9 N cl sl : Nat} (hfl : l.stackTraces = false) (F : LwF G A p s m c b L xs) (hi9 : i9 + 4 ≤ L) (hN24 : N ≤ 24) (hcl : cl + 20000 ≤ 1200144) (hsl : sl + 45000 ≤ 5495674) (kk : ∀ (ls : Array Slot) (H : Heap) (locs : List Loc) (C M : DS) (th : Nat) (WD WM : va_W) (of : Nat → Int64) (og : Nat → UInt64), va_P G.1 CL ([(o, .inl (G.2 5, 1, .inr (.inl of))), (oD, .inl (G.2 6, 1, .inr (.inr (.inr (.inl og)))))] ++ (WD ++ (WM ++ []))) H → va_D A ([(o, .inl (G.2 5, 1, .inr (.inl of))), (oD, .inl (G.2 6, 1, .inr (.inr (.inr (.inl og)))))] ++ (WD ++ (WM ++ []))) → va_S A s.heap H locs → lv_has ls 10 [(0, .ref b), (1, .ref d), (2, .ref m0), (3, .ref o), (4, .ref oD), (5, .int (nI i9))] → DyW G d C WD → MdW G m0 M th WM → LawI C M (N + 1) → W p l e room_1 s m #[Value.ref b] below meth c H locs (cl + 20000) (sl + 45000) Q (F0 m 2788 ls [])) {ls : Array Slot} {H : Heap} {locs : List Loc} {C M : DS} {th : Nat} {WD WM : va_W} {of : Nat → Int64} {og : Nat → UInt64} (hP : va_P G.1 CL ([(o, .inl (G.2 5, 1, .inr (.inl of))), (oD, .inl (G.2 6, 1, .inr (.inr (.inr (.inl og)))))] ++ (WD ++ (WM ++ []))) H) (hD : va_D A ([(o, .inl (G.2 5, 1, .inr (.inl of))), (oD, .inl (G.2 6, 1, .inr (.inr (.inr (.inl og)))))] ++ (WD ++ (WM ++ [])))) (hS : va_S A s.heap H locs) (hl : lv_has ls 10 [(0, .ref b), (1, .ref d), (2, .ref m0), (3, .ref o), (4, .ref oD), (5, .int (nI i9))]) (hDy : DyW G d C WD) (hMd : MdW G m0 M th WM) (hLw : LawI C M N) : W p l e room_1 s m #[Value.ref b] below meth c H locs cl sl Q (F0 m 2043 ls []) := by
  obtain ⟨cf, hKB, hE, hA, hX9, hbl, hbA, hNc, hL96⟩ := F
  have hx := cf.1
  have hb := cf.2.1
  have hml := cf.2.2.1
  have hown : s.vm.findClass RX0 = some m.cls := cf.2.2.2.1
  have hts := cf.2.2.2.2
  have hK := hKB.1
  have hIc := hDy.inv.1
  have hIm : Inv (dC M) := Inv_sim hLw.1 hIc
  have hRk : RkOk (dC M) := RkOk_sim hLw.1 (RkOk_srt hDy.inv.2.2)
  have hl := hl
  refine lv_aload_n hx hb dL_law_2043 rfl (lv_at hl 1 rfl) ?_
  refine lv_aload_n hx hb dL_law_2044 rfl (lv_at hl 0 rfl) ?_
  refine lv_iload hx hb dL_law_2045 (lv_at hl 5 rfl) ?_
  refine lv_iconst (v := nI 1) hx hb dL_law_2047 (by decide) ?_
  refine lv_iadd hx hb dL_law_2048 ?_
  refine lv_ton (n := i9 + 1) (nadd (by omega)) ?_
  refine va_sld hx hb hX9 hbl hbA hS (i := nI (i9 + 1)) (vp9 (by omega) hL96) dL_law_2049 ?_
  refine W.eq (g2 := F0 m 2050 ls [.int (sx9 xs (i9 + 1)), .ref d]) rfl ?_
  refine lv_aload_n hx hb dL_law_2050 rfl (lv_at hl 3 rfl) ?_
  have hpm_4395 : (([(o, .inl (G.2 5, 1, .inr (.inl of))), (oD, .inl (G.2 6, 1, .inr (.inr (.inr (.inl og)))))] ++ (WD ++ (WM ++ []))) : va_W).Perm (([(o, .inl (G.2 5, 1, .inr (.inl of)))] ++ (WD ++ [])) ++ ([(oD, .inl (G.2 6, 1, .inr (.inr (.inr (.inl og)))))] ++ (WM ++ []))) := segs_perm [[(o, .inl (G.2 5, 1, .inr (.inl of)))], [(oD, .inl (G.2 6, 1, .inr (.inr (.inr (.inl og)))))], WD, WM] [0, 2] [1, 3] rfl
  have hF := hF_ofP (wc := ([(o, .inl (G.2 5, 1, .inr (.inl of)))] ++ (WD ++ []))) hD hS hA hpm_4395
  refine go_ctP hS hP hD hpm_4395 hF
      (vx_runSW (As := [.ref d, .int (sx9 xs (i9 + 1)), .ref o]) (rest := []) cf (wX0_bestDaysByTrying l G d C WD o of (sx9 xs (i9 + 1)) (hDy) hfl H.size) (vx_cwSW 3 hts (lw_SW q1370 q1371 q46 q1372) rfl rfl rfl (by decide +kernel) ⟨Nat.le_of_ble_eq_true rfl, Nat.le_of_ble_eq_true rfl⟩) (preS_ofW hNc hKB hE hS hF (P_left (P_perm hpm_4395 hP)) ((D_left (D_perm hpm_4395 hD)).weaken (fun _ _ _ _ => trivial)) trivial) rfl rfl hl.1 rfl (lv_room (Nat.le_of_ble_eq_true rfl)) dL_law_2051 ⟨show cl + 8300 ≤ 1200144 from by first | decide | omega, show sl + 17000 ≤ 5495674 from by first | decide | omega⟩)
      (fun u_ H locs hq hph (hP : va_P G.1 CL (([(oD, .inl (G.2 6, 1, .inr (.inr (.inr (.inl og)))))] ++ (WM ++ [])) ++ ([(o, .inl (G.2 5, 1, .inr (.inl u_.1)))] ++ (u_.2 ++ []))) H) (hD : va_D A (([(oD, .inl (G.2 6, 1, .inr (.inr (.inr (.inl og)))))] ++ (WM ++ [])) ++ ([(o, .inl (G.2 5, 1, .inr (.inl u_.1)))] ++ (u_.2 ++ [])))) hS hfz hfk => ?_)
  obtain ⟨of2_4396, W2_4397⟩ := u_
  obtain ⟨hq_4398, hq_4399, hq_4400⟩ : ((q_bestDays (dC C) (sx9 xs (i9 + 1))).1 = 0 → of2_4396 0 = ((q_bestDays (dC C) (sx9 xs (i9 + 1))).2).toInt64) ∧ (q_bestDays (dC C) (sx9 xs (i9 + 1))).1 < 10 ∧ DyW G d C W2_4397 := hq
  have hpm_4401 : (([(oD, .inl (G.2 6, 1, .inr (.inr (.inr (.inl og)))))] ++ (WM ++ [])) ++ ([(o, .inl (G.2 5, 1, .inr (.inl of2_4396)))] ++ (W2_4397 ++ [])) : va_W).Perm ([(oD, .inl (G.2 6, 1, .inr (.inr (.inr (.inl og))))), (o, .inl (G.2 5, 1, .inr (.inl of2_4396)))] ++ (WM ++ (W2_4397 ++ []))) := segs_perm2 [[(oD, .inl (G.2 6, 1, .inr (.inr (.inr (.inl og)))))], WM] [[(o, .inl (G.2 5, 1, .inr (.inl of2_4396)))], W2_4397] [0, 2, 1, 3] rfl
  have hP : va_P G.1 CL ([(oD, .inl (G.2 6, 1, .inr (.inr (.inr (.inl og))))), (o, .inl (G.2 5, 1, .inr (.inl of2_4396)))] ++ (WM ++ (W2_4397 ++ []))) H := P_perm hpm_4401 hP
  have hD : va_D A ([(oD, .inl (G.2 6, 1, .inr (.inr (.inr (.inl og))))), (o, .inl (G.2 5, 1, .inr (.inl of2_4396)))] ++ (WM ++ (W2_4397 ++ []))) := D_perm hpm_4401 hD
  refine W.eq (g2 := F0 m 2054 ls [.int (nI ((q_bestDays (dC C) (sx9 xs (i9 + 1))).1))]) rfl ?_
  have hqs : (q_bestDays (dC M) (sx9 xs (i9 + 1))) = (q_bestDays (dC C) (sx9 xs (i9 + 1))) := q_bestDays_sim hLw.1.symm hIm (sx9 xs (i9 + 1))
  refine lv_istore (lv' := [(6, .int (nI ((q_bestDays (dC C) (sx9 xs (i9 + 1))).1))), (0, .ref b), (1, .ref d), (2, .ref m0), (3, .ref o), (4, .ref oD), (5, .int (nI i9))]) hx hb dL_law_2054 hl (by decide) rfl (fun ls hl => ?_)
  refine lv_aload_n hx hb dL_law_2056 rfl (lv_at hl 3 rfl) ?_
  refine lv_aload_n hx hb dL_law_2057 rfl (lv_at hl 1 rfl) ?_
  refine lv_iload hx hb dL_law_2058 (lv_at hl 6 rfl) ?_
  refine lv_iconst (v := nI 1) hx hb dL_law_2060 (by decide) ?_
  refine lv_iadd hx hb dL_law_2061 ?_
  refine lv_ton (n := i9 + 1) (nadd (by omega)) ?_
  refine va_sld hx hb hX9 hbl hbA hS (i := nI (i9 + 1)) (vp9 (by omega) hL96) dL_law_2062 ?_
  refine W.eq (g2 := F0 m 2063 ls [.int (sx9 xs (i9 + 1)), .ref m0]) rfl ?_
  have hpm_4402 : (([(oD, .inl (G.2 6, 1, .inr (.inr (.inr (.inl og))))), (o, .inl (G.2 5, 1, .inr (.inl of2_4396)))] ++ (WM ++ (W2_4397 ++ []))) : va_W).Perm ((WM ++ []) ++ ([(oD, .inl (G.2 6, 1, .inr (.inr (.inr (.inl og))))), (o, .inl (G.2 5, 1, .inr (.inl of2_4396)))] ++ (W2_4397 ++ []))) := segs_perm [[(oD, .inl (G.2 6, 1, .inr (.inr (.inr (.inl og)))))], [(o, .inl (G.2 5, 1, .inr (.inl of2_4396)))], WM, W2_4397] [2] [0, 1, 3] rfl
  have hF := hF_ofP (wc := (WM ++ [])) hD hS hA hpm_4402
  refine go_ctP hS hP hD hpm_4402 hF
      (va_runV (As := [.int (sx9 xs (i9 + 1))]) (rest := []) cf (eX4_bestDaysByTrying l G m0 M th WM (sx9 xs (i9 + 1)) (hMd) (hIm) H.size) (cwV 1 hts (lw_V q1863 q1864 q1865 q58 q1866) rfl rfl rfl (by decide +kernel) ⟨Nat.le_of_ble_eq_true rfl, Nat.le_of_ble_eq_true rfl⟩) (preV_of hKB hE hS hF (MdW.recv hK hMd (seg_at [[(oD, .inl (G.2 6, 1, .inr (.inr (.inr (.inl og)))))], [(o, .inl (G.2 5, 1, .inr (.inl of2_4396)))], WM, W2_4397] 2 rfl hP)) (P_left (P_perm hpm_4402 hP)) ((D_left (D_perm hpm_4402 hD)).weaken (fun _ _ _ _ => trivial)) trivial) rfl rfl hl.1 rfl (lv_room (Nat.le_of_ble_eq_true rfl)) dL_law_2063 ⟨show cl + 8300 + 0 ≤ 1200144 from by first | decide | omega, show sl + 17000 + 0 ≤ 5495674 from by first | decide | omega⟩)
      (fun u_ H locs hq hph (hP : va_P G.1 CL (([(oD, .inl (G.2 6, 1, .inr (.inr (.inr (.inl og))))), (o, .inl (G.2 5, 1, .inr (.inl of2_4396)))] ++ (W2_4397 ++ [])) ++ (u_.2 ++ [])) H) (hD : va_D A (([(oD, .inl (G.2 6, 1, .inr (.inr (.inr (.inl og))))), (o, .inl (G.2 5, 1, .inr (.inl of2_4396)))] ++ (W2_4397 ++ [])) ++ (u_.2 ++ []))) hS hfz hfk => ?_)
  obtain ⟨rr_4403, W2_4404⟩ := u_
  obtain ⟨hq_4405, hq_4406⟩ : ((q_bestDays (dC M) (sx9 xs (i9 + 1))).1 = 0 → rr_4403 = (q_bestDays (dC M) (sx9 xs (i9 + 1))).2) ∧ MdW G m0 M (q_bestDays (dC M) (sx9 xs (i9 + 1))).1 W2_4404 := hq
  have hpm_4407 : (([(oD, .inl (G.2 6, 1, .inr (.inr (.inr (.inl og))))), (o, .inl (G.2 5, 1, .inr (.inl of2_4396)))] ++ (W2_4397 ++ [])) ++ (W2_4404 ++ []) : va_W).Perm ([(oD, .inl (G.2 6, 1, .inr (.inr (.inr (.inl og))))), (o, .inl (G.2 5, 1, .inr (.inl of2_4396)))] ++ (W2_4397 ++ (W2_4404 ++ []))) := segs_perm2 [[(oD, .inl (G.2 6, 1, .inr (.inr (.inr (.inl og)))))], [(o, .inl (G.2 5, 1, .inr (.inl of2_4396)))], W2_4397] [W2_4404] [0, 1, 2, 3] rfl
  have hP : va_P G.1 CL ([(oD, .inl (G.2 6, 1, .inr (.inr (.inr (.inl og))))), (o, .inl (G.2 5, 1, .inr (.inl of2_4396)))] ++ (W2_4397 ++ (W2_4404 ++ []))) H := P_perm hpm_4407 hP
  have hD : va_D A ([(oD, .inl (G.2 6, 1, .inr (.inr (.inr (.inl og))))), (o, .inl (G.2 5, 1, .inr (.inl of2_4396)))] ++ (W2_4397 ++ (W2_4404 ++ []))) := D_perm hpm_4407 hD
  refine W.eq (g2 := F0 m 2066 ls [.int rr_4403]) rfl ?_
  refine lv_istore (lv' := [(7, .int rr_4403), (6, .int (nI ((q_bestDays (dC C) (sx9 xs (i9 + 1))).1))), (0, .ref b), (1, .ref d), (2, .ref m0), (3, .ref o), (4, .ref oD), (5, .int (nI i9))]) hx hb dL_law_2066 hl (by decide) rfl (fun ls hl => ?_)
  refine lv_aload_n hx hb dL_law_2068 rfl (lv_at hl 4 rfl) ?_
  have hpm_4408 : (([(oD, .inl (G.2 6, 1, .inr (.inr (.inr (.inl og))))), (o, .inl (G.2 5, 1, .inr (.inl of2_4396)))] ++ (W2_4397 ++ (W2_4404 ++ []))) : va_W).Perm ([] ++ ([(oD, .inl (G.2 6, 1, .inr (.inr (.inr (.inl og))))), (o, .inl (G.2 5, 1, .inr (.inl of2_4396)))] ++ (W2_4397 ++ (W2_4404 ++ [])))) := segs_perm [[(oD, .inl (G.2 6, 1, .inr (.inr (.inr (.inl og)))))], [(o, .inl (G.2 5, 1, .inr (.inl of2_4396)))], W2_4397, W2_4404] [] [0, 1, 2, 3] rfl
  have hF := hF_ofP (wc := []) hD hS hA hpm_4408
  refine go_ctP hS hP hD hpm_4408 hF
      (va_runV (As := []) (rest := []) cf (eX4_thrown l G m0 M (((q_bestDays (dC M) (sx9 xs (i9 + 1)))).1) W2_4404 (hq_4406) H.size) (cwV 0 hts (lw_V q1639 q1640 q1641 q58 q1642) rfl rfl rfl (by decide +kernel) ⟨Nat.le_of_ble_eq_true rfl, Nat.le_of_ble_eq_true rfl⟩) (preV_of hKB hE hS hF (MdW.recv hK hq_4406 (seg_at [[(oD, .inl (G.2 6, 1, .inr (.inr (.inr (.inl og)))))], [(o, .inl (G.2 5, 1, .inr (.inl of2_4396)))], W2_4397, W2_4404] 3 rfl hP)) (P_left (P_perm hpm_4408 hP)) ((D_left (D_perm hpm_4408 hD)).weaken (fun _ _ _ _ => trivial)) (roW.nil (seg_at [[(oD, .inl (G.2 6, 1, .inr (.inr (.inr (.inl og)))))], [(o, .inl (G.2 5, 1, .inr (.inl of2_4396)))], W2_4397, W2_4404] 3 rfl hP))) rfl rfl hl.1 rfl (lv_room (Nat.le_of_ble_eq_true rfl)) dL_law_2069 ⟨show cl + 8300 + 0 ≤ 1200144 from by first | decide | omega, show sl + 17000 + 0 ≤ 5495674 from by first | decide | omega⟩)
      (fun u_ H locs hq hph (hP : va_P G.1 CL (([(oD, .inl (G.2 6, 1, .inr (.inr (.inr (.inl og))))), (o, .inl (G.2 5, 1, .inr (.inl of2_4396)))] ++ (W2_4397 ++ (W2_4404 ++ []))) ++ []) H) (hD : va_D A (([(oD, .inl (G.2 6, 1, .inr (.inr (.inr (.inl og))))), (o, .inl (G.2 5, 1, .inr (.inl of2_4396)))] ++ (W2_4397 ++ (W2_4404 ++ []))) ++ [])) hS hfz hfk => ?_)
  have hpm_4409 : (([(oD, .inl (G.2 6, 1, .inr (.inr (.inr (.inl og))))), (o, .inl (G.2 5, 1, .inr (.inl of2_4396)))] ++ (W2_4397 ++ (W2_4404 ++ []))) ++ [] : va_W).Perm ([(oD, .inl (G.2 6, 1, .inr (.inr (.inr (.inl og))))), (o, .inl (G.2 5, 1, .inr (.inl of2_4396)))] ++ (W2_4397 ++ (W2_4404 ++ []))) := segs_perm2 [[(oD, .inl (G.2 6, 1, .inr (.inr (.inr (.inl og)))))], [(o, .inl (G.2 5, 1, .inr (.inl of2_4396)))], W2_4397, W2_4404] [] [0, 1, 2, 3] rfl
  have hP : va_P G.1 CL ([(oD, .inl (G.2 6, 1, .inr (.inr (.inr (.inl og))))), (o, .inl (G.2 5, 1, .inr (.inl of2_4396)))] ++ (W2_4397 ++ (W2_4404 ++ []))) H := P_perm hpm_4409 hP
  have hD : va_D A ([(oD, .inl (G.2 6, 1, .inr (.inr (.inr (.inl og))))), (o, .inl (G.2 5, 1, .inr (.inl of2_4396)))] ++ (W2_4397 ++ (W2_4404 ++ []))) := D_perm hpm_4409 hD
  refine W.eq (g2 := F0 m 2072 ls [.int (nI (((q_bestDays (dC M) (sx9 xs (i9 + 1)))).1))]) rfl ?_
  refine lv_ton (n := ((q_bestDays (dC C) (sx9 xs (i9 + 1))).1)) (congrArg nI (by rw [hqs])) ?_
  refine lv_iload hx hb dL_law_2072 (lv_at hl 1 rfl) ?_
  refine lv_icmp_eq (tgt := 2079) hx hb dL_law_2074 (by decide) (fun _ => ?_) (fun c9 => absurd rfl c9)
  refine lv_iload hx hb dL_law_2079 (lv_at hl 1 rfl) ?_
  refine n_if_ne (tgt := 2096) hx hb (by omega) dL_law_2081 (by decide) (fun c_4410 => ?_) (fun c_4410 => ?_)
  · refine lv_goto (tgt := 2788) hx hb dL_law_2096 (by decide) ?_
    have hpm_4411 : (([(oD, .inl (G.2 6, 1, .inr (.inr (.inr (.inl og))))), (o, .inl (G.2 5, 1, .inr (.inl of2_4396)))] ++ (W2_4397 ++ (W2_4404 ++ []))) : va_W).Perm (([(o, .inl (G.2 5, 1, .inr (.inl of2_4396))), (oD, .inl (G.2 6, 1, .inr (.inr (.inr (.inl og)))))] ++ (W2_4397 ++ (W2_4404 ++ []))) ++ []) := segs_perm [[(oD, .inl (G.2 6, 1, .inr (.inr (.inr (.inl og)))))], [(o, .inl (G.2 5, 1, .inr (.inl of2_4396)))], W2_4397, W2_4404] [1, 0, 2, 3] [] rfl
    have hP : va_P G.1 CL ([(o, .inl (G.2 5, 1, .inr (.inl of2_4396))), (oD, .inl (G.2 6, 1, .inr (.inr (.inr (.inl og)))))] ++ (W2_4397 ++ (W2_4404 ++ []))) H := P_left (P_perm hpm_4411 hP)
    have hD : va_D A ([(o, .inl (G.2 5, 1, .inr (.inl of2_4396))), (oD, .inl (G.2 6, 1, .inr (.inr (.inr (.inl og)))))] ++ (W2_4397 ++ (W2_4404 ++ []))) := D_left (D_perm hpm_4411 hD)
    have hl := lv_sub hl [2, 3, 4, 5, 6, 7] (l' := [(0, .ref b), (1, .ref d), (2, .ref m0), (3, .ref o), (4, .ref oD), (5, .int (nI i9))]) rfl
    exact W.widen (show cl + 8300 ≤ cl + 20000 from by omega) (show sl + 17000 ≤ sl + 45000 from by omega) (kk ls H locs C M (((q_bestDays (dC M) (sx9 xs (i9 + 1)))).1) W2_4397 W2_4404 of2_4396 og hP hD hS hl hq_4400 hq_4406 hLw.up)
  · refine lv_aload_n hx hb dL_law_2084 rfl (lv_at hl 5 rfl) ?_
    refine lv_iconst (v := nI 0) hx hb dL_law_2085 (by decide) ?_
    refine r_lald (v := (((q_bestDays (dC C) (sx9 xs (i9 + 1)))).2).toInt64) hx hb hK hP 1 5 rfl rfl (i := 0) (by omega) (by omega) ((hq_4398 (by omega))) dL_law_2086 ?_
    refine lv_iload hx hb dL_law_2087 (lv_at hl 0 rfl) ?_
    refine lv_toi (y := ((q_bestDays (dC C) (sx9 xs (i9 + 1)))).2) ((hq_4405 (by rw [hqs]; omega)).trans (by rw [hqs])) ?_
    refine lv_i2l (v := (((q_bestDays (dC C) (sx9 xs (i9 + 1)))).2).toInt64) hx hb dL_law_2089 rfl ?_
    refine W.lcmp hx hb dL_law_2090 ?_
    refine lv_ton (n := 0) (lcmp0 _) ?_
    refine n_if_eq (tgt := 2096) hx hb (by omega) dL_law_2091 (by decide) (fun c_4412 => ?_) (fun c_4412 => absurd c_4412 (by omega))
    refine lv_goto (tgt := 2788) hx hb dL_law_2096 (by decide) ?_
    have hpm_4413 : (([(oD, .inl (G.2 6, 1, .inr (.inr (.inr (.inl og))))), (o, .inl (G.2 5, 1, .inr (.inl of2_4396)))] ++ (W2_4397 ++ (W2_4404 ++ []))) : va_W).Perm (([(o, .inl (G.2 5, 1, .inr (.inl of2_4396))), (oD, .inl (G.2 6, 1, .inr (.inr (.inr (.inl og)))))] ++ (W2_4397 ++ (W2_4404 ++ []))) ++ []) := segs_perm [[(oD, .inl (G.2 6, 1, .inr (.inr (.inr (.inl og)))))], [(o, .inl (G.2 5, 1, .inr (.inl of2_4396)))], W2_4397, W2_4404] [1, 0, 2, 3] [] rfl
    have hP : va_P G.1 CL ([(o, .inl (G.2 5, 1, .inr (.inl of2_4396))), (oD, .inl (G.2 6, 1, .inr (.inr (.inr (.inl og)))))] ++ (W2_4397 ++ (W2_4404 ++ []))) H := P_left (P_perm hpm_4413 hP)
    have hD : va_D A ([(o, .inl (G.2 5, 1, .inr (.inl of2_4396))), (oD, .inl (G.2 6, 1, .inr (.inr (.inr (.inl og)))))] ++ (W2_4397 ++ (W2_4404 ++ []))) := D_left (D_perm hpm_4413 hD)
    have hl := lv_sub hl [2, 3, 4, 5, 6, 7] (l' := [(0, .ref b), (1, .ref d), (2, .ref m0), (3, .ref o), (4, .ref oD), (5, .int (nI i9))]) rfl
    exact W.widen (show cl + 8300 ≤ cl + 20000 from by omega) (show sl + 17000 ≤ sl + 45000 from by omega) (kk ls H locs C M (((q_bestDays (dC M) (sx9 xs (i9 + 1)))).1) W2_4397 W2_4404 of2_4396 og hP hD hS hl hq_4400 hq_4406 hLw.up)

set_option maxHeartbeats 4000000 in
theorem lawK_34 {p : Program} {l : Launch} {e : Env} {s : State} {m : MethodId} {below : List Frame} {meth : Method} {c : Code} {G : Gt} {A : Nat → Prop} {b L : Nat} {xs : Nat → Int32} {Q : State → Prop} {d m0 o oD i9 N cl sl : Nat} (hfl : l.stackTraces = false) (F : LwF G A p s m c b L xs) (hi9 : i9 + 4 ≤ L) (hN24 : N ≤ 24) (hcl : cl + 20000 ≤ 1200144) (hsl : sl + 45000 ≤ 5495674) (kk : ∀ (ls : Array Slot) (H : Heap) (locs : List Loc) (C M : DS) (th : Nat) (WD WM : va_W) (of : Nat → Int64) (og : Nat → UInt64), va_P G.1 CL ([(o, .inl (G.2 5, 1, .inr (.inl of))), (oD, .inl (G.2 6, 1, .inr (.inr (.inr (.inl og)))))] ++ (WD ++ (WM ++ []))) H → va_D A ([(o, .inl (G.2 5, 1, .inr (.inl of))), (oD, .inl (G.2 6, 1, .inr (.inr (.inr (.inl og)))))] ++ (WD ++ (WM ++ []))) → va_S A s.heap H locs → lv_has ls 10 [(0, .ref b), (1, .ref d), (2, .ref m0), (3, .ref o), (4, .ref oD), (5, .int (nI i9))] → DyW G d C WD → MdW G m0 M th WM → LawI C M (N + 1) → W p l e room_1 s m #[Value.ref b] below meth c H locs (cl + 20000) (sl + 45000) Q (F0 m 2788 ls [])) {ls : Array Slot} {H : Heap} {locs : List Loc} {C M : DS} {th : Nat} {WD WM : va_W} {of : Nat → Int64} {og : Nat → UInt64} (hP : va_P G.1 CL ([(o, .inl (G.2 5, 1, .inr (.inl of))), (oD, .inl (G.2 6, 1, .inr (.inr (.inr (.inl og)))))] ++ (WD ++ (WM ++ []))) H) (hD : va_D A ([(o, .inl (G.2 5, 1, .inr (.inl of))), (oD, .inl (G.2 6, 1, .inr (.inr (.inr (.inl og)))))] ++ (WD ++ (WM ++ [])))) (hS : va_S A s.heap H locs) (hl : lv_has ls 10 [(0, .ref b), (1, .ref d), (2, .ref m0), (3, .ref o), (4, .ref oD), (5, .int (nI i9))]) (hDy : DyW G d C WD) (hMd : MdW G m0 M th WM) (hLw : LawI C M N) : W p l e room_1 s m #[Value.ref b] below meth c H locs cl sl Q (F0 m 2099 ls []) := by
  obtain ⟨cf, hKB, hE, hA, hX9, hbl, hbA, hNc, hL96⟩ := F
  have hx := cf.1
  have hb := cf.2.1
  have hml := cf.2.2.1
  have hown : s.vm.findClass RX0 = some m.cls := cf.2.2.2.1
  have hts := cf.2.2.2.2
  have hK := hKB.1
  have hIc := hDy.inv.1
  have hIm : Inv (dC M) := Inv_sim hLw.1 hIc
  have hRk : RkOk (dC M) := RkOk_sim hLw.1 (RkOk_srt hDy.inv.2.2)
  have hl := hl
  refine lv_aload_n hx hb dL_law_2099 rfl (lv_at hl 1 rfl) ?_
  refine lv_aload_n hx hb dL_law_2100 rfl (lv_at hl 0 rfl) ?_
  refine lv_iload hx hb dL_law_2101 (lv_at hl 5 rfl) ?_
  refine lv_iconst (v := nI 1) hx hb dL_law_2103 (by decide) ?_
  refine lv_iadd hx hb dL_law_2104 ?_
  refine lv_ton (n := i9 + 1) (nadd (by omega)) ?_
  refine va_sld hx hb hX9 hbl hbA hS (i := nI (i9 + 1)) (vp9 (by omega) hL96) dL_law_2105 ?_
  refine W.eq (g2 := F0 m 2106 ls [.int (sx9 xs (i9 + 1)), .ref d]) rfl ?_
  refine lv_aload_n hx hb dL_law_2106 rfl (lv_at hl 3 rfl) ?_
  have hpm_4414 : (([(o, .inl (G.2 5, 1, .inr (.inl of))), (oD, .inl (G.2 6, 1, .inr (.inr (.inr (.inl og)))))] ++ (WD ++ (WM ++ []))) : va_W).Perm (([(o, .inl (G.2 5, 1, .inr (.inl of)))] ++ (WD ++ [])) ++ ([(oD, .inl (G.2 6, 1, .inr (.inr (.inr (.inl og)))))] ++ (WM ++ []))) := segs_perm [[(o, .inl (G.2 5, 1, .inr (.inl of)))], [(oD, .inl (G.2 6, 1, .inr (.inr (.inr (.inl og)))))], WD, WM] [0, 2] [1, 3] rfl
  have hF := hF_ofP (wc := ([(o, .inl (G.2 5, 1, .inr (.inl of)))] ++ (WD ++ []))) hD hS hA hpm_4414
  refine go_ctP hS hP hD hpm_4414 hF
      (vx_runSW (As := [.ref d, .int (sx9 xs (i9 + 1)), .ref o]) (rest := []) cf (wX0_bestDaysStart l G d C WD o of (sx9 xs (i9 + 1)) (hDy) hfl H.size) (vx_cwSW 3 hts (lw_SW q1377 q1378 q46 q1379) rfl rfl rfl (by decide +kernel) ⟨Nat.le_of_ble_eq_true rfl, Nat.le_of_ble_eq_true rfl⟩) (preS_ofW hNc hKB hE hS hF (P_left (P_perm hpm_4414 hP)) ((D_left (D_perm hpm_4414 hD)).weaken (fun _ _ _ _ => trivial)) trivial) rfl rfl hl.1 rfl (lv_room (Nat.le_of_ble_eq_true rfl)) dL_law_2107 ⟨show cl + 8300 ≤ 1200144 from by first | decide | omega, show sl + 17000 ≤ 5495674 from by first | decide | omega⟩)
      (fun u_ H locs hq hph (hP : va_P G.1 CL (([(oD, .inl (G.2 6, 1, .inr (.inr (.inr (.inl og)))))] ++ (WM ++ [])) ++ ([(o, .inl (G.2 5, 1, .inr (.inl u_.1)))] ++ (u_.2 ++ []))) H) (hD : va_D A (([(oD, .inl (G.2 6, 1, .inr (.inr (.inr (.inl og)))))] ++ (WM ++ [])) ++ ([(o, .inl (G.2 5, 1, .inr (.inl u_.1)))] ++ (u_.2 ++ [])))) hS hfz hfk => ?_)
  obtain ⟨of2_4415, W2_4416⟩ := u_
  obtain ⟨hq_4417, hq_4418, hq_4419⟩ : ((q_bestStart (dC C) (sx9 xs (i9 + 1))).1 = 0 → of2_4415 0 = ((q_bestStart (dC C) (sx9 xs (i9 + 1))).2).toInt64) ∧ (q_bestStart (dC C) (sx9 xs (i9 + 1))).1 < 10 ∧ DyW G d C W2_4416 := hq
  have hpm_4420 : (([(oD, .inl (G.2 6, 1, .inr (.inr (.inr (.inl og)))))] ++ (WM ++ [])) ++ ([(o, .inl (G.2 5, 1, .inr (.inl of2_4415)))] ++ (W2_4416 ++ [])) : va_W).Perm ([(oD, .inl (G.2 6, 1, .inr (.inr (.inr (.inl og))))), (o, .inl (G.2 5, 1, .inr (.inl of2_4415)))] ++ (WM ++ (W2_4416 ++ []))) := segs_perm2 [[(oD, .inl (G.2 6, 1, .inr (.inr (.inr (.inl og)))))], WM] [[(o, .inl (G.2 5, 1, .inr (.inl of2_4415)))], W2_4416] [0, 2, 1, 3] rfl
  have hP : va_P G.1 CL ([(oD, .inl (G.2 6, 1, .inr (.inr (.inr (.inl og))))), (o, .inl (G.2 5, 1, .inr (.inl of2_4415)))] ++ (WM ++ (W2_4416 ++ []))) H := P_perm hpm_4420 hP
  have hD : va_D A ([(oD, .inl (G.2 6, 1, .inr (.inr (.inr (.inl og))))), (o, .inl (G.2 5, 1, .inr (.inl of2_4415)))] ++ (WM ++ (W2_4416 ++ []))) := D_perm hpm_4420 hD
  refine W.eq (g2 := F0 m 2110 ls [.int (nI ((q_bestStart (dC C) (sx9 xs (i9 + 1))).1))]) rfl ?_
  have hqs : (q_bestStart (dC M) (sx9 xs (i9 + 1))) = (q_bestStart (dC C) (sx9 xs (i9 + 1))) := q_bestStart_sim hLw.1.symm hIm (sx9 xs (i9 + 1))
  refine lv_istore (lv' := [(6, .int (nI ((q_bestStart (dC C) (sx9 xs (i9 + 1))).1))), (0, .ref b), (1, .ref d), (2, .ref m0), (3, .ref o), (4, .ref oD), (5, .int (nI i9))]) hx hb dL_law_2110 hl (by decide) rfl (fun ls hl => ?_)
  refine lv_aload_n hx hb dL_law_2112 rfl (lv_at hl 3 rfl) ?_
  refine lv_aload_n hx hb dL_law_2113 rfl (lv_at hl 1 rfl) ?_
  refine lv_iload hx hb dL_law_2114 (lv_at hl 6 rfl) ?_
  refine lv_iconst (v := nI 1) hx hb dL_law_2116 (by decide) ?_
  refine lv_iadd hx hb dL_law_2117 ?_
  refine lv_ton (n := i9 + 1) (nadd (by omega)) ?_
  refine va_sld hx hb hX9 hbl hbA hS (i := nI (i9 + 1)) (vp9 (by omega) hL96) dL_law_2118 ?_
  refine W.eq (g2 := F0 m 2119 ls [.int (sx9 xs (i9 + 1)), .ref m0]) rfl ?_
  have hpm_4421 : (([(oD, .inl (G.2 6, 1, .inr (.inr (.inr (.inl og))))), (o, .inl (G.2 5, 1, .inr (.inl of2_4415)))] ++ (WM ++ (W2_4416 ++ []))) : va_W).Perm ((WM ++ []) ++ ([(oD, .inl (G.2 6, 1, .inr (.inr (.inr (.inl og))))), (o, .inl (G.2 5, 1, .inr (.inl of2_4415)))] ++ (W2_4416 ++ []))) := segs_perm [[(oD, .inl (G.2 6, 1, .inr (.inr (.inr (.inl og)))))], [(o, .inl (G.2 5, 1, .inr (.inl of2_4415)))], WM, W2_4416] [2] [0, 1, 3] rfl
  have hF := hF_ofP (wc := (WM ++ [])) hD hS hA hpm_4421
  refine go_ctP hS hP hD hpm_4421 hF
      (va_runV (As := [.int (sx9 xs (i9 + 1))]) (rest := []) cf (eX4_bestDaysStart l G m0 M th WM (sx9 xs (i9 + 1)) (hMd) (hIm) H.size) (cwV 1 hts (lw_V q1868 q1869 q1870 q58 q1871) rfl rfl rfl (by decide +kernel) ⟨Nat.le_of_ble_eq_true rfl, Nat.le_of_ble_eq_true rfl⟩) (preV_of hKB hE hS hF (MdW.recv hK hMd (seg_at [[(oD, .inl (G.2 6, 1, .inr (.inr (.inr (.inl og)))))], [(o, .inl (G.2 5, 1, .inr (.inl of2_4415)))], WM, W2_4416] 2 rfl hP)) (P_left (P_perm hpm_4421 hP)) ((D_left (D_perm hpm_4421 hD)).weaken (fun _ _ _ _ => trivial)) trivial) rfl rfl hl.1 rfl (lv_room (Nat.le_of_ble_eq_true rfl)) dL_law_2119 ⟨show cl + 8300 + 0 ≤ 1200144 from by first | decide | omega, show sl + 17000 + 0 ≤ 5495674 from by first | decide | omega⟩)
      (fun u_ H locs hq hph (hP : va_P G.1 CL (([(oD, .inl (G.2 6, 1, .inr (.inr (.inr (.inl og))))), (o, .inl (G.2 5, 1, .inr (.inl of2_4415)))] ++ (W2_4416 ++ [])) ++ (u_.2 ++ [])) H) (hD : va_D A (([(oD, .inl (G.2 6, 1, .inr (.inr (.inr (.inl og))))), (o, .inl (G.2 5, 1, .inr (.inl of2_4415)))] ++ (W2_4416 ++ [])) ++ (u_.2 ++ []))) hS hfz hfk => ?_)
  obtain ⟨rr_4422, W2_4423⟩ := u_
  obtain ⟨hq_4424, hq_4425⟩ : ((q_bestStart (dC M) (sx9 xs (i9 + 1))).1 = 0 → rr_4422 = (q_bestStart (dC M) (sx9 xs (i9 + 1))).2) ∧ MdW G m0 M (q_bestStart (dC M) (sx9 xs (i9 + 1))).1 W2_4423 := hq
  have hpm_4426 : (([(oD, .inl (G.2 6, 1, .inr (.inr (.inr (.inl og))))), (o, .inl (G.2 5, 1, .inr (.inl of2_4415)))] ++ (W2_4416 ++ [])) ++ (W2_4423 ++ []) : va_W).Perm ([(oD, .inl (G.2 6, 1, .inr (.inr (.inr (.inl og))))), (o, .inl (G.2 5, 1, .inr (.inl of2_4415)))] ++ (W2_4416 ++ (W2_4423 ++ []))) := segs_perm2 [[(oD, .inl (G.2 6, 1, .inr (.inr (.inr (.inl og)))))], [(o, .inl (G.2 5, 1, .inr (.inl of2_4415)))], W2_4416] [W2_4423] [0, 1, 2, 3] rfl
  have hP : va_P G.1 CL ([(oD, .inl (G.2 6, 1, .inr (.inr (.inr (.inl og))))), (o, .inl (G.2 5, 1, .inr (.inl of2_4415)))] ++ (W2_4416 ++ (W2_4423 ++ []))) H := P_perm hpm_4426 hP
  have hD : va_D A ([(oD, .inl (G.2 6, 1, .inr (.inr (.inr (.inl og))))), (o, .inl (G.2 5, 1, .inr (.inl of2_4415)))] ++ (W2_4416 ++ (W2_4423 ++ []))) := D_perm hpm_4426 hD
  refine W.eq (g2 := F0 m 2122 ls [.int rr_4422]) rfl ?_
  refine lv_istore (lv' := [(7, .int rr_4422), (6, .int (nI ((q_bestStart (dC C) (sx9 xs (i9 + 1))).1))), (0, .ref b), (1, .ref d), (2, .ref m0), (3, .ref o), (4, .ref oD), (5, .int (nI i9))]) hx hb dL_law_2122 hl (by decide) rfl (fun ls hl => ?_)
  refine lv_aload_n hx hb dL_law_2124 rfl (lv_at hl 4 rfl) ?_
  have hpm_4427 : (([(oD, .inl (G.2 6, 1, .inr (.inr (.inr (.inl og))))), (o, .inl (G.2 5, 1, .inr (.inl of2_4415)))] ++ (W2_4416 ++ (W2_4423 ++ []))) : va_W).Perm ([] ++ ([(oD, .inl (G.2 6, 1, .inr (.inr (.inr (.inl og))))), (o, .inl (G.2 5, 1, .inr (.inl of2_4415)))] ++ (W2_4416 ++ (W2_4423 ++ [])))) := segs_perm [[(oD, .inl (G.2 6, 1, .inr (.inr (.inr (.inl og)))))], [(o, .inl (G.2 5, 1, .inr (.inl of2_4415)))], W2_4416, W2_4423] [] [0, 1, 2, 3] rfl
  have hF := hF_ofP (wc := []) hD hS hA hpm_4427
  refine go_ctP hS hP hD hpm_4427 hF
      (va_runV (As := []) (rest := []) cf (eX4_thrown l G m0 M (((q_bestStart (dC M) (sx9 xs (i9 + 1)))).1) W2_4423 (hq_4425) H.size) (cwV 0 hts (lw_V q1639 q1640 q1641 q58 q1642) rfl rfl rfl (by decide +kernel) ⟨Nat.le_of_ble_eq_true rfl, Nat.le_of_ble_eq_true rfl⟩) (preV_of hKB hE hS hF (MdW.recv hK hq_4425 (seg_at [[(oD, .inl (G.2 6, 1, .inr (.inr (.inr (.inl og)))))], [(o, .inl (G.2 5, 1, .inr (.inl of2_4415)))], W2_4416, W2_4423] 3 rfl hP)) (P_left (P_perm hpm_4427 hP)) ((D_left (D_perm hpm_4427 hD)).weaken (fun _ _ _ _ => trivial)) (roW.nil (seg_at [[(oD, .inl (G.2 6, 1, .inr (.inr (.inr (.inl og)))))], [(o, .inl (G.2 5, 1, .inr (.inl of2_4415)))], W2_4416, W2_4423] 3 rfl hP))) rfl rfl hl.1 rfl (lv_room (Nat.le_of_ble_eq_true rfl)) dL_law_2125 ⟨show cl + 8300 + 0 ≤ 1200144 from by first | decide | omega, show sl + 17000 + 0 ≤ 5495674 from by first | decide | omega⟩)
      (fun u_ H locs hq hph (hP : va_P G.1 CL (([(oD, .inl (G.2 6, 1, .inr (.inr (.inr (.inl og))))), (o, .inl (G.2 5, 1, .inr (.inl of2_4415)))] ++ (W2_4416 ++ (W2_4423 ++ []))) ++ []) H) (hD : va_D A (([(oD, .inl (G.2 6, 1, .inr (.inr (.inr (.inl og))))), (o, .inl (G.2 5, 1, .inr (.inl of2_4415)))] ++ (W2_4416 ++ (W2_4423 ++ []))) ++ [])) hS hfz hfk => ?_)
  have hpm_4428 : (([(oD, .inl (G.2 6, 1, .inr (.inr (.inr (.inl og))))), (o, .inl (G.2 5, 1, .inr (.inl of2_4415)))] ++ (W2_4416 ++ (W2_4423 ++ []))) ++ [] : va_W).Perm ([(oD, .inl (G.2 6, 1, .inr (.inr (.inr (.inl og))))), (o, .inl (G.2 5, 1, .inr (.inl of2_4415)))] ++ (W2_4416 ++ (W2_4423 ++ []))) := segs_perm2 [[(oD, .inl (G.2 6, 1, .inr (.inr (.inr (.inl og)))))], [(o, .inl (G.2 5, 1, .inr (.inl of2_4415)))], W2_4416, W2_4423] [] [0, 1, 2, 3] rfl
  have hP : va_P G.1 CL ([(oD, .inl (G.2 6, 1, .inr (.inr (.inr (.inl og))))), (o, .inl (G.2 5, 1, .inr (.inl of2_4415)))] ++ (W2_4416 ++ (W2_4423 ++ []))) H := P_perm hpm_4428 hP
  have hD : va_D A ([(oD, .inl (G.2 6, 1, .inr (.inr (.inr (.inl og))))), (o, .inl (G.2 5, 1, .inr (.inl of2_4415)))] ++ (W2_4416 ++ (W2_4423 ++ []))) := D_perm hpm_4428 hD
  refine W.eq (g2 := F0 m 2128 ls [.int (nI (((q_bestStart (dC M) (sx9 xs (i9 + 1)))).1))]) rfl ?_
  refine lv_ton (n := ((q_bestStart (dC C) (sx9 xs (i9 + 1))).1)) (congrArg nI (by rw [hqs])) ?_
  refine lv_iload hx hb dL_law_2128 (lv_at hl 1 rfl) ?_
  refine lv_icmp_eq (tgt := 2135) hx hb dL_law_2130 (by decide) (fun _ => ?_) (fun c9 => absurd rfl c9)
  refine lv_iload hx hb dL_law_2135 (lv_at hl 1 rfl) ?_
  refine n_if_ne (tgt := 2152) hx hb (by omega) dL_law_2137 (by decide) (fun c_4429 => ?_) (fun c_4429 => ?_)
  · refine lv_goto (tgt := 2788) hx hb dL_law_2152 (by decide) ?_
    have hpm_4430 : (([(oD, .inl (G.2 6, 1, .inr (.inr (.inr (.inl og))))), (o, .inl (G.2 5, 1, .inr (.inl of2_4415)))] ++ (W2_4416 ++ (W2_4423 ++ []))) : va_W).Perm (([(o, .inl (G.2 5, 1, .inr (.inl of2_4415))), (oD, .inl (G.2 6, 1, .inr (.inr (.inr (.inl og)))))] ++ (W2_4416 ++ (W2_4423 ++ []))) ++ []) := segs_perm [[(oD, .inl (G.2 6, 1, .inr (.inr (.inr (.inl og)))))], [(o, .inl (G.2 5, 1, .inr (.inl of2_4415)))], W2_4416, W2_4423] [1, 0, 2, 3] [] rfl
    have hP : va_P G.1 CL ([(o, .inl (G.2 5, 1, .inr (.inl of2_4415))), (oD, .inl (G.2 6, 1, .inr (.inr (.inr (.inl og)))))] ++ (W2_4416 ++ (W2_4423 ++ []))) H := P_left (P_perm hpm_4430 hP)
    have hD : va_D A ([(o, .inl (G.2 5, 1, .inr (.inl of2_4415))), (oD, .inl (G.2 6, 1, .inr (.inr (.inr (.inl og)))))] ++ (W2_4416 ++ (W2_4423 ++ []))) := D_left (D_perm hpm_4430 hD)
    have hl := lv_sub hl [2, 3, 4, 5, 6, 7] (l' := [(0, .ref b), (1, .ref d), (2, .ref m0), (3, .ref o), (4, .ref oD), (5, .int (nI i9))]) rfl
    exact W.widen (show cl + 8300 ≤ cl + 20000 from by omega) (show sl + 17000 ≤ sl + 45000 from by omega) (kk ls H locs C M (((q_bestStart (dC M) (sx9 xs (i9 + 1)))).1) W2_4416 W2_4423 of2_4415 og hP hD hS hl hq_4419 hq_4425 hLw.up)
  · refine lv_aload_n hx hb dL_law_2140 rfl (lv_at hl 5 rfl) ?_
    refine lv_iconst (v := nI 0) hx hb dL_law_2141 (by decide) ?_
    refine r_lald (v := (((q_bestStart (dC C) (sx9 xs (i9 + 1)))).2).toInt64) hx hb hK hP 1 5 rfl rfl (i := 0) (by omega) (by omega) ((hq_4417 (by omega))) dL_law_2142 ?_
    refine lv_iload hx hb dL_law_2143 (lv_at hl 0 rfl) ?_
    refine lv_toi (y := ((q_bestStart (dC C) (sx9 xs (i9 + 1)))).2) ((hq_4424 (by rw [hqs]; omega)).trans (by rw [hqs])) ?_
    refine lv_i2l (v := (((q_bestStart (dC C) (sx9 xs (i9 + 1)))).2).toInt64) hx hb dL_law_2145 rfl ?_
    refine W.lcmp hx hb dL_law_2146 ?_
    refine lv_ton (n := 0) (lcmp0 _) ?_
    refine n_if_eq (tgt := 2152) hx hb (by omega) dL_law_2147 (by decide) (fun c_4431 => ?_) (fun c_4431 => absurd c_4431 (by omega))
    refine lv_goto (tgt := 2788) hx hb dL_law_2152 (by decide) ?_
    have hpm_4432 : (([(oD, .inl (G.2 6, 1, .inr (.inr (.inr (.inl og))))), (o, .inl (G.2 5, 1, .inr (.inl of2_4415)))] ++ (W2_4416 ++ (W2_4423 ++ []))) : va_W).Perm (([(o, .inl (G.2 5, 1, .inr (.inl of2_4415))), (oD, .inl (G.2 6, 1, .inr (.inr (.inr (.inl og)))))] ++ (W2_4416 ++ (W2_4423 ++ []))) ++ []) := segs_perm [[(oD, .inl (G.2 6, 1, .inr (.inr (.inr (.inl og)))))], [(o, .inl (G.2 5, 1, .inr (.inl of2_4415)))], W2_4416, W2_4423] [1, 0, 2, 3] [] rfl
    have hP : va_P G.1 CL ([(o, .inl (G.2 5, 1, .inr (.inl of2_4415))), (oD, .inl (G.2 6, 1, .inr (.inr (.inr (.inl og)))))] ++ (W2_4416 ++ (W2_4423 ++ []))) H := P_left (P_perm hpm_4432 hP)
    have hD : va_D A ([(o, .inl (G.2 5, 1, .inr (.inl of2_4415))), (oD, .inl (G.2 6, 1, .inr (.inr (.inr (.inl og)))))] ++ (W2_4416 ++ (W2_4423 ++ []))) := D_left (D_perm hpm_4432 hD)
    have hl := lv_sub hl [2, 3, 4, 5, 6, 7] (l' := [(0, .ref b), (1, .ref d), (2, .ref m0), (3, .ref o), (4, .ref oD), (5, .int (nI i9))]) rfl
    exact W.widen (show cl + 8300 ≤ cl + 20000 from by omega) (show sl + 17000 ≤ sl + 45000 from by omega) (kk ls H locs C M (((q_bestStart (dC M) (sx9 xs (i9 + 1)))).1) W2_4416 W2_4423 of2_4415 og hP hD hS hl hq_4419 hq_4425 hLw.up)

set_option maxHeartbeats 4000000 in
theorem lawK_35 {p : Program} {l : Launch} {e : Env} {s : State} {m : MethodId} {below : List Frame} {meth : Method} {c : Code} {G : Gt} {A : Nat → Prop} {b L : Nat} {xs : Nat → Int32} {Q : State → Prop} {d m0 o oD i9 N cl sl : Nat} (hfl : l.stackTraces = false) (F : LwF G A p s m c b L xs) (hi9 : i9 + 4 ≤ L) (hN24 : N ≤ 24) (hcl : cl + 20000 ≤ 1200144) (hsl : sl + 45000 ≤ 5495674) (kk : ∀ (ls : Array Slot) (H : Heap) (locs : List Loc) (C M : DS) (th : Nat) (WD WM : va_W) (of : Nat → Int64) (og : Nat → UInt64), va_P G.1 CL ([(o, .inl (G.2 5, 1, .inr (.inl of))), (oD, .inl (G.2 6, 1, .inr (.inr (.inr (.inl og)))))] ++ (WD ++ (WM ++ []))) H → va_D A ([(o, .inl (G.2 5, 1, .inr (.inl of))), (oD, .inl (G.2 6, 1, .inr (.inr (.inr (.inl og)))))] ++ (WD ++ (WM ++ []))) → va_S A s.heap H locs → lv_has ls 10 [(0, .ref b), (1, .ref d), (2, .ref m0), (3, .ref o), (4, .ref oD), (5, .int (nI i9))] → DyW G d C WD → MdW G m0 M th WM → LawI C M (N + 1) → W p l e room_1 s m #[Value.ref b] below meth c H locs (cl + 20000) (sl + 45000) Q (F0 m 2788 ls [])) {ls : Array Slot} {H : Heap} {locs : List Loc} {C M : DS} {th : Nat} {WD WM : va_W} {of : Nat → Int64} {og : Nat → UInt64} (hP : va_P G.1 CL ([(o, .inl (G.2 5, 1, .inr (.inl of))), (oD, .inl (G.2 6, 1, .inr (.inr (.inr (.inl og)))))] ++ (WD ++ (WM ++ []))) H) (hD : va_D A ([(o, .inl (G.2 5, 1, .inr (.inl of))), (oD, .inl (G.2 6, 1, .inr (.inr (.inr (.inl og)))))] ++ (WD ++ (WM ++ [])))) (hS : va_S A s.heap H locs) (hl : lv_has ls 10 [(0, .ref b), (1, .ref d), (2, .ref m0), (3, .ref o), (4, .ref oD), (5, .int (nI i9))]) (hDy : DyW G d C WD) (hMd : MdW G m0 M th WM) (hLw : LawI C M N) : W p l e room_1 s m #[Value.ref b] below meth c H locs cl sl Q (F0 m 2155 ls []) := by
  obtain ⟨cf, hKB, hE, hA, hX9, hbl, hbA, hNc, hL96⟩ := F
  have hx := cf.1
  have hb := cf.2.1
  have hml := cf.2.2.1
  have hown : s.vm.findClass RX0 = some m.cls := cf.2.2.2.1
  have hts := cf.2.2.2.2
  have hK := hKB.1
  have hIc := hDy.inv.1
  have hIm : Inv (dC M) := Inv_sim hLw.1 hIc
  have hRk : RkOk (dC M) := RkOk_sim hLw.1 (RkOk_srt hDy.inv.2.2)
  have hl := hl
  refine lv_aload_n hx hb dL_law_2155 rfl (lv_at hl 1 rfl) ?_
  refine lv_aload_n hx hb dL_law_2156 rfl (lv_at hl 0 rfl) ?_
  refine lv_iload hx hb dL_law_2157 (lv_at hl 5 rfl) ?_
  refine lv_iconst (v := nI 1) hx hb dL_law_2159 (by decide) ?_
  refine lv_iadd hx hb dL_law_2160 ?_
  refine lv_ton (n := i9 + 1) (nadd (by omega)) ?_
  refine va_sld hx hb hX9 hbl hbA hS (i := nI (i9 + 1)) (vp9 (by omega) hL96) dL_law_2161 ?_
  refine W.eq (g2 := F0 m 2162 ls [.int (sx9 xs (i9 + 1)), .ref d]) rfl ?_
  refine lv_aload_n hx hb dL_law_2162 rfl (lv_at hl 3 rfl) ?_
  have hpm_4433 : (([(o, .inl (G.2 5, 1, .inr (.inl of))), (oD, .inl (G.2 6, 1, .inr (.inr (.inr (.inl og)))))] ++ (WD ++ (WM ++ []))) : va_W).Perm (([(o, .inl (G.2 5, 1, .inr (.inl of)))] ++ (WD ++ [])) ++ ([(oD, .inl (G.2 6, 1, .inr (.inr (.inr (.inl og)))))] ++ (WM ++ []))) := segs_perm [[(o, .inl (G.2 5, 1, .inr (.inl of)))], [(oD, .inl (G.2 6, 1, .inr (.inr (.inr (.inl og)))))], WD, WM] [0, 2] [1, 3] rfl
  have hF := hF_ofP (wc := ([(o, .inl (G.2 5, 1, .inr (.inl of)))] ++ (WD ++ []))) hD hS hA hpm_4433
  refine go_ctP hS hP hD hpm_4433 hF
      (vx_runSW (As := [.ref d, .int (sx9 xs (i9 + 1)), .ref o]) (rest := []) cf (wX0_bestEffort l G d C WD o of (sx9 xs (i9 + 1)) (hDy) hfl H.size) (vx_cwSW 3 hts (lw_SW q1384 q1385 q46 q1386) rfl rfl rfl (by decide +kernel) ⟨Nat.le_of_ble_eq_true rfl, Nat.le_of_ble_eq_true rfl⟩) (preS_ofW hNc hKB hE hS hF (P_left (P_perm hpm_4433 hP)) ((D_left (D_perm hpm_4433 hD)).weaken (fun _ _ _ _ => trivial)) trivial) rfl rfl hl.1 rfl (lv_room (Nat.le_of_ble_eq_true rfl)) dL_law_2163 ⟨show cl + 90 ≤ 1200144 from by first | decide | omega, show sl + 20000 ≤ 5495674 from by first | decide | omega⟩)
      (fun u_ H locs hq hph (hP : va_P G.1 CL (([(oD, .inl (G.2 6, 1, .inr (.inr (.inr (.inl og)))))] ++ (WM ++ [])) ++ ([(o, .inl (G.2 5, 1, .inr (.inl u_.1)))] ++ (u_.2 ++ []))) H) (hD : va_D A (([(oD, .inl (G.2 6, 1, .inr (.inr (.inr (.inl og)))))] ++ (WM ++ [])) ++ ([(o, .inl (G.2 5, 1, .inr (.inl u_.1)))] ++ (u_.2 ++ [])))) hS hfz hfk => ?_)
  obtain ⟨of2_4434, W2_4435⟩ := u_
  obtain ⟨hq_4436, hq_4437, hq_4438⟩ : ((q_bestEff (dC C) (sx9 xs (i9 + 1))).1 = 0 → of2_4434 0 = ((q_bestEff (dC C) (sx9 xs (i9 + 1))).2).toInt64) ∧ (q_bestEff (dC C) (sx9 xs (i9 + 1))).1 < 10 ∧ DyW G d C W2_4435 := hq
  have hpm_4439 : (([(oD, .inl (G.2 6, 1, .inr (.inr (.inr (.inl og)))))] ++ (WM ++ [])) ++ ([(o, .inl (G.2 5, 1, .inr (.inl of2_4434)))] ++ (W2_4435 ++ [])) : va_W).Perm ([(oD, .inl (G.2 6, 1, .inr (.inr (.inr (.inl og))))), (o, .inl (G.2 5, 1, .inr (.inl of2_4434)))] ++ (WM ++ (W2_4435 ++ []))) := segs_perm2 [[(oD, .inl (G.2 6, 1, .inr (.inr (.inr (.inl og)))))], WM] [[(o, .inl (G.2 5, 1, .inr (.inl of2_4434)))], W2_4435] [0, 2, 1, 3] rfl
  have hP : va_P G.1 CL ([(oD, .inl (G.2 6, 1, .inr (.inr (.inr (.inl og))))), (o, .inl (G.2 5, 1, .inr (.inl of2_4434)))] ++ (WM ++ (W2_4435 ++ []))) H := P_perm hpm_4439 hP
  have hD : va_D A ([(oD, .inl (G.2 6, 1, .inr (.inr (.inr (.inl og))))), (o, .inl (G.2 5, 1, .inr (.inl of2_4434)))] ++ (WM ++ (W2_4435 ++ []))) := D_perm hpm_4439 hD
  refine W.eq (g2 := F0 m 2166 ls [.int (nI ((q_bestEff (dC C) (sx9 xs (i9 + 1))).1))]) rfl ?_
  have hqs : (q_bestEff (dC M) (sx9 xs (i9 + 1))) = (q_bestEff (dC C) (sx9 xs (i9 + 1))) := q_bestEff_sim hLw.1.symm hIm (sx9 xs (i9 + 1))
  refine lv_istore (lv' := [(6, .int (nI ((q_bestEff (dC C) (sx9 xs (i9 + 1))).1))), (0, .ref b), (1, .ref d), (2, .ref m0), (3, .ref o), (4, .ref oD), (5, .int (nI i9))]) hx hb dL_law_2166 hl (by decide) rfl (fun ls hl => ?_)
  refine lv_aload_n hx hb dL_law_2168 rfl (lv_at hl 3 rfl) ?_
  refine lv_aload_n hx hb dL_law_2169 rfl (lv_at hl 1 rfl) ?_
  refine lv_iload hx hb dL_law_2170 (lv_at hl 6 rfl) ?_
  refine lv_iconst (v := nI 1) hx hb dL_law_2172 (by decide) ?_
  refine lv_iadd hx hb dL_law_2173 ?_
  refine lv_ton (n := i9 + 1) (nadd (by omega)) ?_
  refine va_sld hx hb hX9 hbl hbA hS (i := nI (i9 + 1)) (vp9 (by omega) hL96) dL_law_2174 ?_
  refine W.eq (g2 := F0 m 2175 ls [.int (sx9 xs (i9 + 1)), .ref m0]) rfl ?_
  have hpm_4440 : (([(oD, .inl (G.2 6, 1, .inr (.inr (.inr (.inl og))))), (o, .inl (G.2 5, 1, .inr (.inl of2_4434)))] ++ (WM ++ (W2_4435 ++ []))) : va_W).Perm ((WM ++ []) ++ ([(oD, .inl (G.2 6, 1, .inr (.inr (.inr (.inl og))))), (o, .inl (G.2 5, 1, .inr (.inl of2_4434)))] ++ (W2_4435 ++ []))) := segs_perm [[(oD, .inl (G.2 6, 1, .inr (.inr (.inr (.inl og)))))], [(o, .inl (G.2 5, 1, .inr (.inl of2_4434)))], WM, W2_4435] [2] [0, 1, 3] rfl
  have hF := hF_ofP (wc := (WM ++ [])) hD hS hA hpm_4440
  refine go_ctP hS hP hD hpm_4440 hF
      (va_runV (As := [.int (sx9 xs (i9 + 1))]) (rest := []) cf (eX4_bestEffort l G m0 M th WM (sx9 xs (i9 + 1)) (hMd) (hIm) (hRk) H.size) (cwV 1 hts (lw_V q1872 q1873 q1874 q58 q1875) rfl rfl rfl (by decide +kernel) ⟨Nat.le_of_ble_eq_true rfl, Nat.le_of_ble_eq_true rfl⟩) (preV_of hKB hE hS hF (MdW.recv hK hMd (seg_at [[(oD, .inl (G.2 6, 1, .inr (.inr (.inr (.inl og)))))], [(o, .inl (G.2 5, 1, .inr (.inl of2_4434)))], WM, W2_4435] 2 rfl hP)) (P_left (P_perm hpm_4440 hP)) ((D_left (D_perm hpm_4440 hD)).weaken (fun _ _ _ _ => trivial)) trivial) rfl rfl hl.1 rfl (lv_room (Nat.le_of_ble_eq_true rfl)) dL_law_2175 ⟨show cl + 90 + 0 ≤ 1200144 from by first | decide | omega, show sl + 20000 + 0 ≤ 5495674 from by first | decide | omega⟩)
      (fun u_ H locs hq hph (hP : va_P G.1 CL (([(oD, .inl (G.2 6, 1, .inr (.inr (.inr (.inl og))))), (o, .inl (G.2 5, 1, .inr (.inl of2_4434)))] ++ (W2_4435 ++ [])) ++ (u_.2 ++ [])) H) (hD : va_D A (([(oD, .inl (G.2 6, 1, .inr (.inr (.inr (.inl og))))), (o, .inl (G.2 5, 1, .inr (.inl of2_4434)))] ++ (W2_4435 ++ [])) ++ (u_.2 ++ []))) hS hfz hfk => ?_)
  obtain ⟨rr_4441, W2_4442⟩ := u_
  obtain ⟨hq_4443, hq_4444⟩ : ((q_bestEff (dC M) (sx9 xs (i9 + 1))).1 = 0 → rr_4441 = (q_bestEff (dC M) (sx9 xs (i9 + 1))).2) ∧ MdW G m0 M (q_bestEff (dC M) (sx9 xs (i9 + 1))).1 W2_4442 := hq
  have hpm_4445 : (([(oD, .inl (G.2 6, 1, .inr (.inr (.inr (.inl og))))), (o, .inl (G.2 5, 1, .inr (.inl of2_4434)))] ++ (W2_4435 ++ [])) ++ (W2_4442 ++ []) : va_W).Perm ([(oD, .inl (G.2 6, 1, .inr (.inr (.inr (.inl og))))), (o, .inl (G.2 5, 1, .inr (.inl of2_4434)))] ++ (W2_4435 ++ (W2_4442 ++ []))) := segs_perm2 [[(oD, .inl (G.2 6, 1, .inr (.inr (.inr (.inl og)))))], [(o, .inl (G.2 5, 1, .inr (.inl of2_4434)))], W2_4435] [W2_4442] [0, 1, 2, 3] rfl
  have hP : va_P G.1 CL ([(oD, .inl (G.2 6, 1, .inr (.inr (.inr (.inl og))))), (o, .inl (G.2 5, 1, .inr (.inl of2_4434)))] ++ (W2_4435 ++ (W2_4442 ++ []))) H := P_perm hpm_4445 hP
  have hD : va_D A ([(oD, .inl (G.2 6, 1, .inr (.inr (.inr (.inl og))))), (o, .inl (G.2 5, 1, .inr (.inl of2_4434)))] ++ (W2_4435 ++ (W2_4442 ++ []))) := D_perm hpm_4445 hD
  refine W.eq (g2 := F0 m 2178 ls [.int rr_4441]) rfl ?_
  refine lv_istore (lv' := [(7, .int rr_4441), (6, .int (nI ((q_bestEff (dC C) (sx9 xs (i9 + 1))).1))), (0, .ref b), (1, .ref d), (2, .ref m0), (3, .ref o), (4, .ref oD), (5, .int (nI i9))]) hx hb dL_law_2178 hl (by decide) rfl (fun ls hl => ?_)
  refine lv_aload_n hx hb dL_law_2180 rfl (lv_at hl 4 rfl) ?_
  have hpm_4446 : (([(oD, .inl (G.2 6, 1, .inr (.inr (.inr (.inl og))))), (o, .inl (G.2 5, 1, .inr (.inl of2_4434)))] ++ (W2_4435 ++ (W2_4442 ++ []))) : va_W).Perm ([] ++ ([(oD, .inl (G.2 6, 1, .inr (.inr (.inr (.inl og))))), (o, .inl (G.2 5, 1, .inr (.inl of2_4434)))] ++ (W2_4435 ++ (W2_4442 ++ [])))) := segs_perm [[(oD, .inl (G.2 6, 1, .inr (.inr (.inr (.inl og)))))], [(o, .inl (G.2 5, 1, .inr (.inl of2_4434)))], W2_4435, W2_4442] [] [0, 1, 2, 3] rfl
  have hF := hF_ofP (wc := []) hD hS hA hpm_4446
  refine go_ctP hS hP hD hpm_4446 hF
      (va_runV (As := []) (rest := []) cf (eX4_thrown l G m0 M (((q_bestEff (dC M) (sx9 xs (i9 + 1)))).1) W2_4442 (hq_4444) H.size) (cwV 0 hts (lw_V q1639 q1640 q1641 q58 q1642) rfl rfl rfl (by decide +kernel) ⟨Nat.le_of_ble_eq_true rfl, Nat.le_of_ble_eq_true rfl⟩) (preV_of hKB hE hS hF (MdW.recv hK hq_4444 (seg_at [[(oD, .inl (G.2 6, 1, .inr (.inr (.inr (.inl og)))))], [(o, .inl (G.2 5, 1, .inr (.inl of2_4434)))], W2_4435, W2_4442] 3 rfl hP)) (P_left (P_perm hpm_4446 hP)) ((D_left (D_perm hpm_4446 hD)).weaken (fun _ _ _ _ => trivial)) (roW.nil (seg_at [[(oD, .inl (G.2 6, 1, .inr (.inr (.inr (.inl og)))))], [(o, .inl (G.2 5, 1, .inr (.inl of2_4434)))], W2_4435, W2_4442] 3 rfl hP))) rfl rfl hl.1 rfl (lv_room (Nat.le_of_ble_eq_true rfl)) dL_law_2181 ⟨show cl + 90 + 0 ≤ 1200144 from by first | decide | omega, show sl + 20000 + 0 ≤ 5495674 from by first | decide | omega⟩)
      (fun u_ H locs hq hph (hP : va_P G.1 CL (([(oD, .inl (G.2 6, 1, .inr (.inr (.inr (.inl og))))), (o, .inl (G.2 5, 1, .inr (.inl of2_4434)))] ++ (W2_4435 ++ (W2_4442 ++ []))) ++ []) H) (hD : va_D A (([(oD, .inl (G.2 6, 1, .inr (.inr (.inr (.inl og))))), (o, .inl (G.2 5, 1, .inr (.inl of2_4434)))] ++ (W2_4435 ++ (W2_4442 ++ []))) ++ [])) hS hfz hfk => ?_)
  have hpm_4447 : (([(oD, .inl (G.2 6, 1, .inr (.inr (.inr (.inl og))))), (o, .inl (G.2 5, 1, .inr (.inl of2_4434)))] ++ (W2_4435 ++ (W2_4442 ++ []))) ++ [] : va_W).Perm ([(oD, .inl (G.2 6, 1, .inr (.inr (.inr (.inl og))))), (o, .inl (G.2 5, 1, .inr (.inl of2_4434)))] ++ (W2_4435 ++ (W2_4442 ++ []))) := segs_perm2 [[(oD, .inl (G.2 6, 1, .inr (.inr (.inr (.inl og)))))], [(o, .inl (G.2 5, 1, .inr (.inl of2_4434)))], W2_4435, W2_4442] [] [0, 1, 2, 3] rfl
  have hP : va_P G.1 CL ([(oD, .inl (G.2 6, 1, .inr (.inr (.inr (.inl og))))), (o, .inl (G.2 5, 1, .inr (.inl of2_4434)))] ++ (W2_4435 ++ (W2_4442 ++ []))) H := P_perm hpm_4447 hP
  have hD : va_D A ([(oD, .inl (G.2 6, 1, .inr (.inr (.inr (.inl og))))), (o, .inl (G.2 5, 1, .inr (.inl of2_4434)))] ++ (W2_4435 ++ (W2_4442 ++ []))) := D_perm hpm_4447 hD
  refine W.eq (g2 := F0 m 2184 ls [.int (nI (((q_bestEff (dC M) (sx9 xs (i9 + 1)))).1))]) rfl ?_
  refine lv_ton (n := ((q_bestEff (dC C) (sx9 xs (i9 + 1))).1)) (congrArg nI (by rw [hqs])) ?_
  refine lv_iload hx hb dL_law_2184 (lv_at hl 1 rfl) ?_
  refine lv_icmp_eq (tgt := 2191) hx hb dL_law_2186 (by decide) (fun _ => ?_) (fun c9 => absurd rfl c9)
  refine lv_iload hx hb dL_law_2191 (lv_at hl 1 rfl) ?_
  refine n_if_ne (tgt := 2208) hx hb (by omega) dL_law_2193 (by decide) (fun c_4448 => ?_) (fun c_4448 => ?_)
  · refine lv_goto (tgt := 2788) hx hb dL_law_2208 (by decide) ?_
    have hpm_4449 : (([(oD, .inl (G.2 6, 1, .inr (.inr (.inr (.inl og))))), (o, .inl (G.2 5, 1, .inr (.inl of2_4434)))] ++ (W2_4435 ++ (W2_4442 ++ []))) : va_W).Perm (([(o, .inl (G.2 5, 1, .inr (.inl of2_4434))), (oD, .inl (G.2 6, 1, .inr (.inr (.inr (.inl og)))))] ++ (W2_4435 ++ (W2_4442 ++ []))) ++ []) := segs_perm [[(oD, .inl (G.2 6, 1, .inr (.inr (.inr (.inl og)))))], [(o, .inl (G.2 5, 1, .inr (.inl of2_4434)))], W2_4435, W2_4442] [1, 0, 2, 3] [] rfl
    have hP : va_P G.1 CL ([(o, .inl (G.2 5, 1, .inr (.inl of2_4434))), (oD, .inl (G.2 6, 1, .inr (.inr (.inr (.inl og)))))] ++ (W2_4435 ++ (W2_4442 ++ []))) H := P_left (P_perm hpm_4449 hP)
    have hD : va_D A ([(o, .inl (G.2 5, 1, .inr (.inl of2_4434))), (oD, .inl (G.2 6, 1, .inr (.inr (.inr (.inl og)))))] ++ (W2_4435 ++ (W2_4442 ++ []))) := D_left (D_perm hpm_4449 hD)
    have hl := lv_sub hl [2, 3, 4, 5, 6, 7] (l' := [(0, .ref b), (1, .ref d), (2, .ref m0), (3, .ref o), (4, .ref oD), (5, .int (nI i9))]) rfl
    exact W.widen (show cl + 90 ≤ cl + 20000 from by omega) (show sl + 20000 ≤ sl + 45000 from by omega) (kk ls H locs C M (((q_bestEff (dC M) (sx9 xs (i9 + 1)))).1) W2_4435 W2_4442 of2_4434 og hP hD hS hl hq_4438 hq_4444 hLw.up)
  · refine lv_aload_n hx hb dL_law_2196 rfl (lv_at hl 5 rfl) ?_
    refine lv_iconst (v := nI 0) hx hb dL_law_2197 (by decide) ?_
    refine r_lald (v := (((q_bestEff (dC C) (sx9 xs (i9 + 1)))).2).toInt64) hx hb hK hP 1 5 rfl rfl (i := 0) (by omega) (by omega) ((hq_4436 (by omega))) dL_law_2198 ?_
    refine lv_iload hx hb dL_law_2199 (lv_at hl 0 rfl) ?_
    refine lv_toi (y := ((q_bestEff (dC C) (sx9 xs (i9 + 1)))).2) ((hq_4443 (by rw [hqs]; omega)).trans (by rw [hqs])) ?_
    refine lv_i2l (v := (((q_bestEff (dC C) (sx9 xs (i9 + 1)))).2).toInt64) hx hb dL_law_2201 rfl ?_
    refine W.lcmp hx hb dL_law_2202 ?_
    refine lv_ton (n := 0) (lcmp0 _) ?_
    refine n_if_eq (tgt := 2208) hx hb (by omega) dL_law_2203 (by decide) (fun c_4450 => ?_) (fun c_4450 => absurd c_4450 (by omega))
    refine lv_goto (tgt := 2788) hx hb dL_law_2208 (by decide) ?_
    have hpm_4451 : (([(oD, .inl (G.2 6, 1, .inr (.inr (.inr (.inl og))))), (o, .inl (G.2 5, 1, .inr (.inl of2_4434)))] ++ (W2_4435 ++ (W2_4442 ++ []))) : va_W).Perm (([(o, .inl (G.2 5, 1, .inr (.inl of2_4434))), (oD, .inl (G.2 6, 1, .inr (.inr (.inr (.inl og)))))] ++ (W2_4435 ++ (W2_4442 ++ []))) ++ []) := segs_perm [[(oD, .inl (G.2 6, 1, .inr (.inr (.inr (.inl og)))))], [(o, .inl (G.2 5, 1, .inr (.inl of2_4434)))], W2_4435, W2_4442] [1, 0, 2, 3] [] rfl
    have hP : va_P G.1 CL ([(o, .inl (G.2 5, 1, .inr (.inl of2_4434))), (oD, .inl (G.2 6, 1, .inr (.inr (.inr (.inl og)))))] ++ (W2_4435 ++ (W2_4442 ++ []))) H := P_left (P_perm hpm_4451 hP)
    have hD : va_D A ([(o, .inl (G.2 5, 1, .inr (.inl of2_4434))), (oD, .inl (G.2 6, 1, .inr (.inr (.inr (.inl og)))))] ++ (W2_4435 ++ (W2_4442 ++ []))) := D_left (D_perm hpm_4451 hD)
    have hl := lv_sub hl [2, 3, 4, 5, 6, 7] (l' := [(0, .ref b), (1, .ref d), (2, .ref m0), (3, .ref o), (4, .ref oD), (5, .int (nI i9))]) rfl
    exact W.widen (show cl + 90 ≤ cl + 20000 from by omega) (show sl + 20000 ≤ sl + 45000 from by omega) (kk ls H locs C M (((q_bestEff (dC M) (sx9 xs (i9 + 1)))).1) W2_4435 W2_4442 of2_4434 og hP hD hS hl hq_4438 hq_4444 hLw.up)

set_option maxHeartbeats 4000000 in
theorem lawK_36 {p : Program} {l : Launch} {e : Env} {s : State} {m : MethodId} {below : List Frame} {meth : Method} {c : Code} {G : Gt} {A : Nat → Prop} {b L : Nat} {xs : Nat → Int32} {Q : State → Prop} {d m0 o oD i9 N cl sl : Nat} (hfl : l.stackTraces = false) (F : LwF G A p s m c b L xs) (hi9 : i9 + 4 ≤ L) (hN24 : N ≤ 24) (hcl : cl + 20000 ≤ 1200144) (hsl : sl + 45000 ≤ 5495674) (kk : ∀ (ls : Array Slot) (H : Heap) (locs : List Loc) (C M : DS) (th : Nat) (WD WM : va_W) (of : Nat → Int64) (og : Nat → UInt64), va_P G.1 CL ([(o, .inl (G.2 5, 1, .inr (.inl of))), (oD, .inl (G.2 6, 1, .inr (.inr (.inr (.inl og)))))] ++ (WD ++ (WM ++ []))) H → va_D A ([(o, .inl (G.2 5, 1, .inr (.inl of))), (oD, .inl (G.2 6, 1, .inr (.inr (.inr (.inl og)))))] ++ (WD ++ (WM ++ []))) → va_S A s.heap H locs → lv_has ls 10 [(0, .ref b), (1, .ref d), (2, .ref m0), (3, .ref o), (4, .ref oD), (5, .int (nI i9))] → DyW G d C WD → MdW G m0 M th WM → LawI C M (N + 1) → W p l e room_1 s m #[Value.ref b] below meth c H locs (cl + 20000) (sl + 45000) Q (F0 m 2788 ls [])) {ls : Array Slot} {H : Heap} {locs : List Loc} {C M : DS} {th : Nat} {WD WM : va_W} {of : Nat → Int64} {og : Nat → UInt64} (hP : va_P G.1 CL ([(o, .inl (G.2 5, 1, .inr (.inl of))), (oD, .inl (G.2 6, 1, .inr (.inr (.inr (.inl og)))))] ++ (WD ++ (WM ++ []))) H) (hD : va_D A ([(o, .inl (G.2 5, 1, .inr (.inl of))), (oD, .inl (G.2 6, 1, .inr (.inr (.inr (.inl og)))))] ++ (WD ++ (WM ++ [])))) (hS : va_S A s.heap H locs) (hl : lv_has ls 10 [(0, .ref b), (1, .ref d), (2, .ref m0), (3, .ref o), (4, .ref oD), (5, .int (nI i9))]) (hDy : DyW G d C WD) (hMd : MdW G m0 M th WM) (hLw : LawI C M N) : W p l e room_1 s m #[Value.ref b] below meth c H locs cl sl Q (F0 m 2211 ls []) := by
  obtain ⟨cf, hKB, hE, hA, hX9, hbl, hbA, hNc, hL96⟩ := F
  have hx := cf.1
  have hb := cf.2.1
  have hml := cf.2.2.1
  have hown : s.vm.findClass RX0 = some m.cls := cf.2.2.2.1
  have hts := cf.2.2.2.2
  have hK := hKB.1
  have hIc := hDy.inv.1
  have hIm : Inv (dC M) := Inv_sim hLw.1 hIc
  have hRk : RkOk (dC M) := RkOk_sim hLw.1 (RkOk_srt hDy.inv.2.2)
  have hl := hl
  refine lv_aload_n hx hb dL_law_2211 rfl (lv_at hl 1 rfl) ?_
  refine lv_aload_n hx hb dL_law_2212 rfl (lv_at hl 0 rfl) ?_
  refine lv_iload hx hb dL_law_2213 (lv_at hl 5 rfl) ?_
  refine lv_iconst (v := nI 1) hx hb dL_law_2215 (by decide) ?_
  refine lv_iadd hx hb dL_law_2216 ?_
  refine lv_ton (n := i9 + 1) (nadd (by omega)) ?_
  refine va_sld hx hb hX9 hbl hbA hS (i := nI (i9 + 1)) (vp9 (by omega) hL96) dL_law_2217 ?_
  refine W.eq (g2 := F0 m 2218 ls [.int (sx9 xs (i9 + 1)), .ref d]) rfl ?_
  refine lv_aload_n hx hb dL_law_2218 rfl (lv_at hl 3 rfl) ?_
  have hpm_4452 : (([(o, .inl (G.2 5, 1, .inr (.inl of))), (oD, .inl (G.2 6, 1, .inr (.inr (.inr (.inl og)))))] ++ (WD ++ (WM ++ []))) : va_W).Perm (([(o, .inl (G.2 5, 1, .inr (.inl of)))] ++ (WD ++ [])) ++ ([(oD, .inl (G.2 6, 1, .inr (.inr (.inr (.inl og)))))] ++ (WM ++ []))) := segs_perm [[(o, .inl (G.2 5, 1, .inr (.inl of)))], [(oD, .inl (G.2 6, 1, .inr (.inr (.inr (.inl og)))))], WD, WM] [0, 2] [1, 3] rfl
  have hF := hF_ofP (wc := ([(o, .inl (G.2 5, 1, .inr (.inl of)))] ++ (WD ++ []))) hD hS hA hpm_4452
  refine go_ctP hS hP hD hpm_4452 hF
      (vx_runSW (As := [.ref d, .int (sx9 xs (i9 + 1)), .ref o]) (rest := []) cf (wX0_bestEffortByTrying l G d C WD o of (sx9 xs (i9 + 1)) (hDy) hfl H.size) (vx_cwSW 3 hts (lw_SW q1399 q1400 q46 q1401) rfl rfl rfl (by decide +kernel) ⟨Nat.le_of_ble_eq_true rfl, Nat.le_of_ble_eq_true rfl⟩) (preS_ofW hNc hKB hE hS hF (P_left (P_perm hpm_4452 hP)) ((D_left (D_perm hpm_4452 hD)).weaken (fun _ _ _ _ => trivial)) trivial) rfl rfl hl.1 rfl (lv_room (Nat.le_of_ble_eq_true rfl)) dL_law_2219 ⟨show cl + 90 ≤ 1200144 from by first | decide | omega, show sl + 20000 ≤ 5495674 from by first | decide | omega⟩)
      (fun u_ H locs hq hph (hP : va_P G.1 CL (([(oD, .inl (G.2 6, 1, .inr (.inr (.inr (.inl og)))))] ++ (WM ++ [])) ++ ([(o, .inl (G.2 5, 1, .inr (.inl u_.1)))] ++ (u_.2 ++ []))) H) (hD : va_D A (([(oD, .inl (G.2 6, 1, .inr (.inr (.inr (.inl og)))))] ++ (WM ++ [])) ++ ([(o, .inl (G.2 5, 1, .inr (.inl u_.1)))] ++ (u_.2 ++ [])))) hS hfz hfk => ?_)
  obtain ⟨of2_4453, W2_4454⟩ := u_
  obtain ⟨hq_4455, hq_4456, hq_4457⟩ : ((q_bestEff (dC C) (sx9 xs (i9 + 1))).1 = 0 → of2_4453 0 = ((q_bestEff (dC C) (sx9 xs (i9 + 1))).2).toInt64) ∧ (q_bestEff (dC C) (sx9 xs (i9 + 1))).1 < 10 ∧ DyW G d C W2_4454 := hq
  have hpm_4458 : (([(oD, .inl (G.2 6, 1, .inr (.inr (.inr (.inl og)))))] ++ (WM ++ [])) ++ ([(o, .inl (G.2 5, 1, .inr (.inl of2_4453)))] ++ (W2_4454 ++ [])) : va_W).Perm ([(oD, .inl (G.2 6, 1, .inr (.inr (.inr (.inl og))))), (o, .inl (G.2 5, 1, .inr (.inl of2_4453)))] ++ (WM ++ (W2_4454 ++ []))) := segs_perm2 [[(oD, .inl (G.2 6, 1, .inr (.inr (.inr (.inl og)))))], WM] [[(o, .inl (G.2 5, 1, .inr (.inl of2_4453)))], W2_4454] [0, 2, 1, 3] rfl
  have hP : va_P G.1 CL ([(oD, .inl (G.2 6, 1, .inr (.inr (.inr (.inl og))))), (o, .inl (G.2 5, 1, .inr (.inl of2_4453)))] ++ (WM ++ (W2_4454 ++ []))) H := P_perm hpm_4458 hP
  have hD : va_D A ([(oD, .inl (G.2 6, 1, .inr (.inr (.inr (.inl og))))), (o, .inl (G.2 5, 1, .inr (.inl of2_4453)))] ++ (WM ++ (W2_4454 ++ []))) := D_perm hpm_4458 hD
  refine W.eq (g2 := F0 m 2222 ls [.int (nI ((q_bestEff (dC C) (sx9 xs (i9 + 1))).1))]) rfl ?_
  have hqs : (q_bestEff (dC M) (sx9 xs (i9 + 1))) = (q_bestEff (dC C) (sx9 xs (i9 + 1))) := q_bestEff_sim hLw.1.symm hIm (sx9 xs (i9 + 1))
  refine lv_istore (lv' := [(6, .int (nI ((q_bestEff (dC C) (sx9 xs (i9 + 1))).1))), (0, .ref b), (1, .ref d), (2, .ref m0), (3, .ref o), (4, .ref oD), (5, .int (nI i9))]) hx hb dL_law_2222 hl (by decide) rfl (fun ls hl => ?_)
  refine lv_aload_n hx hb dL_law_2224 rfl (lv_at hl 3 rfl) ?_
  refine lv_aload_n hx hb dL_law_2225 rfl (lv_at hl 1 rfl) ?_
  refine lv_iload hx hb dL_law_2226 (lv_at hl 6 rfl) ?_
  refine lv_iconst (v := nI 1) hx hb dL_law_2228 (by decide) ?_
  refine lv_iadd hx hb dL_law_2229 ?_
  refine lv_ton (n := i9 + 1) (nadd (by omega)) ?_
  refine va_sld hx hb hX9 hbl hbA hS (i := nI (i9 + 1)) (vp9 (by omega) hL96) dL_law_2230 ?_
  refine W.eq (g2 := F0 m 2231 ls [.int (sx9 xs (i9 + 1)), .ref m0]) rfl ?_
  have hpm_4459 : (([(oD, .inl (G.2 6, 1, .inr (.inr (.inr (.inl og))))), (o, .inl (G.2 5, 1, .inr (.inl of2_4453)))] ++ (WM ++ (W2_4454 ++ []))) : va_W).Perm ((WM ++ []) ++ ([(oD, .inl (G.2 6, 1, .inr (.inr (.inr (.inl og))))), (o, .inl (G.2 5, 1, .inr (.inl of2_4453)))] ++ (W2_4454 ++ []))) := segs_perm [[(oD, .inl (G.2 6, 1, .inr (.inr (.inr (.inl og)))))], [(o, .inl (G.2 5, 1, .inr (.inl of2_4453)))], WM, W2_4454] [2] [0, 1, 3] rfl
  have hF := hF_ofP (wc := (WM ++ [])) hD hS hA hpm_4459
  refine go_ctP hS hP hD hpm_4459 hF
      (va_runV (As := [.int (sx9 xs (i9 + 1))]) (rest := []) cf (eX4_bestEffortByTrying l G m0 M th WM (sx9 xs (i9 + 1)) (hMd) (hIm) (hRk) H.size) (cwV 1 hts (lw_V q1893 q1894 q1895 q58 q1896) rfl rfl rfl (by decide +kernel) ⟨Nat.le_of_ble_eq_true rfl, Nat.le_of_ble_eq_true rfl⟩) (preV_of hKB hE hS hF (MdW.recv hK hMd (seg_at [[(oD, .inl (G.2 6, 1, .inr (.inr (.inr (.inl og)))))], [(o, .inl (G.2 5, 1, .inr (.inl of2_4453)))], WM, W2_4454] 2 rfl hP)) (P_left (P_perm hpm_4459 hP)) ((D_left (D_perm hpm_4459 hD)).weaken (fun _ _ _ _ => trivial)) trivial) rfl rfl hl.1 rfl (lv_room (Nat.le_of_ble_eq_true rfl)) dL_law_2231 ⟨show cl + 90 + 0 ≤ 1200144 from by first | decide | omega, show sl + 20000 + 0 ≤ 5495674 from by first | decide | omega⟩)
      (fun u_ H locs hq hph (hP : va_P G.1 CL (([(oD, .inl (G.2 6, 1, .inr (.inr (.inr (.inl og))))), (o, .inl (G.2 5, 1, .inr (.inl of2_4453)))] ++ (W2_4454 ++ [])) ++ (u_.2 ++ [])) H) (hD : va_D A (([(oD, .inl (G.2 6, 1, .inr (.inr (.inr (.inl og))))), (o, .inl (G.2 5, 1, .inr (.inl of2_4453)))] ++ (W2_4454 ++ [])) ++ (u_.2 ++ []))) hS hfz hfk => ?_)
  obtain ⟨rr_4460, W2_4461⟩ := u_
  obtain ⟨hq_4462, hq_4463⟩ : ((q_bestEff (dC M) (sx9 xs (i9 + 1))).1 = 0 → rr_4460 = (q_bestEff (dC M) (sx9 xs (i9 + 1))).2) ∧ MdW G m0 M (q_bestEff (dC M) (sx9 xs (i9 + 1))).1 W2_4461 := hq
  have hpm_4464 : (([(oD, .inl (G.2 6, 1, .inr (.inr (.inr (.inl og))))), (o, .inl (G.2 5, 1, .inr (.inl of2_4453)))] ++ (W2_4454 ++ [])) ++ (W2_4461 ++ []) : va_W).Perm ([(oD, .inl (G.2 6, 1, .inr (.inr (.inr (.inl og))))), (o, .inl (G.2 5, 1, .inr (.inl of2_4453)))] ++ (W2_4454 ++ (W2_4461 ++ []))) := segs_perm2 [[(oD, .inl (G.2 6, 1, .inr (.inr (.inr (.inl og)))))], [(o, .inl (G.2 5, 1, .inr (.inl of2_4453)))], W2_4454] [W2_4461] [0, 1, 2, 3] rfl
  have hP : va_P G.1 CL ([(oD, .inl (G.2 6, 1, .inr (.inr (.inr (.inl og))))), (o, .inl (G.2 5, 1, .inr (.inl of2_4453)))] ++ (W2_4454 ++ (W2_4461 ++ []))) H := P_perm hpm_4464 hP
  have hD : va_D A ([(oD, .inl (G.2 6, 1, .inr (.inr (.inr (.inl og))))), (o, .inl (G.2 5, 1, .inr (.inl of2_4453)))] ++ (W2_4454 ++ (W2_4461 ++ []))) := D_perm hpm_4464 hD
  refine W.eq (g2 := F0 m 2234 ls [.int rr_4460]) rfl ?_
  refine lv_istore (lv' := [(7, .int rr_4460), (6, .int (nI ((q_bestEff (dC C) (sx9 xs (i9 + 1))).1))), (0, .ref b), (1, .ref d), (2, .ref m0), (3, .ref o), (4, .ref oD), (5, .int (nI i9))]) hx hb dL_law_2234 hl (by decide) rfl (fun ls hl => ?_)
  refine lv_aload_n hx hb dL_law_2236 rfl (lv_at hl 4 rfl) ?_
  have hpm_4465 : (([(oD, .inl (G.2 6, 1, .inr (.inr (.inr (.inl og))))), (o, .inl (G.2 5, 1, .inr (.inl of2_4453)))] ++ (W2_4454 ++ (W2_4461 ++ []))) : va_W).Perm ([] ++ ([(oD, .inl (G.2 6, 1, .inr (.inr (.inr (.inl og))))), (o, .inl (G.2 5, 1, .inr (.inl of2_4453)))] ++ (W2_4454 ++ (W2_4461 ++ [])))) := segs_perm [[(oD, .inl (G.2 6, 1, .inr (.inr (.inr (.inl og)))))], [(o, .inl (G.2 5, 1, .inr (.inl of2_4453)))], W2_4454, W2_4461] [] [0, 1, 2, 3] rfl
  have hF := hF_ofP (wc := []) hD hS hA hpm_4465
  refine go_ctP hS hP hD hpm_4465 hF
      (va_runV (As := []) (rest := []) cf (eX4_thrown l G m0 M (((q_bestEff (dC M) (sx9 xs (i9 + 1)))).1) W2_4461 (hq_4463) H.size) (cwV 0 hts (lw_V q1639 q1640 q1641 q58 q1642) rfl rfl rfl (by decide +kernel) ⟨Nat.le_of_ble_eq_true rfl, Nat.le_of_ble_eq_true rfl⟩) (preV_of hKB hE hS hF (MdW.recv hK hq_4463 (seg_at [[(oD, .inl (G.2 6, 1, .inr (.inr (.inr (.inl og)))))], [(o, .inl (G.2 5, 1, .inr (.inl of2_4453)))], W2_4454, W2_4461] 3 rfl hP)) (P_left (P_perm hpm_4465 hP)) ((D_left (D_perm hpm_4465 hD)).weaken (fun _ _ _ _ => trivial)) (roW.nil (seg_at [[(oD, .inl (G.2 6, 1, .inr (.inr (.inr (.inl og)))))], [(o, .inl (G.2 5, 1, .inr (.inl of2_4453)))], W2_4454, W2_4461] 3 rfl hP))) rfl rfl hl.1 rfl (lv_room (Nat.le_of_ble_eq_true rfl)) dL_law_2237 ⟨show cl + 90 + 0 ≤ 1200144 from by first | decide | omega, show sl + 20000 + 0 ≤ 5495674 from by first | decide | omega⟩)
      (fun u_ H locs hq hph (hP : va_P G.1 CL (([(oD, .inl (G.2 6, 1, .inr (.inr (.inr (.inl og))))), (o, .inl (G.2 5, 1, .inr (.inl of2_4453)))] ++ (W2_4454 ++ (W2_4461 ++ []))) ++ []) H) (hD : va_D A (([(oD, .inl (G.2 6, 1, .inr (.inr (.inr (.inl og))))), (o, .inl (G.2 5, 1, .inr (.inl of2_4453)))] ++ (W2_4454 ++ (W2_4461 ++ []))) ++ [])) hS hfz hfk => ?_)
  have hpm_4466 : (([(oD, .inl (G.2 6, 1, .inr (.inr (.inr (.inl og))))), (o, .inl (G.2 5, 1, .inr (.inl of2_4453)))] ++ (W2_4454 ++ (W2_4461 ++ []))) ++ [] : va_W).Perm ([(oD, .inl (G.2 6, 1, .inr (.inr (.inr (.inl og))))), (o, .inl (G.2 5, 1, .inr (.inl of2_4453)))] ++ (W2_4454 ++ (W2_4461 ++ []))) := segs_perm2 [[(oD, .inl (G.2 6, 1, .inr (.inr (.inr (.inl og)))))], [(o, .inl (G.2 5, 1, .inr (.inl of2_4453)))], W2_4454, W2_4461] [] [0, 1, 2, 3] rfl
  have hP : va_P G.1 CL ([(oD, .inl (G.2 6, 1, .inr (.inr (.inr (.inl og))))), (o, .inl (G.2 5, 1, .inr (.inl of2_4453)))] ++ (W2_4454 ++ (W2_4461 ++ []))) H := P_perm hpm_4466 hP
  have hD : va_D A ([(oD, .inl (G.2 6, 1, .inr (.inr (.inr (.inl og))))), (o, .inl (G.2 5, 1, .inr (.inl of2_4453)))] ++ (W2_4454 ++ (W2_4461 ++ []))) := D_perm hpm_4466 hD
  refine W.eq (g2 := F0 m 2240 ls [.int (nI (((q_bestEff (dC M) (sx9 xs (i9 + 1)))).1))]) rfl ?_
  refine lv_ton (n := ((q_bestEff (dC C) (sx9 xs (i9 + 1))).1)) (congrArg nI (by rw [hqs])) ?_
  refine lv_iload hx hb dL_law_2240 (lv_at hl 1 rfl) ?_
  refine lv_icmp_eq (tgt := 2247) hx hb dL_law_2242 (by decide) (fun _ => ?_) (fun c9 => absurd rfl c9)
  refine lv_iload hx hb dL_law_2247 (lv_at hl 1 rfl) ?_
  refine n_if_ne (tgt := 2264) hx hb (by omega) dL_law_2249 (by decide) (fun c_4467 => ?_) (fun c_4467 => ?_)
  · refine lv_goto (tgt := 2788) hx hb dL_law_2264 (by decide) ?_
    have hpm_4468 : (([(oD, .inl (G.2 6, 1, .inr (.inr (.inr (.inl og))))), (o, .inl (G.2 5, 1, .inr (.inl of2_4453)))] ++ (W2_4454 ++ (W2_4461 ++ []))) : va_W).Perm (([(o, .inl (G.2 5, 1, .inr (.inl of2_4453))), (oD, .inl (G.2 6, 1, .inr (.inr (.inr (.inl og)))))] ++ (W2_4454 ++ (W2_4461 ++ []))) ++ []) := segs_perm [[(oD, .inl (G.2 6, 1, .inr (.inr (.inr (.inl og)))))], [(o, .inl (G.2 5, 1, .inr (.inl of2_4453)))], W2_4454, W2_4461] [1, 0, 2, 3] [] rfl
    have hP : va_P G.1 CL ([(o, .inl (G.2 5, 1, .inr (.inl of2_4453))), (oD, .inl (G.2 6, 1, .inr (.inr (.inr (.inl og)))))] ++ (W2_4454 ++ (W2_4461 ++ []))) H := P_left (P_perm hpm_4468 hP)
    have hD : va_D A ([(o, .inl (G.2 5, 1, .inr (.inl of2_4453))), (oD, .inl (G.2 6, 1, .inr (.inr (.inr (.inl og)))))] ++ (W2_4454 ++ (W2_4461 ++ []))) := D_left (D_perm hpm_4468 hD)
    have hl := lv_sub hl [2, 3, 4, 5, 6, 7] (l' := [(0, .ref b), (1, .ref d), (2, .ref m0), (3, .ref o), (4, .ref oD), (5, .int (nI i9))]) rfl
    exact W.widen (show cl + 90 ≤ cl + 20000 from by omega) (show sl + 20000 ≤ sl + 45000 from by omega) (kk ls H locs C M (((q_bestEff (dC M) (sx9 xs (i9 + 1)))).1) W2_4454 W2_4461 of2_4453 og hP hD hS hl hq_4457 hq_4463 hLw.up)
  · refine lv_aload_n hx hb dL_law_2252 rfl (lv_at hl 5 rfl) ?_
    refine lv_iconst (v := nI 0) hx hb dL_law_2253 (by decide) ?_
    refine r_lald (v := (((q_bestEff (dC C) (sx9 xs (i9 + 1)))).2).toInt64) hx hb hK hP 1 5 rfl rfl (i := 0) (by omega) (by omega) ((hq_4455 (by omega))) dL_law_2254 ?_
    refine lv_iload hx hb dL_law_2255 (lv_at hl 0 rfl) ?_
    refine lv_toi (y := ((q_bestEff (dC C) (sx9 xs (i9 + 1)))).2) ((hq_4462 (by rw [hqs]; omega)).trans (by rw [hqs])) ?_
    refine lv_i2l (v := (((q_bestEff (dC C) (sx9 xs (i9 + 1)))).2).toInt64) hx hb dL_law_2257 rfl ?_
    refine W.lcmp hx hb dL_law_2258 ?_
    refine lv_ton (n := 0) (lcmp0 _) ?_
    refine n_if_eq (tgt := 2264) hx hb (by omega) dL_law_2259 (by decide) (fun c_4469 => ?_) (fun c_4469 => absurd c_4469 (by omega))
    refine lv_goto (tgt := 2788) hx hb dL_law_2264 (by decide) ?_
    have hpm_4470 : (([(oD, .inl (G.2 6, 1, .inr (.inr (.inr (.inl og))))), (o, .inl (G.2 5, 1, .inr (.inl of2_4453)))] ++ (W2_4454 ++ (W2_4461 ++ []))) : va_W).Perm (([(o, .inl (G.2 5, 1, .inr (.inl of2_4453))), (oD, .inl (G.2 6, 1, .inr (.inr (.inr (.inl og)))))] ++ (W2_4454 ++ (W2_4461 ++ []))) ++ []) := segs_perm [[(oD, .inl (G.2 6, 1, .inr (.inr (.inr (.inl og)))))], [(o, .inl (G.2 5, 1, .inr (.inl of2_4453)))], W2_4454, W2_4461] [1, 0, 2, 3] [] rfl
    have hP : va_P G.1 CL ([(o, .inl (G.2 5, 1, .inr (.inl of2_4453))), (oD, .inl (G.2 6, 1, .inr (.inr (.inr (.inl og)))))] ++ (W2_4454 ++ (W2_4461 ++ []))) H := P_left (P_perm hpm_4470 hP)
    have hD : va_D A ([(o, .inl (G.2 5, 1, .inr (.inl of2_4453))), (oD, .inl (G.2 6, 1, .inr (.inr (.inr (.inl og)))))] ++ (W2_4454 ++ (W2_4461 ++ []))) := D_left (D_perm hpm_4470 hD)
    have hl := lv_sub hl [2, 3, 4, 5, 6, 7] (l' := [(0, .ref b), (1, .ref d), (2, .ref m0), (3, .ref o), (4, .ref oD), (5, .int (nI i9))]) rfl
    exact W.widen (show cl + 90 ≤ cl + 20000 from by omega) (show sl + 20000 ≤ sl + 45000 from by omega) (kk ls H locs C M (((q_bestEff (dC M) (sx9 xs (i9 + 1)))).1) W2_4454 W2_4461 of2_4453 og hP hD hS hl hq_4457 hq_4463 hLw.up)

set_option maxHeartbeats 4000000 in
theorem lawK_37 {p : Program} {l : Launch} {e : Env} {s : State} {m : MethodId} {below : List Frame} {meth : Method} {c : Code} {G : Gt} {A : Nat → Prop} {b L : Nat} {xs : Nat → Int32} {Q : State → Prop} {d m0 o oD i9 N cl sl : Nat} (hfl : l.stackTraces = false) (F : LwF G A p s m c b L xs) (hi9 : i9 + 4 ≤ L) (hN24 : N ≤ 24) (hcl : cl + 20000 ≤ 1200144) (hsl : sl + 45000 ≤ 5495674) (kk : ∀ (ls : Array Slot) (H : Heap) (locs : List Loc) (C M : DS) (th : Nat) (WD WM : va_W) (of : Nat → Int64) (og : Nat → UInt64), va_P G.1 CL ([(o, .inl (G.2 5, 1, .inr (.inl of))), (oD, .inl (G.2 6, 1, .inr (.inr (.inr (.inl og)))))] ++ (WD ++ (WM ++ []))) H → va_D A ([(o, .inl (G.2 5, 1, .inr (.inl of))), (oD, .inl (G.2 6, 1, .inr (.inr (.inr (.inl og)))))] ++ (WD ++ (WM ++ []))) → va_S A s.heap H locs → lv_has ls 10 [(0, .ref b), (1, .ref d), (2, .ref m0), (3, .ref o), (4, .ref oD), (5, .int (nI i9))] → DyW G d C WD → MdW G m0 M th WM → LawI C M (N + 1) → W p l e room_1 s m #[Value.ref b] below meth c H locs (cl + 20000) (sl + 45000) Q (F0 m 2788 ls [])) {ls : Array Slot} {H : Heap} {locs : List Loc} {C M : DS} {th : Nat} {WD WM : va_W} {of : Nat → Int64} {og : Nat → UInt64} (hP : va_P G.1 CL ([(o, .inl (G.2 5, 1, .inr (.inl of))), (oD, .inl (G.2 6, 1, .inr (.inr (.inr (.inl og)))))] ++ (WD ++ (WM ++ []))) H) (hD : va_D A ([(o, .inl (G.2 5, 1, .inr (.inl of))), (oD, .inl (G.2 6, 1, .inr (.inr (.inr (.inl og)))))] ++ (WD ++ (WM ++ [])))) (hS : va_S A s.heap H locs) (hl : lv_has ls 10 [(0, .ref b), (1, .ref d), (2, .ref m0), (3, .ref o), (4, .ref oD), (5, .int (nI i9))]) (hDy : DyW G d C WD) (hMd : MdW G m0 M th WM) (hLw : LawI C M N) : W p l e room_1 s m #[Value.ref b] below meth c H locs cl sl Q (F0 m 2267 ls []) := by
  obtain ⟨cf, hKB, hE, hA, hX9, hbl, hbA, hNc, hL96⟩ := F
  have hx := cf.1
  have hb := cf.2.1
  have hml := cf.2.2.1
  have hown : s.vm.findClass RX0 = some m.cls := cf.2.2.2.1
  have hts := cf.2.2.2.2
  have hK := hKB.1
  have hIc := hDy.inv.1
  have hIm : Inv (dC M) := Inv_sim hLw.1 hIc
  have hRk : RkOk (dC M) := RkOk_sim hLw.1 (RkOk_srt hDy.inv.2.2)
  have hl := hl
  refine lv_aload_n hx hb dL_law_2267 rfl (lv_at hl 1 rfl) ?_
  refine lv_aload_n hx hb dL_law_2268 rfl (lv_at hl 0 rfl) ?_
  refine lv_iload hx hb dL_law_2269 (lv_at hl 5 rfl) ?_
  refine lv_iconst (v := nI 1) hx hb dL_law_2271 (by decide) ?_
  refine lv_iadd hx hb dL_law_2272 ?_
  refine lv_ton (n := i9 + 1) (nadd (by omega)) ?_
  refine va_sld hx hb hX9 hbl hbA hS (i := nI (i9 + 1)) (vp9 (by omega) hL96) dL_law_2273 ?_
  refine W.eq (g2 := F0 m 2274 ls [.int (sx9 xs (i9 + 1)), .ref d]) rfl ?_
  refine lv_aload_n hx hb dL_law_2274 rfl (lv_at hl 3 rfl) ?_
  have hpm_4471 : (([(o, .inl (G.2 5, 1, .inr (.inl of))), (oD, .inl (G.2 6, 1, .inr (.inr (.inr (.inl og)))))] ++ (WD ++ (WM ++ []))) : va_W).Perm (([(o, .inl (G.2 5, 1, .inr (.inl of)))] ++ (WD ++ [])) ++ ([(oD, .inl (G.2 6, 1, .inr (.inr (.inr (.inl og)))))] ++ (WM ++ []))) := segs_perm [[(o, .inl (G.2 5, 1, .inr (.inl of)))], [(oD, .inl (G.2 6, 1, .inr (.inr (.inr (.inl og)))))], WD, WM] [0, 2] [1, 3] rfl
  have hF := hF_ofP (wc := ([(o, .inl (G.2 5, 1, .inr (.inl of)))] ++ (WD ++ []))) hD hS hA hpm_4471
  refine go_ctP hS hP hD hpm_4471 hF
      (vx_runSW (As := [.ref d, .int (sx9 xs (i9 + 1)), .ref o]) (rest := []) cf (wX0_bestEffortSession l G d C WD o of (sx9 xs (i9 + 1)) (hDy) hfl H.size) (vx_cwSW 3 hts (lw_SW q1406 q1407 q46 q1408) rfl rfl rfl (by decide +kernel) ⟨Nat.le_of_ble_eq_true rfl, Nat.le_of_ble_eq_true rfl⟩) (preS_ofW hNc hKB hE hS hF (P_left (P_perm hpm_4471 hP)) ((D_left (D_perm hpm_4471 hD)).weaken (fun _ _ _ _ => trivial)) trivial) rfl rfl hl.1 rfl (lv_room (Nat.le_of_ble_eq_true rfl)) dL_law_2275 ⟨show cl + 90 ≤ 1200144 from by first | decide | omega, show sl + 20000 ≤ 5495674 from by first | decide | omega⟩)
      (fun u_ H locs hq hph (hP : va_P G.1 CL (([(oD, .inl (G.2 6, 1, .inr (.inr (.inr (.inl og)))))] ++ (WM ++ [])) ++ ([(o, .inl (G.2 5, 1, .inr (.inl u_.1)))] ++ (u_.2 ++ []))) H) (hD : va_D A (([(oD, .inl (G.2 6, 1, .inr (.inr (.inr (.inl og)))))] ++ (WM ++ [])) ++ ([(o, .inl (G.2 5, 1, .inr (.inl u_.1)))] ++ (u_.2 ++ [])))) hS hfz hfk => ?_)
  obtain ⟨of2_4472, W2_4473⟩ := u_
  obtain ⟨hq_4474, hq_4475, hq_4476⟩ : ((q_bestEffS (dC C) (sx9 xs (i9 + 1))).1 = 0 → of2_4472 0 = ((q_bestEffS (dC C) (sx9 xs (i9 + 1))).2).toInt64) ∧ (q_bestEffS (dC C) (sx9 xs (i9 + 1))).1 < 10 ∧ DyW G d C W2_4473 := hq
  have hpm_4477 : (([(oD, .inl (G.2 6, 1, .inr (.inr (.inr (.inl og)))))] ++ (WM ++ [])) ++ ([(o, .inl (G.2 5, 1, .inr (.inl of2_4472)))] ++ (W2_4473 ++ [])) : va_W).Perm ([(oD, .inl (G.2 6, 1, .inr (.inr (.inr (.inl og))))), (o, .inl (G.2 5, 1, .inr (.inl of2_4472)))] ++ (WM ++ (W2_4473 ++ []))) := segs_perm2 [[(oD, .inl (G.2 6, 1, .inr (.inr (.inr (.inl og)))))], WM] [[(o, .inl (G.2 5, 1, .inr (.inl of2_4472)))], W2_4473] [0, 2, 1, 3] rfl
  have hP : va_P G.1 CL ([(oD, .inl (G.2 6, 1, .inr (.inr (.inr (.inl og))))), (o, .inl (G.2 5, 1, .inr (.inl of2_4472)))] ++ (WM ++ (W2_4473 ++ []))) H := P_perm hpm_4477 hP
  have hD : va_D A ([(oD, .inl (G.2 6, 1, .inr (.inr (.inr (.inl og))))), (o, .inl (G.2 5, 1, .inr (.inl of2_4472)))] ++ (WM ++ (W2_4473 ++ []))) := D_perm hpm_4477 hD
  refine W.eq (g2 := F0 m 2278 ls [.int (nI ((q_bestEffS (dC C) (sx9 xs (i9 + 1))).1))]) rfl ?_
  have hqs : (q_bestEffS (dC M) (sx9 xs (i9 + 1))) = (q_bestEffS (dC C) (sx9 xs (i9 + 1))) := q_bestEffS_sim hLw.1.symm hIm (sx9 xs (i9 + 1))
  refine lv_istore (lv' := [(6, .int (nI ((q_bestEffS (dC C) (sx9 xs (i9 + 1))).1))), (0, .ref b), (1, .ref d), (2, .ref m0), (3, .ref o), (4, .ref oD), (5, .int (nI i9))]) hx hb dL_law_2278 hl (by decide) rfl (fun ls hl => ?_)
  refine lv_aload_n hx hb dL_law_2280 rfl (lv_at hl 3 rfl) ?_
  refine lv_aload_n hx hb dL_law_2281 rfl (lv_at hl 1 rfl) ?_
  refine lv_iload hx hb dL_law_2282 (lv_at hl 6 rfl) ?_
  refine lv_iconst (v := nI 1) hx hb dL_law_2284 (by decide) ?_
  refine lv_iadd hx hb dL_law_2285 ?_
  refine lv_ton (n := i9 + 1) (nadd (by omega)) ?_
  refine va_sld hx hb hX9 hbl hbA hS (i := nI (i9 + 1)) (vp9 (by omega) hL96) dL_law_2286 ?_
  refine W.eq (g2 := F0 m 2287 ls [.int (sx9 xs (i9 + 1)), .ref m0]) rfl ?_
  have hpm_4478 : (([(oD, .inl (G.2 6, 1, .inr (.inr (.inr (.inl og))))), (o, .inl (G.2 5, 1, .inr (.inl of2_4472)))] ++ (WM ++ (W2_4473 ++ []))) : va_W).Perm ((WM ++ []) ++ ([(oD, .inl (G.2 6, 1, .inr (.inr (.inr (.inl og))))), (o, .inl (G.2 5, 1, .inr (.inl of2_4472)))] ++ (W2_4473 ++ []))) := segs_perm [[(oD, .inl (G.2 6, 1, .inr (.inr (.inr (.inl og)))))], [(o, .inl (G.2 5, 1, .inr (.inl of2_4472)))], WM, W2_4473] [2] [0, 1, 3] rfl
  have hF := hF_ofP (wc := (WM ++ [])) hD hS hA hpm_4478
  refine go_ctP hS hP hD hpm_4478 hF
      (va_runV (As := [.int (sx9 xs (i9 + 1))]) (rest := []) cf (eX4_bestEffortSession l G m0 M th WM (sx9 xs (i9 + 1)) (hMd) (hIm) (hRk) H.size) (cwV 1 hts (lw_V q1898 q1899 q1900 q58 q1901) rfl rfl rfl (by decide +kernel) ⟨Nat.le_of_ble_eq_true rfl, Nat.le_of_ble_eq_true rfl⟩) (preV_of hKB hE hS hF (MdW.recv hK hMd (seg_at [[(oD, .inl (G.2 6, 1, .inr (.inr (.inr (.inl og)))))], [(o, .inl (G.2 5, 1, .inr (.inl of2_4472)))], WM, W2_4473] 2 rfl hP)) (P_left (P_perm hpm_4478 hP)) ((D_left (D_perm hpm_4478 hD)).weaken (fun _ _ _ _ => trivial)) trivial) rfl rfl hl.1 rfl (lv_room (Nat.le_of_ble_eq_true rfl)) dL_law_2287 ⟨show cl + 90 + 0 ≤ 1200144 from by first | decide | omega, show sl + 20000 + 0 ≤ 5495674 from by first | decide | omega⟩)
      (fun u_ H locs hq hph (hP : va_P G.1 CL (([(oD, .inl (G.2 6, 1, .inr (.inr (.inr (.inl og))))), (o, .inl (G.2 5, 1, .inr (.inl of2_4472)))] ++ (W2_4473 ++ [])) ++ (u_.2 ++ [])) H) (hD : va_D A (([(oD, .inl (G.2 6, 1, .inr (.inr (.inr (.inl og))))), (o, .inl (G.2 5, 1, .inr (.inl of2_4472)))] ++ (W2_4473 ++ [])) ++ (u_.2 ++ []))) hS hfz hfk => ?_)
  obtain ⟨rr_4479, W2_4480⟩ := u_
  obtain ⟨hq_4481, hq_4482⟩ : ((q_bestEffS (dC M) (sx9 xs (i9 + 1))).1 = 0 → rr_4479 = (q_bestEffS (dC M) (sx9 xs (i9 + 1))).2) ∧ MdW G m0 M (q_bestEffS (dC M) (sx9 xs (i9 + 1))).1 W2_4480 := hq
  have hpm_4483 : (([(oD, .inl (G.2 6, 1, .inr (.inr (.inr (.inl og))))), (o, .inl (G.2 5, 1, .inr (.inl of2_4472)))] ++ (W2_4473 ++ [])) ++ (W2_4480 ++ []) : va_W).Perm ([(oD, .inl (G.2 6, 1, .inr (.inr (.inr (.inl og))))), (o, .inl (G.2 5, 1, .inr (.inl of2_4472)))] ++ (W2_4473 ++ (W2_4480 ++ []))) := segs_perm2 [[(oD, .inl (G.2 6, 1, .inr (.inr (.inr (.inl og)))))], [(o, .inl (G.2 5, 1, .inr (.inl of2_4472)))], W2_4473] [W2_4480] [0, 1, 2, 3] rfl
  have hP : va_P G.1 CL ([(oD, .inl (G.2 6, 1, .inr (.inr (.inr (.inl og))))), (o, .inl (G.2 5, 1, .inr (.inl of2_4472)))] ++ (W2_4473 ++ (W2_4480 ++ []))) H := P_perm hpm_4483 hP
  have hD : va_D A ([(oD, .inl (G.2 6, 1, .inr (.inr (.inr (.inl og))))), (o, .inl (G.2 5, 1, .inr (.inl of2_4472)))] ++ (W2_4473 ++ (W2_4480 ++ []))) := D_perm hpm_4483 hD
  refine W.eq (g2 := F0 m 2290 ls [.int rr_4479]) rfl ?_
  refine lv_istore (lv' := [(7, .int rr_4479), (6, .int (nI ((q_bestEffS (dC C) (sx9 xs (i9 + 1))).1))), (0, .ref b), (1, .ref d), (2, .ref m0), (3, .ref o), (4, .ref oD), (5, .int (nI i9))]) hx hb dL_law_2290 hl (by decide) rfl (fun ls hl => ?_)
  refine lv_aload_n hx hb dL_law_2292 rfl (lv_at hl 4 rfl) ?_
  have hpm_4484 : (([(oD, .inl (G.2 6, 1, .inr (.inr (.inr (.inl og))))), (o, .inl (G.2 5, 1, .inr (.inl of2_4472)))] ++ (W2_4473 ++ (W2_4480 ++ []))) : va_W).Perm ([] ++ ([(oD, .inl (G.2 6, 1, .inr (.inr (.inr (.inl og))))), (o, .inl (G.2 5, 1, .inr (.inl of2_4472)))] ++ (W2_4473 ++ (W2_4480 ++ [])))) := segs_perm [[(oD, .inl (G.2 6, 1, .inr (.inr (.inr (.inl og)))))], [(o, .inl (G.2 5, 1, .inr (.inl of2_4472)))], W2_4473, W2_4480] [] [0, 1, 2, 3] rfl
  have hF := hF_ofP (wc := []) hD hS hA hpm_4484
  refine go_ctP hS hP hD hpm_4484 hF
      (va_runV (As := []) (rest := []) cf (eX4_thrown l G m0 M (((q_bestEffS (dC M) (sx9 xs (i9 + 1)))).1) W2_4480 (hq_4482) H.size) (cwV 0 hts (lw_V q1639 q1640 q1641 q58 q1642) rfl rfl rfl (by decide +kernel) ⟨Nat.le_of_ble_eq_true rfl, Nat.le_of_ble_eq_true rfl⟩) (preV_of hKB hE hS hF (MdW.recv hK hq_4482 (seg_at [[(oD, .inl (G.2 6, 1, .inr (.inr (.inr (.inl og)))))], [(o, .inl (G.2 5, 1, .inr (.inl of2_4472)))], W2_4473, W2_4480] 3 rfl hP)) (P_left (P_perm hpm_4484 hP)) ((D_left (D_perm hpm_4484 hD)).weaken (fun _ _ _ _ => trivial)) (roW.nil (seg_at [[(oD, .inl (G.2 6, 1, .inr (.inr (.inr (.inl og)))))], [(o, .inl (G.2 5, 1, .inr (.inl of2_4472)))], W2_4473, W2_4480] 3 rfl hP))) rfl rfl hl.1 rfl (lv_room (Nat.le_of_ble_eq_true rfl)) dL_law_2293 ⟨show cl + 90 + 0 ≤ 1200144 from by first | decide | omega, show sl + 20000 + 0 ≤ 5495674 from by first | decide | omega⟩)
      (fun u_ H locs hq hph (hP : va_P G.1 CL (([(oD, .inl (G.2 6, 1, .inr (.inr (.inr (.inl og))))), (o, .inl (G.2 5, 1, .inr (.inl of2_4472)))] ++ (W2_4473 ++ (W2_4480 ++ []))) ++ []) H) (hD : va_D A (([(oD, .inl (G.2 6, 1, .inr (.inr (.inr (.inl og))))), (o, .inl (G.2 5, 1, .inr (.inl of2_4472)))] ++ (W2_4473 ++ (W2_4480 ++ []))) ++ [])) hS hfz hfk => ?_)
  have hpm_4485 : (([(oD, .inl (G.2 6, 1, .inr (.inr (.inr (.inl og))))), (o, .inl (G.2 5, 1, .inr (.inl of2_4472)))] ++ (W2_4473 ++ (W2_4480 ++ []))) ++ [] : va_W).Perm ([(oD, .inl (G.2 6, 1, .inr (.inr (.inr (.inl og))))), (o, .inl (G.2 5, 1, .inr (.inl of2_4472)))] ++ (W2_4473 ++ (W2_4480 ++ []))) := segs_perm2 [[(oD, .inl (G.2 6, 1, .inr (.inr (.inr (.inl og)))))], [(o, .inl (G.2 5, 1, .inr (.inl of2_4472)))], W2_4473, W2_4480] [] [0, 1, 2, 3] rfl
  have hP : va_P G.1 CL ([(oD, .inl (G.2 6, 1, .inr (.inr (.inr (.inl og))))), (o, .inl (G.2 5, 1, .inr (.inl of2_4472)))] ++ (W2_4473 ++ (W2_4480 ++ []))) H := P_perm hpm_4485 hP
  have hD : va_D A ([(oD, .inl (G.2 6, 1, .inr (.inr (.inr (.inl og))))), (o, .inl (G.2 5, 1, .inr (.inl of2_4472)))] ++ (W2_4473 ++ (W2_4480 ++ []))) := D_perm hpm_4485 hD
  refine W.eq (g2 := F0 m 2296 ls [.int (nI (((q_bestEffS (dC M) (sx9 xs (i9 + 1)))).1))]) rfl ?_
  refine lv_ton (n := ((q_bestEffS (dC C) (sx9 xs (i9 + 1))).1)) (congrArg nI (by rw [hqs])) ?_
  refine lv_iload hx hb dL_law_2296 (lv_at hl 1 rfl) ?_
  refine lv_icmp_eq (tgt := 2303) hx hb dL_law_2298 (by decide) (fun _ => ?_) (fun c9 => absurd rfl c9)
  refine lv_iload hx hb dL_law_2303 (lv_at hl 1 rfl) ?_
  refine n_if_ne (tgt := 2320) hx hb (by omega) dL_law_2305 (by decide) (fun c_4486 => ?_) (fun c_4486 => ?_)
  · refine lv_goto (tgt := 2788) hx hb dL_law_2320 (by decide) ?_
    have hpm_4487 : (([(oD, .inl (G.2 6, 1, .inr (.inr (.inr (.inl og))))), (o, .inl (G.2 5, 1, .inr (.inl of2_4472)))] ++ (W2_4473 ++ (W2_4480 ++ []))) : va_W).Perm (([(o, .inl (G.2 5, 1, .inr (.inl of2_4472))), (oD, .inl (G.2 6, 1, .inr (.inr (.inr (.inl og)))))] ++ (W2_4473 ++ (W2_4480 ++ []))) ++ []) := segs_perm [[(oD, .inl (G.2 6, 1, .inr (.inr (.inr (.inl og)))))], [(o, .inl (G.2 5, 1, .inr (.inl of2_4472)))], W2_4473, W2_4480] [1, 0, 2, 3] [] rfl
    have hP : va_P G.1 CL ([(o, .inl (G.2 5, 1, .inr (.inl of2_4472))), (oD, .inl (G.2 6, 1, .inr (.inr (.inr (.inl og)))))] ++ (W2_4473 ++ (W2_4480 ++ []))) H := P_left (P_perm hpm_4487 hP)
    have hD : va_D A ([(o, .inl (G.2 5, 1, .inr (.inl of2_4472))), (oD, .inl (G.2 6, 1, .inr (.inr (.inr (.inl og)))))] ++ (W2_4473 ++ (W2_4480 ++ []))) := D_left (D_perm hpm_4487 hD)
    have hl := lv_sub hl [2, 3, 4, 5, 6, 7] (l' := [(0, .ref b), (1, .ref d), (2, .ref m0), (3, .ref o), (4, .ref oD), (5, .int (nI i9))]) rfl
    exact W.widen (show cl + 90 ≤ cl + 20000 from by omega) (show sl + 20000 ≤ sl + 45000 from by omega) (kk ls H locs C M (((q_bestEffS (dC M) (sx9 xs (i9 + 1)))).1) W2_4473 W2_4480 of2_4472 og hP hD hS hl hq_4476 hq_4482 hLw.up)
  · refine lv_aload_n hx hb dL_law_2308 rfl (lv_at hl 5 rfl) ?_
    refine lv_iconst (v := nI 0) hx hb dL_law_2309 (by decide) ?_
    refine r_lald (v := (((q_bestEffS (dC C) (sx9 xs (i9 + 1)))).2).toInt64) hx hb hK hP 1 5 rfl rfl (i := 0) (by omega) (by omega) ((hq_4474 (by omega))) dL_law_2310 ?_
    refine lv_iload hx hb dL_law_2311 (lv_at hl 0 rfl) ?_
    refine lv_toi (y := ((q_bestEffS (dC C) (sx9 xs (i9 + 1)))).2) ((hq_4481 (by rw [hqs]; omega)).trans (by rw [hqs])) ?_
    refine lv_i2l (v := (((q_bestEffS (dC C) (sx9 xs (i9 + 1)))).2).toInt64) hx hb dL_law_2313 rfl ?_
    refine W.lcmp hx hb dL_law_2314 ?_
    refine lv_ton (n := 0) (lcmp0 _) ?_
    refine n_if_eq (tgt := 2320) hx hb (by omega) dL_law_2315 (by decide) (fun c_4488 => ?_) (fun c_4488 => absurd c_4488 (by omega))
    refine lv_goto (tgt := 2788) hx hb dL_law_2320 (by decide) ?_
    have hpm_4489 : (([(oD, .inl (G.2 6, 1, .inr (.inr (.inr (.inl og))))), (o, .inl (G.2 5, 1, .inr (.inl of2_4472)))] ++ (W2_4473 ++ (W2_4480 ++ []))) : va_W).Perm (([(o, .inl (G.2 5, 1, .inr (.inl of2_4472))), (oD, .inl (G.2 6, 1, .inr (.inr (.inr (.inl og)))))] ++ (W2_4473 ++ (W2_4480 ++ []))) ++ []) := segs_perm [[(oD, .inl (G.2 6, 1, .inr (.inr (.inr (.inl og)))))], [(o, .inl (G.2 5, 1, .inr (.inl of2_4472)))], W2_4473, W2_4480] [1, 0, 2, 3] [] rfl
    have hP : va_P G.1 CL ([(o, .inl (G.2 5, 1, .inr (.inl of2_4472))), (oD, .inl (G.2 6, 1, .inr (.inr (.inr (.inl og)))))] ++ (W2_4473 ++ (W2_4480 ++ []))) H := P_left (P_perm hpm_4489 hP)
    have hD : va_D A ([(o, .inl (G.2 5, 1, .inr (.inl of2_4472))), (oD, .inl (G.2 6, 1, .inr (.inr (.inr (.inl og)))))] ++ (W2_4473 ++ (W2_4480 ++ []))) := D_left (D_perm hpm_4489 hD)
    have hl := lv_sub hl [2, 3, 4, 5, 6, 7] (l' := [(0, .ref b), (1, .ref d), (2, .ref m0), (3, .ref o), (4, .ref oD), (5, .int (nI i9))]) rfl
    exact W.widen (show cl + 90 ≤ cl + 20000 from by omega) (show sl + 20000 ≤ sl + 45000 from by omega) (kk ls H locs C M (((q_bestEffS (dC M) (sx9 xs (i9 + 1)))).1) W2_4473 W2_4480 of2_4472 og hP hD hS hl hq_4476 hq_4482 hLw.up)

set_option maxHeartbeats 4000000 in
theorem lawK_38 {p : Program} {l : Launch} {e : Env} {s : State} {m : MethodId} {below : List Frame} {meth : Method} {c : Code} {G : Gt} {A : Nat → Prop} {b L : Nat} {xs : Nat → Int32} {Q : State → Prop} {d m0 o oD i9 N cl sl : Nat} (hfl : l.stackTraces = false) (F : LwF G A p s m c b L xs) (hi9 : i9 + 4 ≤ L) (hN24 : N ≤ 24) (hcl : cl + 20000 ≤ 1200144) (hsl : sl + 45000 ≤ 5495674) (kk : ∀ (ls : Array Slot) (H : Heap) (locs : List Loc) (C M : DS) (th : Nat) (WD WM : va_W) (of : Nat → Int64) (og : Nat → UInt64), va_P G.1 CL ([(o, .inl (G.2 5, 1, .inr (.inl of))), (oD, .inl (G.2 6, 1, .inr (.inr (.inr (.inl og)))))] ++ (WD ++ (WM ++ []))) H → va_D A ([(o, .inl (G.2 5, 1, .inr (.inl of))), (oD, .inl (G.2 6, 1, .inr (.inr (.inr (.inl og)))))] ++ (WD ++ (WM ++ []))) → va_S A s.heap H locs → lv_has ls 10 [(0, .ref b), (1, .ref d), (2, .ref m0), (3, .ref o), (4, .ref oD), (5, .int (nI i9))] → DyW G d C WD → MdW G m0 M th WM → LawI C M (N + 1) → W p l e room_1 s m #[Value.ref b] below meth c H locs (cl + 20000) (sl + 45000) Q (F0 m 2788 ls [])) {ls : Array Slot} {H : Heap} {locs : List Loc} {C M : DS} {th : Nat} {WD WM : va_W} {of : Nat → Int64} {og : Nat → UInt64} (hP : va_P G.1 CL ([(o, .inl (G.2 5, 1, .inr (.inl of))), (oD, .inl (G.2 6, 1, .inr (.inr (.inr (.inl og)))))] ++ (WD ++ (WM ++ []))) H) (hD : va_D A ([(o, .inl (G.2 5, 1, .inr (.inl of))), (oD, .inl (G.2 6, 1, .inr (.inr (.inr (.inl og)))))] ++ (WD ++ (WM ++ [])))) (hS : va_S A s.heap H locs) (hl : lv_has ls 10 [(0, .ref b), (1, .ref d), (2, .ref m0), (3, .ref o), (4, .ref oD), (5, .int (nI i9))]) (hDy : DyW G d C WD) (hMd : MdW G m0 M th WM) (hLw : LawI C M N) : W p l e room_1 s m #[Value.ref b] below meth c H locs cl sl Q (F0 m 2323 ls []) := by
  obtain ⟨cf, hKB, hE, hA, hX9, hbl, hbA, hNc, hL96⟩ := F
  have hx := cf.1
  have hb := cf.2.1
  have hml := cf.2.2.1
  have hown : s.vm.findClass RX0 = some m.cls := cf.2.2.2.1
  have hts := cf.2.2.2.2
  have hK := hKB.1
  have hIc := hDy.inv.1
  have hIm : Inv (dC M) := Inv_sim hLw.1 hIc
  have hRk : RkOk (dC M) := RkOk_sim hLw.1 (RkOk_srt hDy.inv.2.2)
  have hl := hl
  refine lv_aload_n hx hb dL_law_2323 rfl (lv_at hl 1 rfl) ?_
  have hpm_4490 : (([(o, .inl (G.2 5, 1, .inr (.inl of))), (oD, .inl (G.2 6, 1, .inr (.inr (.inr (.inl og)))))] ++ (WD ++ (WM ++ []))) : va_W).Perm ((WD ++ []) ++ ([(o, .inl (G.2 5, 1, .inr (.inl of))), (oD, .inl (G.2 6, 1, .inr (.inr (.inr (.inl og)))))] ++ (WM ++ []))) := segs_perm [[(o, .inl (G.2 5, 1, .inr (.inl of)))], [(oD, .inl (G.2 6, 1, .inr (.inr (.inr (.inl og)))))], WD, WM] [2] [0, 1, 3] rfl
  have hF := hF_ofP (wc := (WD ++ [])) hD hS hA hpm_4490
  refine go_ctP hS hP hD hpm_4490 hF
      (va_runV (As := []) (rest := []) cf (dX1_startPlan l G d C WD (hDy) H.size) (cwV 0 hts (lw_V q470 q471 q472 q47 q473) rfl rfl rfl (by decide +kernel) ⟨Nat.le_of_ble_eq_true rfl, Nat.le_of_ble_eq_true rfl⟩) (preV_of hKB hE hS hF (DyW.recv hK hDy (seg_at [[(o, .inl (G.2 5, 1, .inr (.inl of)))], [(oD, .inl (G.2 6, 1, .inr (.inr (.inr (.inl og)))))], WD, WM] 2 rfl hP)) (P_left (P_perm hpm_4490 hP)) ((D_left (D_perm hpm_4490 hD)).weaken (fun _ _ _ _ => trivial)) trivial) rfl rfl hl.1 rfl (lv_room (Nat.le_of_ble_eq_true rfl)) dL_law_2324 ⟨show cl + (0 + 101) ≤ 1200144 from by first | decide | omega, show sl + (0 + 5800) ≤ 5495674 from by first | decide | omega⟩)
      (fun u_ H locs hq hph (hP : va_P G.1 CL (([(o, .inl (G.2 5, 1, .inr (.inl of))), (oD, .inl (G.2 6, 1, .inr (.inr (.inr (.inl og)))))] ++ (WM ++ [])) ++ (u_.2.2 ++ [])) H) (hD : va_D A (([(o, .inl (G.2 5, 1, .inr (.inl of))), (oD, .inl (G.2 6, 1, .inr (.inr (.inr (.inl og)))))] ++ (WM ++ [])) ++ (u_.2.2 ++ []))) hS hfz hfk => ?_)
  obtain ⟨rr_4491, B2_4492, W2_4493⟩ := u_
  obtain ⟨hq_4494, hq_4495, hq_4496, hq_4497⟩ : (o_start (dC C)).1 = 0 ∧ rr_4491 = (o_start (dC C)).2.1 ∧ Sim (o_start (dC C)).2.2 B2_4492 ∧ DyW G d ((B2_4492, dS C, min 6 (dK C + 1), hsR (dH C) (dK C) (dC C), dL C, dN C) : DS) W2_4493 := hq
  have hpm_4498 : (([(o, .inl (G.2 5, 1, .inr (.inl of))), (oD, .inl (G.2 6, 1, .inr (.inr (.inr (.inl og)))))] ++ (WM ++ [])) ++ (W2_4493 ++ []) : va_W).Perm ([(o, .inl (G.2 5, 1, .inr (.inl of))), (oD, .inl (G.2 6, 1, .inr (.inr (.inr (.inl og)))))] ++ (WM ++ (W2_4493 ++ []))) := segs_perm2 [[(o, .inl (G.2 5, 1, .inr (.inl of)))], [(oD, .inl (G.2 6, 1, .inr (.inr (.inr (.inl og)))))], WM] [W2_4493] [0, 1, 2, 3] rfl
  have hP : va_P G.1 CL ([(o, .inl (G.2 5, 1, .inr (.inl of))), (oD, .inl (G.2 6, 1, .inr (.inr (.inr (.inl og)))))] ++ (WM ++ (W2_4493 ++ []))) H := P_perm hpm_4498 hP
  have hD : va_D A ([(o, .inl (G.2 5, 1, .inr (.inl of))), (oD, .inl (G.2 6, 1, .inr (.inr (.inr (.inl og)))))] ++ (WM ++ (W2_4493 ++ []))) := D_perm hpm_4498 hD
  refine W.eq (g2 := F0 m 2327 ls [.int rr_4491]) rfl ?_
  have hqs : SimR (o_start (dC C)) (o_start (dC M)) := o_start_sim hLw.1 hIc 
  refine lv_toi (y := ((o_start (dC C))).2.1) (hq_4495) ?_
  refine lv_aload_n hx hb dL_law_2327 rfl (lv_at hl 2 rfl) ?_
  have hpm_4499 : (([(o, .inl (G.2 5, 1, .inr (.inl of))), (oD, .inl (G.2 6, 1, .inr (.inr (.inr (.inl og)))))] ++ (WM ++ (W2_4493 ++ []))) : va_W).Perm ((WM ++ []) ++ ([(o, .inl (G.2 5, 1, .inr (.inl of))), (oD, .inl (G.2 6, 1, .inr (.inr (.inr (.inl og)))))] ++ (W2_4493 ++ []))) := segs_perm [[(o, .inl (G.2 5, 1, .inr (.inl of)))], [(oD, .inl (G.2 6, 1, .inr (.inr (.inr (.inl og)))))], WM, W2_4493] [2] [0, 1, 3] rfl
  have hF := hF_ofP (wc := (WM ++ [])) hD hS hA hpm_4499
  refine go_ctP hS hP hD hpm_4499 hF
      (va_runV (As := []) (rest := [.int (((o_start (dC C))).2.1)]) cf (eX4_startPlan l G m0 M th WM (hMd) (hIm) H.size) (cwV 0 hts (lw_V q1902 q1903 q1904 q58 q1905) rfl rfl rfl (by decide +kernel) ⟨Nat.le_of_ble_eq_true rfl, Nat.le_of_ble_eq_true rfl⟩) (preV_of hKB hE hS hF (MdW.recv hK hMd (seg_at [[(o, .inl (G.2 5, 1, .inr (.inl of)))], [(oD, .inl (G.2 6, 1, .inr (.inr (.inr (.inl og)))))], WM, W2_4493] 2 rfl hP)) (P_left (P_perm hpm_4499 hP)) ((D_left (D_perm hpm_4499 hD)).weaken (fun _ _ _ _ => trivial)) trivial) rfl rfl hl.1 rfl (lv_room (Nat.le_of_ble_eq_true rfl)) dL_law_2328 ⟨show cl + (0 + 101) + 0 ≤ 1200144 from by first | decide | omega, show sl + (0 + 5800) + 0 ≤ 5495674 from by first | decide | omega⟩)
      (fun u_ H locs hq hph (hP : va_P G.1 CL (([(o, .inl (G.2 5, 1, .inr (.inl of))), (oD, .inl (G.2 6, 1, .inr (.inr (.inr (.inl og)))))] ++ (W2_4493 ++ [])) ++ (u_.2 ++ [])) H) (hD : va_D A (([(o, .inl (G.2 5, 1, .inr (.inl of))), (oD, .inl (G.2 6, 1, .inr (.inr (.inr (.inl og)))))] ++ (W2_4493 ++ [])) ++ (u_.2 ++ []))) hS hfz hfk => ?_)
  obtain ⟨rr_4500, W2_4501⟩ := u_
  obtain ⟨hq_4502, hq_4503⟩ : ((o_start (dC M)).1 = 0 → rr_4500 = (o_start (dC M)).2.1) ∧ MdW G m0 (if (o_start (dC M)).1 = 0 then (((o_start (dC M)).2.2, dS M, min 6 (dK M + 1), hsR (dH M) (dK M) (dC M), dL M, dN M) : DS) else M) (o_start (dC M)).1 W2_4501 := hq
  have hpm_4504 : (([(o, .inl (G.2 5, 1, .inr (.inl of))), (oD, .inl (G.2 6, 1, .inr (.inr (.inr (.inl og)))))] ++ (W2_4493 ++ [])) ++ (W2_4501 ++ []) : va_W).Perm ([(o, .inl (G.2 5, 1, .inr (.inl of))), (oD, .inl (G.2 6, 1, .inr (.inr (.inr (.inl og)))))] ++ (W2_4493 ++ (W2_4501 ++ []))) := segs_perm2 [[(o, .inl (G.2 5, 1, .inr (.inl of)))], [(oD, .inl (G.2 6, 1, .inr (.inr (.inr (.inl og)))))], W2_4493] [W2_4501] [0, 1, 2, 3] rfl
  have hP : va_P G.1 CL ([(o, .inl (G.2 5, 1, .inr (.inl of))), (oD, .inl (G.2 6, 1, .inr (.inr (.inr (.inl og)))))] ++ (W2_4493 ++ (W2_4501 ++ []))) H := P_perm hpm_4504 hP
  have hD : va_D A ([(o, .inl (G.2 5, 1, .inr (.inl of))), (oD, .inl (G.2 6, 1, .inr (.inr (.inr (.inl og)))))] ++ (W2_4493 ++ (W2_4501 ++ []))) := D_perm hpm_4504 hD
  refine W.eq (g2 := F0 m 2331 ls [.int rr_4500, .int (((o_start (dC C))).2.1)]) rfl ?_
  refine lv_toi (y := ((o_start (dC C))).2.1) ((hq_4502 (hqs.1.symm.trans hq_4494)).trans hqs.2.1.symm) ?_
  refine lv_icmp_eq (tgt := 2788) hx hb dL_law_2331 (by decide) (fun _ => ?_) (fun c9 => absurd rfl c9)
  have hpm_4505 : (([(o, .inl (G.2 5, 1, .inr (.inl of))), (oD, .inl (G.2 6, 1, .inr (.inr (.inr (.inl og)))))] ++ (W2_4493 ++ (W2_4501 ++ []))) : va_W).Perm (([(o, .inl (G.2 5, 1, .inr (.inl of))), (oD, .inl (G.2 6, 1, .inr (.inr (.inr (.inl og)))))] ++ (W2_4493 ++ (W2_4501 ++ []))) ++ []) := segs_perm [[(o, .inl (G.2 5, 1, .inr (.inl of)))], [(oD, .inl (G.2 6, 1, .inr (.inr (.inr (.inl og)))))], W2_4493, W2_4501] [0, 1, 2, 3] [] rfl
  have hP : va_P G.1 CL ([(o, .inl (G.2 5, 1, .inr (.inl of))), (oD, .inl (G.2 6, 1, .inr (.inr (.inr (.inl og)))))] ++ (W2_4493 ++ (W2_4501 ++ []))) H := P_left (P_perm hpm_4505 hP)
  have hD : va_D A ([(o, .inl (G.2 5, 1, .inr (.inl of))), (oD, .inl (G.2 6, 1, .inr (.inr (.inr (.inl og)))))] ++ (W2_4493 ++ (W2_4501 ++ []))) := D_left (D_perm hpm_4505 hD)
  have hl := lv_sub hl [0, 1, 2, 3, 4, 5] (l' := [(0, .ref b), (1, .ref d), (2, .ref m0), (3, .ref o), (4, .ref oD), (5, .int (nI i9))]) rfl
  exact W.widen (show cl + (0 + 101) ≤ cl + 20000 from by omega) (show sl + (0 + 5800) ≤ sl + 45000 from by omega) (kk ls H locs ((B2_4492, dS C, min 6 (dK C + 1), hsR (dH C) (dK C) (dC C), dL C, dN C) : DS) (if ((o_start (dC M))).1 = 0 then ((((o_start (dC M))).2.2, dS M, min 6 (dK M + 1), hsR (dH M) (dK M) (dC M), dL M, dN M) : DS) else M) (((o_start (dC M))).1) W2_4493 W2_4501 of og hP hD hS hl hq_4497 hq_4503 (hLw.mut hqs (NxS.yes hq_4494 hq_4496) (o_start_b (dC C) )))

set_option maxHeartbeats 4000000 in
theorem lawK_39 {p : Program} {l : Launch} {e : Env} {s : State} {m : MethodId} {below : List Frame} {meth : Method} {c : Code} {G : Gt} {A : Nat → Prop} {b L : Nat} {xs : Nat → Int32} {Q : State → Prop} {d m0 o oD i9 N cl sl : Nat} (hfl : l.stackTraces = false) (F : LwF G A p s m c b L xs) (hi9 : i9 + 4 ≤ L) (hN24 : N ≤ 24) (hcl : cl + 20000 ≤ 1200144) (hsl : sl + 45000 ≤ 5495674) (kk : ∀ (ls : Array Slot) (H : Heap) (locs : List Loc) (C M : DS) (th : Nat) (WD WM : va_W) (of : Nat → Int64) (og : Nat → UInt64), va_P G.1 CL ([(o, .inl (G.2 5, 1, .inr (.inl of))), (oD, .inl (G.2 6, 1, .inr (.inr (.inr (.inl og)))))] ++ (WD ++ (WM ++ []))) H → va_D A ([(o, .inl (G.2 5, 1, .inr (.inl of))), (oD, .inl (G.2 6, 1, .inr (.inr (.inr (.inl og)))))] ++ (WD ++ (WM ++ []))) → va_S A s.heap H locs → lv_has ls 10 [(0, .ref b), (1, .ref d), (2, .ref m0), (3, .ref o), (4, .ref oD), (5, .int (nI i9))] → DyW G d C WD → MdW G m0 M th WM → LawI C M (N + 1) → W p l e room_1 s m #[Value.ref b] below meth c H locs (cl + 20000) (sl + 45000) Q (F0 m 2788 ls [])) {ls : Array Slot} {H : Heap} {locs : List Loc} {C M : DS} {th : Nat} {WD WM : va_W} {of : Nat → Int64} {og : Nat → UInt64} (hP : va_P G.1 CL ([(o, .inl (G.2 5, 1, .inr (.inl of))), (oD, .inl (G.2 6, 1, .inr (.inr (.inr (.inl og)))))] ++ (WD ++ (WM ++ []))) H) (hD : va_D A ([(o, .inl (G.2 5, 1, .inr (.inl of))), (oD, .inl (G.2 6, 1, .inr (.inr (.inr (.inl og)))))] ++ (WD ++ (WM ++ [])))) (hS : va_S A s.heap H locs) (hl : lv_has ls 10 [(0, .ref b), (1, .ref d), (2, .ref m0), (3, .ref o), (4, .ref oD), (5, .int (nI i9))]) (hDy : DyW G d C WD) (hMd : MdW G m0 M th WM) (hLw : LawI C M N) : W p l e room_1 s m #[Value.ref b] below meth c H locs cl sl Q (F0 m 2336 ls []) := by
  obtain ⟨cf, hKB, hE, hA, hX9, hbl, hbA, hNc, hL96⟩ := F
  have hx := cf.1
  have hb := cf.2.1
  have hml := cf.2.2.1
  have hown : s.vm.findClass RX0 = some m.cls := cf.2.2.2.1
  have hts := cf.2.2.2.2
  have hK := hKB.1
  have hIc := hDy.inv.1
  have hIm : Inv (dC M) := Inv_sim hLw.1 hIc
  have hRk : RkOk (dC M) := RkOk_sim hLw.1 (RkOk_srt hDy.inv.2.2)
  have hl := hl
  refine lv_aload_n hx hb dL_law_2336 rfl (lv_at hl 1 rfl) ?_
  refine lv_aload_n hx hb dL_law_2337 rfl (lv_at hl 0 rfl) ?_
  refine lv_iload hx hb dL_law_2338 (lv_at hl 5 rfl) ?_
  refine lv_iconst (v := nI 1) hx hb dL_law_2340 (by decide) ?_
  refine lv_iadd hx hb dL_law_2341 ?_
  refine lv_ton (n := i9 + 1) (nadd (by omega)) ?_
  refine va_sld hx hb hX9 hbl hbA hS (i := nI (i9 + 1)) (vp9 (by omega) hL96) dL_law_2342 ?_
  refine W.eq (g2 := F0 m 2343 ls [.int (sx9 xs (i9 + 1)), .ref d]) rfl ?_
  refine lv_aload_n hx hb dL_law_2343 rfl (lv_at hl 3 rfl) ?_
  have hpm_4506 : (([(o, .inl (G.2 5, 1, .inr (.inl of))), (oD, .inl (G.2 6, 1, .inr (.inr (.inr (.inl og)))))] ++ (WD ++ (WM ++ []))) : va_W).Perm (([(o, .inl (G.2 5, 1, .inr (.inl of)))] ++ (WD ++ [])) ++ ([(oD, .inl (G.2 6, 1, .inr (.inr (.inr (.inl og)))))] ++ (WM ++ []))) := segs_perm [[(o, .inl (G.2 5, 1, .inr (.inl of)))], [(oD, .inl (G.2 6, 1, .inr (.inr (.inr (.inl og)))))], WD, WM] [0, 2] [1, 3] rfl
  have hF := hF_ofP (wc := ([(o, .inl (G.2 5, 1, .inr (.inl of)))] ++ (WD ++ []))) hD hS hA hpm_4506
  refine go_ctP hS hP hD hpm_4506 hF
      (vx_runSW (As := [.ref d, .int (sx9 xs (i9 + 1)), .ref o]) (rest := []) cf (wX0_addTarget l G d C WD o of (sx9 xs (i9 + 1)) (hDy) hfl H.size) (vx_cwSW 3 hts (lw_SW q1413 q1414 q46 q1415) rfl rfl rfl (by decide +kernel) ⟨Nat.le_of_ble_eq_true rfl, Nat.le_of_ble_eq_true rfl⟩) (preS_ofW hNc hKB hE hS hF (P_left (P_perm hpm_4506 hP)) ((D_left (D_perm hpm_4506 hD)).weaken (fun _ _ _ _ => trivial)) trivial) rfl rfl hl.1 rfl (lv_room (Nat.le_of_ble_eq_true rfl)) dL_law_2344 ⟨show cl + (1 + 101) ≤ 1200144 from by first | decide | omega, show sl + (6 + 5800) ≤ 5495674 from by first | decide | omega⟩)
      (fun u_ H locs hq hph (hP : va_P G.1 CL (([(oD, .inl (G.2 6, 1, .inr (.inr (.inr (.inl og)))))] ++ (WM ++ [])) ++ ([(o, .inl (G.2 5, 1, .inr (.inl u_.1)))] ++ (u_.2.2 ++ []))) H) (hD : va_D A (([(oD, .inl (G.2 6, 1, .inr (.inr (.inr (.inl og)))))] ++ (WM ++ [])) ++ ([(o, .inl (G.2 5, 1, .inr (.inl u_.1)))] ++ (u_.2.2 ++ [])))) hS hfz hfk => ?_)
  obtain ⟨of2_4507, S2_4508, W2_4509⟩ := u_
  obtain ⟨hq_4510, hq_4511, hq_4512, hq_4513⟩ : ((o_addTarget (dC C) (sx9 xs (i9 + 1))).1 = 0 → of2_4507 0 = ((o_addTarget (dC C) (sx9 xs (i9 + 1))).2.1).toInt64) ∧ NxS C (o_addTarget (dC C) (sx9 xs (i9 + 1))) S2_4508 ∧ (o_addTarget (dC C) (sx9 xs (i9 + 1))).1 < 10 ∧ DyW G d S2_4508 W2_4509 := hq
  have hpm_4514 : (([(oD, .inl (G.2 6, 1, .inr (.inr (.inr (.inl og)))))] ++ (WM ++ [])) ++ ([(o, .inl (G.2 5, 1, .inr (.inl of2_4507)))] ++ (W2_4509 ++ [])) : va_W).Perm ([(oD, .inl (G.2 6, 1, .inr (.inr (.inr (.inl og))))), (o, .inl (G.2 5, 1, .inr (.inl of2_4507)))] ++ (WM ++ (W2_4509 ++ []))) := segs_perm2 [[(oD, .inl (G.2 6, 1, .inr (.inr (.inr (.inl og)))))], WM] [[(o, .inl (G.2 5, 1, .inr (.inl of2_4507)))], W2_4509] [0, 2, 1, 3] rfl
  have hP : va_P G.1 CL ([(oD, .inl (G.2 6, 1, .inr (.inr (.inr (.inl og))))), (o, .inl (G.2 5, 1, .inr (.inl of2_4507)))] ++ (WM ++ (W2_4509 ++ []))) H := P_perm hpm_4514 hP
  have hD : va_D A ([(oD, .inl (G.2 6, 1, .inr (.inr (.inr (.inl og))))), (o, .inl (G.2 5, 1, .inr (.inl of2_4507)))] ++ (WM ++ (W2_4509 ++ []))) := D_perm hpm_4514 hD
  refine W.eq (g2 := F0 m 2347 ls [.int (nI ((o_addTarget (dC C) (sx9 xs (i9 + 1))).1))]) rfl ?_
  have hqs : SimR (o_addTarget (dC C) (sx9 xs (i9 + 1))) (o_addTarget (dC M) (sx9 xs (i9 + 1))) := o_addTarget_sim hLw.1 hIc (sx9 xs (i9 + 1))
  refine lv_istore (lv' := [(6, .int (nI ((o_addTarget (dC C) (sx9 xs (i9 + 1))).1))), (0, .ref b), (1, .ref d), (2, .ref m0), (3, .ref o), (4, .ref oD), (5, .int (nI i9))]) hx hb dL_law_2347 hl (by decide) rfl (fun ls hl => ?_)
  refine lv_aload_n hx hb dL_law_2349 rfl (lv_at hl 3 rfl) ?_
  refine lv_aload_n hx hb dL_law_2350 rfl (lv_at hl 1 rfl) ?_
  refine lv_iload hx hb dL_law_2351 (lv_at hl 6 rfl) ?_
  refine lv_iconst (v := nI 1) hx hb dL_law_2353 (by decide) ?_
  refine lv_iadd hx hb dL_law_2354 ?_
  refine lv_ton (n := i9 + 1) (nadd (by omega)) ?_
  refine va_sld hx hb hX9 hbl hbA hS (i := nI (i9 + 1)) (vp9 (by omega) hL96) dL_law_2355 ?_
  refine W.eq (g2 := F0 m 2356 ls [.int (sx9 xs (i9 + 1)), .ref m0]) rfl ?_
  have hpm_4515 : (([(oD, .inl (G.2 6, 1, .inr (.inr (.inr (.inl og))))), (o, .inl (G.2 5, 1, .inr (.inl of2_4507)))] ++ (WM ++ (W2_4509 ++ []))) : va_W).Perm ((WM ++ []) ++ ([(oD, .inl (G.2 6, 1, .inr (.inr (.inr (.inl og))))), (o, .inl (G.2 5, 1, .inr (.inl of2_4507)))] ++ (W2_4509 ++ []))) := segs_perm [[(oD, .inl (G.2 6, 1, .inr (.inr (.inr (.inl og)))))], [(o, .inl (G.2 5, 1, .inr (.inl of2_4507)))], WM, W2_4509] [2] [0, 1, 3] rfl
  have hF := hF_ofP (wc := (WM ++ [])) hD hS hA hpm_4515
  refine go_ctP hS hP hD hpm_4515 hF
      (va_runV (As := [.int (sx9 xs (i9 + 1))]) (rest := []) cf (eX4_addTarget l G m0 M th WM (sx9 xs (i9 + 1)) (hMd) (hIm) H.size) (cwV 1 hts (lw_V q1906 q1907 q1908 q58 q1909) rfl rfl rfl (by decide +kernel) ⟨Nat.le_of_ble_eq_true rfl, Nat.le_of_ble_eq_true rfl⟩) (preV_of hKB hE hS hF (MdW.recv hK hMd (seg_at [[(oD, .inl (G.2 6, 1, .inr (.inr (.inr (.inl og)))))], [(o, .inl (G.2 5, 1, .inr (.inl of2_4507)))], WM, W2_4509] 2 rfl hP)) (P_left (P_perm hpm_4515 hP)) ((D_left (D_perm hpm_4515 hD)).weaken (fun _ _ _ _ => trivial)) trivial) rfl rfl hl.1 rfl (lv_room (Nat.le_of_ble_eq_true rfl)) dL_law_2356 ⟨show cl + (1 + 101) + 0 ≤ 1200144 from by first | decide | omega, show sl + (6 + 5800) + 0 ≤ 5495674 from by first | decide | omega⟩)
      (fun u_ H locs hq hph (hP : va_P G.1 CL (([(oD, .inl (G.2 6, 1, .inr (.inr (.inr (.inl og))))), (o, .inl (G.2 5, 1, .inr (.inl of2_4507)))] ++ (W2_4509 ++ [])) ++ (u_.2 ++ [])) H) (hD : va_D A (([(oD, .inl (G.2 6, 1, .inr (.inr (.inr (.inl og))))), (o, .inl (G.2 5, 1, .inr (.inl of2_4507)))] ++ (W2_4509 ++ [])) ++ (u_.2 ++ []))) hS hfz hfk => ?_)
  obtain ⟨rr_4516, W2_4517⟩ := u_
  obtain ⟨hq_4518, hq_4519⟩ : ((o_addTarget (dC M) (sx9 xs (i9 + 1))).1 = 0 → rr_4516 = (o_addTarget (dC M) (sx9 xs (i9 + 1))).2.1) ∧ MdW G m0 (if (o_addTarget (dC M) (sx9 xs (i9 + 1))).1 = 0 then (((o_addTarget (dC M) (sx9 xs (i9 + 1))).2.2, dS M, min 6 (dK M + 1), hsR (dH M) (dK M) (dC M), dL M, dN M) : DS) else M) (o_addTarget (dC M) (sx9 xs (i9 + 1))).1 W2_4517 := hq
  have hpm_4520 : (([(oD, .inl (G.2 6, 1, .inr (.inr (.inr (.inl og))))), (o, .inl (G.2 5, 1, .inr (.inl of2_4507)))] ++ (W2_4509 ++ [])) ++ (W2_4517 ++ []) : va_W).Perm ([(oD, .inl (G.2 6, 1, .inr (.inr (.inr (.inl og))))), (o, .inl (G.2 5, 1, .inr (.inl of2_4507)))] ++ (W2_4509 ++ (W2_4517 ++ []))) := segs_perm2 [[(oD, .inl (G.2 6, 1, .inr (.inr (.inr (.inl og)))))], [(o, .inl (G.2 5, 1, .inr (.inl of2_4507)))], W2_4509] [W2_4517] [0, 1, 2, 3] rfl
  have hP : va_P G.1 CL ([(oD, .inl (G.2 6, 1, .inr (.inr (.inr (.inl og))))), (o, .inl (G.2 5, 1, .inr (.inl of2_4507)))] ++ (W2_4509 ++ (W2_4517 ++ []))) H := P_perm hpm_4520 hP
  have hD : va_D A ([(oD, .inl (G.2 6, 1, .inr (.inr (.inr (.inl og))))), (o, .inl (G.2 5, 1, .inr (.inl of2_4507)))] ++ (W2_4509 ++ (W2_4517 ++ []))) := D_perm hpm_4520 hD
  refine W.eq (g2 := F0 m 2359 ls [.int rr_4516]) rfl ?_
  refine lv_istore (lv' := [(7, .int rr_4516), (6, .int (nI ((o_addTarget (dC C) (sx9 xs (i9 + 1))).1))), (0, .ref b), (1, .ref d), (2, .ref m0), (3, .ref o), (4, .ref oD), (5, .int (nI i9))]) hx hb dL_law_2359 hl (by decide) rfl (fun ls hl => ?_)
  refine lv_aload_n hx hb dL_law_2361 rfl (lv_at hl 4 rfl) ?_
  have hpm_4521 : (([(oD, .inl (G.2 6, 1, .inr (.inr (.inr (.inl og))))), (o, .inl (G.2 5, 1, .inr (.inl of2_4507)))] ++ (W2_4509 ++ (W2_4517 ++ []))) : va_W).Perm ([] ++ ([(oD, .inl (G.2 6, 1, .inr (.inr (.inr (.inl og))))), (o, .inl (G.2 5, 1, .inr (.inl of2_4507)))] ++ (W2_4509 ++ (W2_4517 ++ [])))) := segs_perm [[(oD, .inl (G.2 6, 1, .inr (.inr (.inr (.inl og)))))], [(o, .inl (G.2 5, 1, .inr (.inl of2_4507)))], W2_4509, W2_4517] [] [0, 1, 2, 3] rfl
  have hF := hF_ofP (wc := []) hD hS hA hpm_4521
  refine go_ctP hS hP hD hpm_4521 hF
      (va_runV (As := []) (rest := []) cf (eX4_thrown l G m0 (if ((o_addTarget (dC M) (sx9 xs (i9 + 1)))).1 = 0 then ((((o_addTarget (dC M) (sx9 xs (i9 + 1)))).2.2, dS M, min 6 (dK M + 1), hsR (dH M) (dK M) (dC M), dL M, dN M) : DS) else M) (((o_addTarget (dC M) (sx9 xs (i9 + 1)))).1) W2_4517 (hq_4519) H.size) (cwV 0 hts (lw_V q1639 q1640 q1641 q58 q1642) rfl rfl rfl (by decide +kernel) ⟨Nat.le_of_ble_eq_true rfl, Nat.le_of_ble_eq_true rfl⟩) (preV_of hKB hE hS hF (MdW.recv hK hq_4519 (seg_at [[(oD, .inl (G.2 6, 1, .inr (.inr (.inr (.inl og)))))], [(o, .inl (G.2 5, 1, .inr (.inl of2_4507)))], W2_4509, W2_4517] 3 rfl hP)) (P_left (P_perm hpm_4521 hP)) ((D_left (D_perm hpm_4521 hD)).weaken (fun _ _ _ _ => trivial)) (roW.nil (seg_at [[(oD, .inl (G.2 6, 1, .inr (.inr (.inr (.inl og)))))], [(o, .inl (G.2 5, 1, .inr (.inl of2_4507)))], W2_4509, W2_4517] 3 rfl hP))) rfl rfl hl.1 rfl (lv_room (Nat.le_of_ble_eq_true rfl)) dL_law_2362 ⟨show cl + (1 + 101) + 0 ≤ 1200144 from by first | decide | omega, show sl + (6 + 5800) + 0 ≤ 5495674 from by first | decide | omega⟩)
      (fun u_ H locs hq hph (hP : va_P G.1 CL (([(oD, .inl (G.2 6, 1, .inr (.inr (.inr (.inl og))))), (o, .inl (G.2 5, 1, .inr (.inl of2_4507)))] ++ (W2_4509 ++ (W2_4517 ++ []))) ++ []) H) (hD : va_D A (([(oD, .inl (G.2 6, 1, .inr (.inr (.inr (.inl og))))), (o, .inl (G.2 5, 1, .inr (.inl of2_4507)))] ++ (W2_4509 ++ (W2_4517 ++ []))) ++ [])) hS hfz hfk => ?_)
  have hpm_4522 : (([(oD, .inl (G.2 6, 1, .inr (.inr (.inr (.inl og))))), (o, .inl (G.2 5, 1, .inr (.inl of2_4507)))] ++ (W2_4509 ++ (W2_4517 ++ []))) ++ [] : va_W).Perm ([(oD, .inl (G.2 6, 1, .inr (.inr (.inr (.inl og))))), (o, .inl (G.2 5, 1, .inr (.inl of2_4507)))] ++ (W2_4509 ++ (W2_4517 ++ []))) := segs_perm2 [[(oD, .inl (G.2 6, 1, .inr (.inr (.inr (.inl og)))))], [(o, .inl (G.2 5, 1, .inr (.inl of2_4507)))], W2_4509, W2_4517] [] [0, 1, 2, 3] rfl
  have hP : va_P G.1 CL ([(oD, .inl (G.2 6, 1, .inr (.inr (.inr (.inl og))))), (o, .inl (G.2 5, 1, .inr (.inl of2_4507)))] ++ (W2_4509 ++ (W2_4517 ++ []))) H := P_perm hpm_4522 hP
  have hD : va_D A ([(oD, .inl (G.2 6, 1, .inr (.inr (.inr (.inl og))))), (o, .inl (G.2 5, 1, .inr (.inl of2_4507)))] ++ (W2_4509 ++ (W2_4517 ++ []))) := D_perm hpm_4522 hD
  refine W.eq (g2 := F0 m 2365 ls [.int (nI (((o_addTarget (dC M) (sx9 xs (i9 + 1)))).1))]) rfl ?_
  refine lv_ton (n := ((o_addTarget (dC C) (sx9 xs (i9 + 1))).1)) (congrArg nI hqs.1.symm) ?_
  refine lv_iload hx hb dL_law_2365 (lv_at hl 1 rfl) ?_
  refine lv_icmp_eq (tgt := 2372) hx hb dL_law_2367 (by decide) (fun _ => ?_) (fun c9 => absurd rfl c9)
  refine lv_iload hx hb dL_law_2372 (lv_at hl 1 rfl) ?_
  refine n_if_ne (tgt := 2389) hx hb (by omega) dL_law_2374 (by decide) (fun c_4523 => ?_) (fun c_4523 => ?_)
  · refine lv_goto (tgt := 2788) hx hb dL_law_2389 (by decide) ?_
    have hpm_4524 : (([(oD, .inl (G.2 6, 1, .inr (.inr (.inr (.inl og))))), (o, .inl (G.2 5, 1, .inr (.inl of2_4507)))] ++ (W2_4509 ++ (W2_4517 ++ []))) : va_W).Perm (([(o, .inl (G.2 5, 1, .inr (.inl of2_4507))), (oD, .inl (G.2 6, 1, .inr (.inr (.inr (.inl og)))))] ++ (W2_4509 ++ (W2_4517 ++ []))) ++ []) := segs_perm [[(oD, .inl (G.2 6, 1, .inr (.inr (.inr (.inl og)))))], [(o, .inl (G.2 5, 1, .inr (.inl of2_4507)))], W2_4509, W2_4517] [1, 0, 2, 3] [] rfl
    have hP : va_P G.1 CL ([(o, .inl (G.2 5, 1, .inr (.inl of2_4507))), (oD, .inl (G.2 6, 1, .inr (.inr (.inr (.inl og)))))] ++ (W2_4509 ++ (W2_4517 ++ []))) H := P_left (P_perm hpm_4524 hP)
    have hD : va_D A ([(o, .inl (G.2 5, 1, .inr (.inl of2_4507))), (oD, .inl (G.2 6, 1, .inr (.inr (.inr (.inl og)))))] ++ (W2_4509 ++ (W2_4517 ++ []))) := D_left (D_perm hpm_4524 hD)
    have hl := lv_sub hl [2, 3, 4, 5, 6, 7] (l' := [(0, .ref b), (1, .ref d), (2, .ref m0), (3, .ref o), (4, .ref oD), (5, .int (nI i9))]) rfl
    exact W.widen (show cl + (1 + 101) ≤ cl + 20000 from by omega) (show sl + (6 + 5800) ≤ sl + 45000 from by omega) (kk ls H locs S2_4508 (if ((o_addTarget (dC M) (sx9 xs (i9 + 1)))).1 = 0 then ((((o_addTarget (dC M) (sx9 xs (i9 + 1)))).2.2, dS M, min 6 (dK M + 1), hsR (dH M) (dK M) (dC M), dL M, dN M) : DS) else M) (((o_addTarget (dC M) (sx9 xs (i9 + 1)))).1) W2_4509 W2_4517 of2_4507 og hP hD hS hl hq_4513 hq_4519 (hLw.mut hqs hq_4511 (o_addTarget_b (dC C) (sx9 xs (i9 + 1)))))
  · refine lv_aload_n hx hb dL_law_2377 rfl (lv_at hl 5 rfl) ?_
    refine lv_iconst (v := nI 0) hx hb dL_law_2378 (by decide) ?_
    refine r_lald (v := (((o_addTarget (dC C) (sx9 xs (i9 + 1)))).2.1).toInt64) hx hb hK hP 1 5 rfl rfl (i := 0) (by omega) (by omega) ((hq_4510 (by omega))) dL_law_2379 ?_
    refine lv_iload hx hb dL_law_2380 (lv_at hl 0 rfl) ?_
    refine lv_toi (y := ((o_addTarget (dC C) (sx9 xs (i9 + 1)))).2.1) ((hq_4518 (hqs.1.symm.trans (by omega))).trans hqs.2.1.symm) ?_
    refine lv_i2l (v := (((o_addTarget (dC C) (sx9 xs (i9 + 1)))).2.1).toInt64) hx hb dL_law_2382 rfl ?_
    refine W.lcmp hx hb dL_law_2383 ?_
    refine lv_ton (n := 0) (lcmp0 _) ?_
    refine n_if_eq (tgt := 2389) hx hb (by omega) dL_law_2384 (by decide) (fun c_4525 => ?_) (fun c_4525 => absurd c_4525 (by omega))
    refine lv_goto (tgt := 2788) hx hb dL_law_2389 (by decide) ?_
    have hpm_4526 : (([(oD, .inl (G.2 6, 1, .inr (.inr (.inr (.inl og))))), (o, .inl (G.2 5, 1, .inr (.inl of2_4507)))] ++ (W2_4509 ++ (W2_4517 ++ []))) : va_W).Perm (([(o, .inl (G.2 5, 1, .inr (.inl of2_4507))), (oD, .inl (G.2 6, 1, .inr (.inr (.inr (.inl og)))))] ++ (W2_4509 ++ (W2_4517 ++ []))) ++ []) := segs_perm [[(oD, .inl (G.2 6, 1, .inr (.inr (.inr (.inl og)))))], [(o, .inl (G.2 5, 1, .inr (.inl of2_4507)))], W2_4509, W2_4517] [1, 0, 2, 3] [] rfl
    have hP : va_P G.1 CL ([(o, .inl (G.2 5, 1, .inr (.inl of2_4507))), (oD, .inl (G.2 6, 1, .inr (.inr (.inr (.inl og)))))] ++ (W2_4509 ++ (W2_4517 ++ []))) H := P_left (P_perm hpm_4526 hP)
    have hD : va_D A ([(o, .inl (G.2 5, 1, .inr (.inl of2_4507))), (oD, .inl (G.2 6, 1, .inr (.inr (.inr (.inl og)))))] ++ (W2_4509 ++ (W2_4517 ++ []))) := D_left (D_perm hpm_4526 hD)
    have hl := lv_sub hl [2, 3, 4, 5, 6, 7] (l' := [(0, .ref b), (1, .ref d), (2, .ref m0), (3, .ref o), (4, .ref oD), (5, .int (nI i9))]) rfl
    exact W.widen (show cl + (1 + 101) ≤ cl + 20000 from by omega) (show sl + (6 + 5800) ≤ sl + 45000 from by omega) (kk ls H locs S2_4508 (if ((o_addTarget (dC M) (sx9 xs (i9 + 1)))).1 = 0 then ((((o_addTarget (dC M) (sx9 xs (i9 + 1)))).2.2, dS M, min 6 (dK M + 1), hsR (dH M) (dK M) (dC M), dL M, dN M) : DS) else M) (((o_addTarget (dC M) (sx9 xs (i9 + 1)))).1) W2_4509 W2_4517 of2_4507 og hP hD hS hl hq_4513 hq_4519 (hLw.mut hqs hq_4511 (o_addTarget_b (dC C) (sx9 xs (i9 + 1)))))

set_option maxHeartbeats 4000000 in
theorem lawK_40 {p : Program} {l : Launch} {e : Env} {s : State} {m : MethodId} {below : List Frame} {meth : Method} {c : Code} {G : Gt} {A : Nat → Prop} {b L : Nat} {xs : Nat → Int32} {Q : State → Prop} {d m0 o oD i9 N cl sl : Nat} (hfl : l.stackTraces = false) (F : LwF G A p s m c b L xs) (hi9 : i9 + 4 ≤ L) (hN24 : N ≤ 24) (hcl : cl + 20000 ≤ 1200144) (hsl : sl + 45000 ≤ 5495674) (kk : ∀ (ls : Array Slot) (H : Heap) (locs : List Loc) (C M : DS) (th : Nat) (WD WM : va_W) (of : Nat → Int64) (og : Nat → UInt64), va_P G.1 CL ([(o, .inl (G.2 5, 1, .inr (.inl of))), (oD, .inl (G.2 6, 1, .inr (.inr (.inr (.inl og)))))] ++ (WD ++ (WM ++ []))) H → va_D A ([(o, .inl (G.2 5, 1, .inr (.inl of))), (oD, .inl (G.2 6, 1, .inr (.inr (.inr (.inl og)))))] ++ (WD ++ (WM ++ []))) → va_S A s.heap H locs → lv_has ls 10 [(0, .ref b), (1, .ref d), (2, .ref m0), (3, .ref o), (4, .ref oD), (5, .int (nI i9))] → DyW G d C WD → MdW G m0 M th WM → LawI C M (N + 1) → W p l e room_1 s m #[Value.ref b] below meth c H locs (cl + 20000) (sl + 45000) Q (F0 m 2788 ls [])) {ls : Array Slot} {H : Heap} {locs : List Loc} {C M : DS} {th : Nat} {WD WM : va_W} {of : Nat → Int64} {og : Nat → UInt64} (hP : va_P G.1 CL ([(o, .inl (G.2 5, 1, .inr (.inl of))), (oD, .inl (G.2 6, 1, .inr (.inr (.inr (.inl og)))))] ++ (WD ++ (WM ++ []))) H) (hD : va_D A ([(o, .inl (G.2 5, 1, .inr (.inl of))), (oD, .inl (G.2 6, 1, .inr (.inr (.inr (.inl og)))))] ++ (WD ++ (WM ++ [])))) (hS : va_S A s.heap H locs) (hl : lv_has ls 10 [(0, .ref b), (1, .ref d), (2, .ref m0), (3, .ref o), (4, .ref oD), (5, .int (nI i9))]) (hDy : DyW G d C WD) (hMd : MdW G m0 M th WM) (hLw : LawI C M N) : W p l e room_1 s m #[Value.ref b] below meth c H locs cl sl Q (F0 m 2392 ls []) := by
  obtain ⟨cf, hKB, hE, hA, hX9, hbl, hbA, hNc, hL96⟩ := F
  have hx := cf.1
  have hb := cf.2.1
  have hml := cf.2.2.1
  have hown : s.vm.findClass RX0 = some m.cls := cf.2.2.2.1
  have hts := cf.2.2.2.2
  have hK := hKB.1
  have hIc := hDy.inv.1
  have hIm : Inv (dC M) := Inv_sim hLw.1 hIc
  have hRk : RkOk (dC M) := RkOk_sim hLw.1 (RkOk_srt hDy.inv.2.2)
  have hl := hl
  refine lv_aload_n hx hb dL_law_2392 rfl (lv_at hl 1 rfl) ?_
  refine lv_aload_n hx hb dL_law_2393 rfl (lv_at hl 0 rfl) ?_
  refine lv_iload hx hb dL_law_2394 (lv_at hl 5 rfl) ?_
  refine lv_iconst (v := nI 1) hx hb dL_law_2396 (by decide) ?_
  refine lv_iadd hx hb dL_law_2397 ?_
  refine lv_ton (n := i9 + 1) (nadd (by omega)) ?_
  refine va_sld hx hb hX9 hbl hbA hS (i := nI (i9 + 1)) (vp9 (by omega) hL96) dL_law_2398 ?_
  refine W.eq (g2 := F0 m 2399 ls [.int (sx9 xs (i9 + 1)), .ref d]) rfl ?_
  refine lv_aload_n hx hb dL_law_2399 rfl (lv_at hl 3 rfl) ?_
  have hpm_4527 : (([(o, .inl (G.2 5, 1, .inr (.inl of))), (oD, .inl (G.2 6, 1, .inr (.inr (.inr (.inl og)))))] ++ (WD ++ (WM ++ []))) : va_W).Perm (([(o, .inl (G.2 5, 1, .inr (.inl of)))] ++ (WD ++ [])) ++ ([(oD, .inl (G.2 6, 1, .inr (.inr (.inr (.inl og)))))] ++ (WM ++ []))) := segs_perm [[(o, .inl (G.2 5, 1, .inr (.inl of)))], [(oD, .inl (G.2 6, 1, .inr (.inr (.inr (.inl og)))))], WD, WM] [0, 2] [1, 3] rfl
  have hF := hF_ofP (wc := ([(o, .inl (G.2 5, 1, .inr (.inl of)))] ++ (WD ++ []))) hD hS hA hpm_4527
  refine go_ctP hS hP hD hpm_4527 hF
      (vx_runSW (As := [.ref d, .int (sx9 xs (i9 + 1)), .ref o]) (rest := []) cf (wX0_targetAt l G d C WD o of (sx9 xs (i9 + 1)) (hDy) hfl H.size) (vx_cwSW 3 hts (lw_SW q1424 q1425 q46 q1426) rfl rfl rfl (by decide +kernel) ⟨Nat.le_of_ble_eq_true rfl, Nat.le_of_ble_eq_true rfl⟩) (preS_ofW hNc hKB hE hS hF (P_left (P_perm hpm_4527 hP)) ((D_left (D_perm hpm_4527 hD)).weaken (fun _ _ _ _ => trivial)) trivial) rfl rfl hl.1 rfl (lv_room (Nat.le_of_ble_eq_true rfl)) dL_law_2400 ⟨show cl + 2 ≤ 1200144 from by first | decide | omega, show sl + 8 ≤ 5495674 from by first | decide | omega⟩)
      (fun u_ H locs hq hph (hP : va_P G.1 CL (([(oD, .inl (G.2 6, 1, .inr (.inr (.inr (.inl og)))))] ++ (WM ++ [])) ++ ([(o, .inl (G.2 5, 1, .inr (.inl u_.1)))] ++ (u_.2 ++ []))) H) (hD : va_D A (([(oD, .inl (G.2 6, 1, .inr (.inr (.inr (.inl og)))))] ++ (WM ++ [])) ++ ([(o, .inl (G.2 5, 1, .inr (.inl u_.1)))] ++ (u_.2 ++ [])))) hS hfz hfk => ?_)
  obtain ⟨of2_4528, W2_4529⟩ := u_
  obtain ⟨hq_4530, hq_4531, hq_4532⟩ : ((q_target (dC C) (sx9 xs (i9 + 1))).1 = 0 → of2_4528 0 = ((q_target (dC C) (sx9 xs (i9 + 1))).2).toInt64) ∧ (q_target (dC C) (sx9 xs (i9 + 1))).1 < 10 ∧ DyW G d C W2_4529 := hq
  have hpm_4533 : (([(oD, .inl (G.2 6, 1, .inr (.inr (.inr (.inl og)))))] ++ (WM ++ [])) ++ ([(o, .inl (G.2 5, 1, .inr (.inl of2_4528)))] ++ (W2_4529 ++ [])) : va_W).Perm ([(oD, .inl (G.2 6, 1, .inr (.inr (.inr (.inl og))))), (o, .inl (G.2 5, 1, .inr (.inl of2_4528)))] ++ (WM ++ (W2_4529 ++ []))) := segs_perm2 [[(oD, .inl (G.2 6, 1, .inr (.inr (.inr (.inl og)))))], WM] [[(o, .inl (G.2 5, 1, .inr (.inl of2_4528)))], W2_4529] [0, 2, 1, 3] rfl
  have hP : va_P G.1 CL ([(oD, .inl (G.2 6, 1, .inr (.inr (.inr (.inl og))))), (o, .inl (G.2 5, 1, .inr (.inl of2_4528)))] ++ (WM ++ (W2_4529 ++ []))) H := P_perm hpm_4533 hP
  have hD : va_D A ([(oD, .inl (G.2 6, 1, .inr (.inr (.inr (.inl og))))), (o, .inl (G.2 5, 1, .inr (.inl of2_4528)))] ++ (WM ++ (W2_4529 ++ []))) := D_perm hpm_4533 hD
  refine W.eq (g2 := F0 m 2403 ls [.int (nI ((q_target (dC C) (sx9 xs (i9 + 1))).1))]) rfl ?_
  have hqs : (q_target (dC M) (sx9 xs (i9 + 1))) = (q_target (dC C) (sx9 xs (i9 + 1))) := q_target_sim hLw.1.symm hIm (sx9 xs (i9 + 1))
  refine lv_istore (lv' := [(6, .int (nI ((q_target (dC C) (sx9 xs (i9 + 1))).1))), (0, .ref b), (1, .ref d), (2, .ref m0), (3, .ref o), (4, .ref oD), (5, .int (nI i9))]) hx hb dL_law_2403 hl (by decide) rfl (fun ls hl => ?_)
  refine lv_aload_n hx hb dL_law_2405 rfl (lv_at hl 3 rfl) ?_
  refine lv_aload_n hx hb dL_law_2406 rfl (lv_at hl 1 rfl) ?_
  refine lv_iload hx hb dL_law_2407 (lv_at hl 6 rfl) ?_
  refine lv_iconst (v := nI 1) hx hb dL_law_2409 (by decide) ?_
  refine lv_iadd hx hb dL_law_2410 ?_
  refine lv_ton (n := i9 + 1) (nadd (by omega)) ?_
  refine va_sld hx hb hX9 hbl hbA hS (i := nI (i9 + 1)) (vp9 (by omega) hL96) dL_law_2411 ?_
  refine W.eq (g2 := F0 m 2412 ls [.int (sx9 xs (i9 + 1)), .ref m0]) rfl ?_
  have hpm_4534 : (([(oD, .inl (G.2 6, 1, .inr (.inr (.inr (.inl og))))), (o, .inl (G.2 5, 1, .inr (.inl of2_4528)))] ++ (WM ++ (W2_4529 ++ []))) : va_W).Perm ((WM ++ []) ++ ([(oD, .inl (G.2 6, 1, .inr (.inr (.inr (.inl og))))), (o, .inl (G.2 5, 1, .inr (.inl of2_4528)))] ++ (W2_4529 ++ []))) := segs_perm [[(oD, .inl (G.2 6, 1, .inr (.inr (.inr (.inl og)))))], [(o, .inl (G.2 5, 1, .inr (.inl of2_4528)))], WM, W2_4529] [2] [0, 1, 3] rfl
  have hF := hF_ofP (wc := (WM ++ [])) hD hS hA hpm_4534
  refine go_ctP hS hP hD hpm_4534 hF
      (va_runV (As := [.int (sx9 xs (i9 + 1))]) (rest := []) cf (eX4_targetAt l G m0 M th WM (sx9 xs (i9 + 1)) (hMd) (hIm) H.size) (cwV 1 hts (lw_V q1910 q1911 q1912 q58 q1913) rfl rfl rfl (by decide +kernel) ⟨Nat.le_of_ble_eq_true rfl, Nat.le_of_ble_eq_true rfl⟩) (preV_of hKB hE hS hF (MdW.recv hK hMd (seg_at [[(oD, .inl (G.2 6, 1, .inr (.inr (.inr (.inl og)))))], [(o, .inl (G.2 5, 1, .inr (.inl of2_4528)))], WM, W2_4529] 2 rfl hP)) (P_left (P_perm hpm_4534 hP)) ((D_left (D_perm hpm_4534 hD)).weaken (fun _ _ _ _ => trivial)) trivial) rfl rfl hl.1 rfl (lv_room (Nat.le_of_ble_eq_true rfl)) dL_law_2412 ⟨show cl + 2 + 0 ≤ 1200144 from by first | decide | omega, show sl + 8 + 0 ≤ 5495674 from by first | decide | omega⟩)
      (fun u_ H locs hq hph (hP : va_P G.1 CL (([(oD, .inl (G.2 6, 1, .inr (.inr (.inr (.inl og))))), (o, .inl (G.2 5, 1, .inr (.inl of2_4528)))] ++ (W2_4529 ++ [])) ++ (u_.2 ++ [])) H) (hD : va_D A (([(oD, .inl (G.2 6, 1, .inr (.inr (.inr (.inl og))))), (o, .inl (G.2 5, 1, .inr (.inl of2_4528)))] ++ (W2_4529 ++ [])) ++ (u_.2 ++ []))) hS hfz hfk => ?_)
  obtain ⟨rr_4535, W2_4536⟩ := u_
  obtain ⟨hq_4537, hq_4538⟩ : ((q_target (dC M) (sx9 xs (i9 + 1))).1 = 0 → rr_4535 = (q_target (dC M) (sx9 xs (i9 + 1))).2) ∧ MdW G m0 M (q_target (dC M) (sx9 xs (i9 + 1))).1 W2_4536 := hq
  have hpm_4539 : (([(oD, .inl (G.2 6, 1, .inr (.inr (.inr (.inl og))))), (o, .inl (G.2 5, 1, .inr (.inl of2_4528)))] ++ (W2_4529 ++ [])) ++ (W2_4536 ++ []) : va_W).Perm ([(oD, .inl (G.2 6, 1, .inr (.inr (.inr (.inl og))))), (o, .inl (G.2 5, 1, .inr (.inl of2_4528)))] ++ (W2_4529 ++ (W2_4536 ++ []))) := segs_perm2 [[(oD, .inl (G.2 6, 1, .inr (.inr (.inr (.inl og)))))], [(o, .inl (G.2 5, 1, .inr (.inl of2_4528)))], W2_4529] [W2_4536] [0, 1, 2, 3] rfl
  have hP : va_P G.1 CL ([(oD, .inl (G.2 6, 1, .inr (.inr (.inr (.inl og))))), (o, .inl (G.2 5, 1, .inr (.inl of2_4528)))] ++ (W2_4529 ++ (W2_4536 ++ []))) H := P_perm hpm_4539 hP
  have hD : va_D A ([(oD, .inl (G.2 6, 1, .inr (.inr (.inr (.inl og))))), (o, .inl (G.2 5, 1, .inr (.inl of2_4528)))] ++ (W2_4529 ++ (W2_4536 ++ []))) := D_perm hpm_4539 hD
  refine W.eq (g2 := F0 m 2415 ls [.int rr_4535]) rfl ?_
  refine lv_istore (lv' := [(7, .int rr_4535), (6, .int (nI ((q_target (dC C) (sx9 xs (i9 + 1))).1))), (0, .ref b), (1, .ref d), (2, .ref m0), (3, .ref o), (4, .ref oD), (5, .int (nI i9))]) hx hb dL_law_2415 hl (by decide) rfl (fun ls hl => ?_)
  refine lv_aload_n hx hb dL_law_2417 rfl (lv_at hl 4 rfl) ?_
  have hpm_4540 : (([(oD, .inl (G.2 6, 1, .inr (.inr (.inr (.inl og))))), (o, .inl (G.2 5, 1, .inr (.inl of2_4528)))] ++ (W2_4529 ++ (W2_4536 ++ []))) : va_W).Perm ([] ++ ([(oD, .inl (G.2 6, 1, .inr (.inr (.inr (.inl og))))), (o, .inl (G.2 5, 1, .inr (.inl of2_4528)))] ++ (W2_4529 ++ (W2_4536 ++ [])))) := segs_perm [[(oD, .inl (G.2 6, 1, .inr (.inr (.inr (.inl og)))))], [(o, .inl (G.2 5, 1, .inr (.inl of2_4528)))], W2_4529, W2_4536] [] [0, 1, 2, 3] rfl
  have hF := hF_ofP (wc := []) hD hS hA hpm_4540
  refine go_ctP hS hP hD hpm_4540 hF
      (va_runV (As := []) (rest := []) cf (eX4_thrown l G m0 M (((q_target (dC M) (sx9 xs (i9 + 1)))).1) W2_4536 (hq_4538) H.size) (cwV 0 hts (lw_V q1639 q1640 q1641 q58 q1642) rfl rfl rfl (by decide +kernel) ⟨Nat.le_of_ble_eq_true rfl, Nat.le_of_ble_eq_true rfl⟩) (preV_of hKB hE hS hF (MdW.recv hK hq_4538 (seg_at [[(oD, .inl (G.2 6, 1, .inr (.inr (.inr (.inl og)))))], [(o, .inl (G.2 5, 1, .inr (.inl of2_4528)))], W2_4529, W2_4536] 3 rfl hP)) (P_left (P_perm hpm_4540 hP)) ((D_left (D_perm hpm_4540 hD)).weaken (fun _ _ _ _ => trivial)) (roW.nil (seg_at [[(oD, .inl (G.2 6, 1, .inr (.inr (.inr (.inl og)))))], [(o, .inl (G.2 5, 1, .inr (.inl of2_4528)))], W2_4529, W2_4536] 3 rfl hP))) rfl rfl hl.1 rfl (lv_room (Nat.le_of_ble_eq_true rfl)) dL_law_2418 ⟨show cl + 2 + 0 ≤ 1200144 from by first | decide | omega, show sl + 8 + 0 ≤ 5495674 from by first | decide | omega⟩)
      (fun u_ H locs hq hph (hP : va_P G.1 CL (([(oD, .inl (G.2 6, 1, .inr (.inr (.inr (.inl og))))), (o, .inl (G.2 5, 1, .inr (.inl of2_4528)))] ++ (W2_4529 ++ (W2_4536 ++ []))) ++ []) H) (hD : va_D A (([(oD, .inl (G.2 6, 1, .inr (.inr (.inr (.inl og))))), (o, .inl (G.2 5, 1, .inr (.inl of2_4528)))] ++ (W2_4529 ++ (W2_4536 ++ []))) ++ [])) hS hfz hfk => ?_)
  have hpm_4541 : (([(oD, .inl (G.2 6, 1, .inr (.inr (.inr (.inl og))))), (o, .inl (G.2 5, 1, .inr (.inl of2_4528)))] ++ (W2_4529 ++ (W2_4536 ++ []))) ++ [] : va_W).Perm ([(oD, .inl (G.2 6, 1, .inr (.inr (.inr (.inl og))))), (o, .inl (G.2 5, 1, .inr (.inl of2_4528)))] ++ (W2_4529 ++ (W2_4536 ++ []))) := segs_perm2 [[(oD, .inl (G.2 6, 1, .inr (.inr (.inr (.inl og)))))], [(o, .inl (G.2 5, 1, .inr (.inl of2_4528)))], W2_4529, W2_4536] [] [0, 1, 2, 3] rfl
  have hP : va_P G.1 CL ([(oD, .inl (G.2 6, 1, .inr (.inr (.inr (.inl og))))), (o, .inl (G.2 5, 1, .inr (.inl of2_4528)))] ++ (W2_4529 ++ (W2_4536 ++ []))) H := P_perm hpm_4541 hP
  have hD : va_D A ([(oD, .inl (G.2 6, 1, .inr (.inr (.inr (.inl og))))), (o, .inl (G.2 5, 1, .inr (.inl of2_4528)))] ++ (W2_4529 ++ (W2_4536 ++ []))) := D_perm hpm_4541 hD
  refine W.eq (g2 := F0 m 2421 ls [.int (nI (((q_target (dC M) (sx9 xs (i9 + 1)))).1))]) rfl ?_
  refine lv_ton (n := ((q_target (dC C) (sx9 xs (i9 + 1))).1)) (congrArg nI (by rw [hqs])) ?_
  refine lv_iload hx hb dL_law_2421 (lv_at hl 1 rfl) ?_
  refine lv_icmp_eq (tgt := 2428) hx hb dL_law_2423 (by decide) (fun _ => ?_) (fun c9 => absurd rfl c9)
  refine lv_iload hx hb dL_law_2428 (lv_at hl 1 rfl) ?_
  refine n_if_ne (tgt := 2445) hx hb (by omega) dL_law_2430 (by decide) (fun c_4542 => ?_) (fun c_4542 => ?_)
  · refine lv_goto (tgt := 2788) hx hb dL_law_2445 (by decide) ?_
    have hpm_4543 : (([(oD, .inl (G.2 6, 1, .inr (.inr (.inr (.inl og))))), (o, .inl (G.2 5, 1, .inr (.inl of2_4528)))] ++ (W2_4529 ++ (W2_4536 ++ []))) : va_W).Perm (([(o, .inl (G.2 5, 1, .inr (.inl of2_4528))), (oD, .inl (G.2 6, 1, .inr (.inr (.inr (.inl og)))))] ++ (W2_4529 ++ (W2_4536 ++ []))) ++ []) := segs_perm [[(oD, .inl (G.2 6, 1, .inr (.inr (.inr (.inl og)))))], [(o, .inl (G.2 5, 1, .inr (.inl of2_4528)))], W2_4529, W2_4536] [1, 0, 2, 3] [] rfl
    have hP : va_P G.1 CL ([(o, .inl (G.2 5, 1, .inr (.inl of2_4528))), (oD, .inl (G.2 6, 1, .inr (.inr (.inr (.inl og)))))] ++ (W2_4529 ++ (W2_4536 ++ []))) H := P_left (P_perm hpm_4543 hP)
    have hD : va_D A ([(o, .inl (G.2 5, 1, .inr (.inl of2_4528))), (oD, .inl (G.2 6, 1, .inr (.inr (.inr (.inl og)))))] ++ (W2_4529 ++ (W2_4536 ++ []))) := D_left (D_perm hpm_4543 hD)
    have hl := lv_sub hl [2, 3, 4, 5, 6, 7] (l' := [(0, .ref b), (1, .ref d), (2, .ref m0), (3, .ref o), (4, .ref oD), (5, .int (nI i9))]) rfl
    exact W.widen (show cl + 2 ≤ cl + 20000 from by omega) (show sl + 8 ≤ sl + 45000 from by omega) (kk ls H locs C M (((q_target (dC M) (sx9 xs (i9 + 1)))).1) W2_4529 W2_4536 of2_4528 og hP hD hS hl hq_4532 hq_4538 hLw.up)
  · refine lv_aload_n hx hb dL_law_2433 rfl (lv_at hl 5 rfl) ?_
    refine lv_iconst (v := nI 0) hx hb dL_law_2434 (by decide) ?_
    refine r_lald (v := (((q_target (dC C) (sx9 xs (i9 + 1)))).2).toInt64) hx hb hK hP 1 5 rfl rfl (i := 0) (by omega) (by omega) ((hq_4530 (by omega))) dL_law_2435 ?_
    refine lv_iload hx hb dL_law_2436 (lv_at hl 0 rfl) ?_
    refine lv_toi (y := ((q_target (dC C) (sx9 xs (i9 + 1)))).2) ((hq_4537 (by rw [hqs]; omega)).trans (by rw [hqs])) ?_
    refine lv_i2l (v := (((q_target (dC C) (sx9 xs (i9 + 1)))).2).toInt64) hx hb dL_law_2438 rfl ?_
    refine W.lcmp hx hb dL_law_2439 ?_
    refine lv_ton (n := 0) (lcmp0 _) ?_
    refine n_if_eq (tgt := 2445) hx hb (by omega) dL_law_2440 (by decide) (fun c_4544 => ?_) (fun c_4544 => absurd c_4544 (by omega))
    refine lv_goto (tgt := 2788) hx hb dL_law_2445 (by decide) ?_
    have hpm_4545 : (([(oD, .inl (G.2 6, 1, .inr (.inr (.inr (.inl og))))), (o, .inl (G.2 5, 1, .inr (.inl of2_4528)))] ++ (W2_4529 ++ (W2_4536 ++ []))) : va_W).Perm (([(o, .inl (G.2 5, 1, .inr (.inl of2_4528))), (oD, .inl (G.2 6, 1, .inr (.inr (.inr (.inl og)))))] ++ (W2_4529 ++ (W2_4536 ++ []))) ++ []) := segs_perm [[(oD, .inl (G.2 6, 1, .inr (.inr (.inr (.inl og)))))], [(o, .inl (G.2 5, 1, .inr (.inl of2_4528)))], W2_4529, W2_4536] [1, 0, 2, 3] [] rfl
    have hP : va_P G.1 CL ([(o, .inl (G.2 5, 1, .inr (.inl of2_4528))), (oD, .inl (G.2 6, 1, .inr (.inr (.inr (.inl og)))))] ++ (W2_4529 ++ (W2_4536 ++ []))) H := P_left (P_perm hpm_4545 hP)
    have hD : va_D A ([(o, .inl (G.2 5, 1, .inr (.inl of2_4528))), (oD, .inl (G.2 6, 1, .inr (.inr (.inr (.inl og)))))] ++ (W2_4529 ++ (W2_4536 ++ []))) := D_left (D_perm hpm_4545 hD)
    have hl := lv_sub hl [2, 3, 4, 5, 6, 7] (l' := [(0, .ref b), (1, .ref d), (2, .ref m0), (3, .ref o), (4, .ref oD), (5, .int (nI i9))]) rfl
    exact W.widen (show cl + 2 ≤ cl + 20000 from by omega) (show sl + 8 ≤ sl + 45000 from by omega) (kk ls H locs C M (((q_target (dC M) (sx9 xs (i9 + 1)))).1) W2_4529 W2_4536 of2_4528 og hP hD hS hl hq_4532 hq_4538 hLw.up)

set_option maxHeartbeats 4000000 in
theorem lawK_41 {p : Program} {l : Launch} {e : Env} {s : State} {m : MethodId} {below : List Frame} {meth : Method} {c : Code} {G : Gt} {A : Nat → Prop} {b L : Nat} {xs : Nat → Int32} {Q : State → Prop} {d m0 o oD i9 N cl sl : Nat} (hfl : l.stackTraces = false) (F : LwF G A p s m c b L xs) (hi9 : i9 + 4 ≤ L) (hN24 : N ≤ 24) (hcl : cl + 20000 ≤ 1200144) (hsl : sl + 45000 ≤ 5495674) (kk : ∀ (ls : Array Slot) (H : Heap) (locs : List Loc) (C M : DS) (th : Nat) (WD WM : va_W) (of : Nat → Int64) (og : Nat → UInt64), va_P G.1 CL ([(o, .inl (G.2 5, 1, .inr (.inl of))), (oD, .inl (G.2 6, 1, .inr (.inr (.inr (.inl og)))))] ++ (WD ++ (WM ++ []))) H → va_D A ([(o, .inl (G.2 5, 1, .inr (.inl of))), (oD, .inl (G.2 6, 1, .inr (.inr (.inr (.inl og)))))] ++ (WD ++ (WM ++ []))) → va_S A s.heap H locs → lv_has ls 10 [(0, .ref b), (1, .ref d), (2, .ref m0), (3, .ref o), (4, .ref oD), (5, .int (nI i9))] → DyW G d C WD → MdW G m0 M th WM → LawI C M (N + 1) → W p l e room_1 s m #[Value.ref b] below meth c H locs (cl + 20000) (sl + 45000) Q (F0 m 2788 ls [])) {ls : Array Slot} {H : Heap} {locs : List Loc} {C M : DS} {th : Nat} {WD WM : va_W} {of : Nat → Int64} {og : Nat → UInt64} (hP : va_P G.1 CL ([(o, .inl (G.2 5, 1, .inr (.inl of))), (oD, .inl (G.2 6, 1, .inr (.inr (.inr (.inl og)))))] ++ (WD ++ (WM ++ []))) H) (hD : va_D A ([(o, .inl (G.2 5, 1, .inr (.inl of))), (oD, .inl (G.2 6, 1, .inr (.inr (.inr (.inl og)))))] ++ (WD ++ (WM ++ [])))) (hS : va_S A s.heap H locs) (hl : lv_has ls 10 [(0, .ref b), (1, .ref d), (2, .ref m0), (3, .ref o), (4, .ref oD), (5, .int (nI i9))]) (hDy : DyW G d C WD) (hMd : MdW G m0 M th WM) (hLw : LawI C M N) : W p l e room_1 s m #[Value.ref b] below meth c H locs cl sl Q (F0 m 2448 ls []) := by
  obtain ⟨cf, hKB, hE, hA, hX9, hbl, hbA, hNc, hL96⟩ := F
  have hx := cf.1
  have hb := cf.2.1
  have hml := cf.2.2.1
  have hown : s.vm.findClass RX0 = some m.cls := cf.2.2.2.1
  have hts := cf.2.2.2.2
  have hK := hKB.1
  have hIc := hDy.inv.1
  have hIm : Inv (dC M) := Inv_sim hLw.1 hIc
  have hRk : RkOk (dC M) := RkOk_sim hLw.1 (RkOk_srt hDy.inv.2.2)
  have hl := hl
  refine lv_aload_n hx hb dL_law_2448 rfl (lv_at hl 1 rfl) ?_
  refine lv_aload_n hx hb dL_law_2449 rfl (lv_at hl 3 rfl) ?_
  have hpm_4546 : (([(o, .inl (G.2 5, 1, .inr (.inl of))), (oD, .inl (G.2 6, 1, .inr (.inr (.inr (.inl og)))))] ++ (WD ++ (WM ++ []))) : va_W).Perm (([(o, .inl (G.2 5, 1, .inr (.inl of)))] ++ (WD ++ [])) ++ ([(oD, .inl (G.2 6, 1, .inr (.inr (.inr (.inl og)))))] ++ (WM ++ []))) := segs_perm [[(o, .inl (G.2 5, 1, .inr (.inl of)))], [(oD, .inl (G.2 6, 1, .inr (.inr (.inr (.inl og)))))], WD, WM] [0, 2] [1, 3] rfl
  have hF := hF_ofP (wc := ([(o, .inl (G.2 5, 1, .inr (.inl of)))] ++ (WD ++ []))) hD hS hA hpm_4546
  refine go_ctP hS hP hD hpm_4546 hF
      (vx_runSW (As := [.ref d, .ref o]) (rest := []) cf (wX0_dueEntry l G d C WD o of (hDy) hfl H.size) (vx_cwSW 2 hts (lw_SW q1431 q1432 q46 q1433) rfl rfl rfl (by decide +kernel) ⟨Nat.le_of_ble_eq_true rfl, Nat.le_of_ble_eq_true rfl⟩) (preS_ofW hNc hKB hE hS hF (P_left (P_perm hpm_4546 hP)) ((D_left (D_perm hpm_4546 hD)).weaken (fun _ _ _ _ => trivial)) trivial) rfl rfl hl.1 rfl (lv_room (Nat.le_of_ble_eq_true rfl)) dL_law_2450 ⟨show cl + 8300 ≤ 1200144 from by first | decide | omega, show sl + 17000 ≤ 5495674 from by first | decide | omega⟩)
      (fun u_ H locs hq hph (hP : va_P G.1 CL (([(oD, .inl (G.2 6, 1, .inr (.inr (.inr (.inl og)))))] ++ (WM ++ [])) ++ ([(o, .inl (G.2 5, 1, .inr (.inl u_.1)))] ++ (u_.2 ++ []))) H) (hD : va_D A (([(oD, .inl (G.2 6, 1, .inr (.inr (.inr (.inl og)))))] ++ (WM ++ [])) ++ ([(o, .inl (G.2 5, 1, .inr (.inl u_.1)))] ++ (u_.2 ++ [])))) hS hfz hfk => ?_)
  obtain ⟨of2_4547, W2_4548⟩ := u_
  obtain ⟨hq_4549, hq_4550, hq_4551⟩ : ((q_due (dC C)).1 = 0 → of2_4547 0 = ((q_due (dC C)).2).toInt64) ∧ (q_due (dC C)).1 < 10 ∧ DyW G d C W2_4548 := hq
  have hpm_4552 : (([(oD, .inl (G.2 6, 1, .inr (.inr (.inr (.inl og)))))] ++ (WM ++ [])) ++ ([(o, .inl (G.2 5, 1, .inr (.inl of2_4547)))] ++ (W2_4548 ++ [])) : va_W).Perm ([(oD, .inl (G.2 6, 1, .inr (.inr (.inr (.inl og))))), (o, .inl (G.2 5, 1, .inr (.inl of2_4547)))] ++ (WM ++ (W2_4548 ++ []))) := segs_perm2 [[(oD, .inl (G.2 6, 1, .inr (.inr (.inr (.inl og)))))], WM] [[(o, .inl (G.2 5, 1, .inr (.inl of2_4547)))], W2_4548] [0, 2, 1, 3] rfl
  have hP : va_P G.1 CL ([(oD, .inl (G.2 6, 1, .inr (.inr (.inr (.inl og))))), (o, .inl (G.2 5, 1, .inr (.inl of2_4547)))] ++ (WM ++ (W2_4548 ++ []))) H := P_perm hpm_4552 hP
  have hD : va_D A ([(oD, .inl (G.2 6, 1, .inr (.inr (.inr (.inl og))))), (o, .inl (G.2 5, 1, .inr (.inl of2_4547)))] ++ (WM ++ (W2_4548 ++ []))) := D_perm hpm_4552 hD
  refine W.eq (g2 := F0 m 2453 ls [.int (nI ((q_due (dC C)).1))]) rfl ?_
  have hqs : (q_due (dC M)) = (q_due (dC C)) := q_due_sim hLw.1.symm hIm 
  refine lv_istore (lv' := [(6, .int (nI ((q_due (dC C)).1))), (0, .ref b), (1, .ref d), (2, .ref m0), (3, .ref o), (4, .ref oD), (5, .int (nI i9))]) hx hb dL_law_2453 hl (by decide) rfl (fun ls hl => ?_)
  refine lv_aload_n hx hb dL_law_2455 rfl (lv_at hl 3 rfl) ?_
  have hpm_4553 : (([(oD, .inl (G.2 6, 1, .inr (.inr (.inr (.inl og))))), (o, .inl (G.2 5, 1, .inr (.inl of2_4547)))] ++ (WM ++ (W2_4548 ++ []))) : va_W).Perm ((WM ++ []) ++ ([(oD, .inl (G.2 6, 1, .inr (.inr (.inr (.inl og))))), (o, .inl (G.2 5, 1, .inr (.inl of2_4547)))] ++ (W2_4548 ++ []))) := segs_perm [[(oD, .inl (G.2 6, 1, .inr (.inr (.inr (.inl og)))))], [(o, .inl (G.2 5, 1, .inr (.inl of2_4547)))], WM, W2_4548] [2] [0, 1, 3] rfl
  have hF := hF_ofP (wc := (WM ++ [])) hD hS hA hpm_4553
  refine go_ctP hS hP hD hpm_4553 hF
      (va_runV (As := []) (rest := []) cf (eX4_dueEntry l G m0 M th WM (hMd) (hIm) H.size) (cwV 0 hts (lw_V q1914 q1915 q1916 q58 q1917) rfl rfl rfl (by decide +kernel) ⟨Nat.le_of_ble_eq_true rfl, Nat.le_of_ble_eq_true rfl⟩) (preV_of hKB hE hS hF (MdW.recv hK hMd (seg_at [[(oD, .inl (G.2 6, 1, .inr (.inr (.inr (.inl og)))))], [(o, .inl (G.2 5, 1, .inr (.inl of2_4547)))], WM, W2_4548] 2 rfl hP)) (P_left (P_perm hpm_4553 hP)) ((D_left (D_perm hpm_4553 hD)).weaken (fun _ _ _ _ => trivial)) trivial) rfl rfl hl.1 rfl (lv_room (Nat.le_of_ble_eq_true rfl)) dL_law_2456 ⟨show cl + 8300 + 0 ≤ 1200144 from by first | decide | omega, show sl + 17000 + 0 ≤ 5495674 from by first | decide | omega⟩)
      (fun u_ H locs hq hph (hP : va_P G.1 CL (([(oD, .inl (G.2 6, 1, .inr (.inr (.inr (.inl og))))), (o, .inl (G.2 5, 1, .inr (.inl of2_4547)))] ++ (W2_4548 ++ [])) ++ (u_.2 ++ [])) H) (hD : va_D A (([(oD, .inl (G.2 6, 1, .inr (.inr (.inr (.inl og))))), (o, .inl (G.2 5, 1, .inr (.inl of2_4547)))] ++ (W2_4548 ++ [])) ++ (u_.2 ++ []))) hS hfz hfk => ?_)
  obtain ⟨rr_4554, W2_4555⟩ := u_
  obtain ⟨hq_4556, hq_4557⟩ : ((q_due (dC M)).1 = 0 → rr_4554 = (q_due (dC M)).2) ∧ MdW G m0 M (q_due (dC M)).1 W2_4555 := hq
  have hpm_4558 : (([(oD, .inl (G.2 6, 1, .inr (.inr (.inr (.inl og))))), (o, .inl (G.2 5, 1, .inr (.inl of2_4547)))] ++ (W2_4548 ++ [])) ++ (W2_4555 ++ []) : va_W).Perm ([(oD, .inl (G.2 6, 1, .inr (.inr (.inr (.inl og))))), (o, .inl (G.2 5, 1, .inr (.inl of2_4547)))] ++ (W2_4548 ++ (W2_4555 ++ []))) := segs_perm2 [[(oD, .inl (G.2 6, 1, .inr (.inr (.inr (.inl og)))))], [(o, .inl (G.2 5, 1, .inr (.inl of2_4547)))], W2_4548] [W2_4555] [0, 1, 2, 3] rfl
  have hP : va_P G.1 CL ([(oD, .inl (G.2 6, 1, .inr (.inr (.inr (.inl og))))), (o, .inl (G.2 5, 1, .inr (.inl of2_4547)))] ++ (W2_4548 ++ (W2_4555 ++ []))) H := P_perm hpm_4558 hP
  have hD : va_D A ([(oD, .inl (G.2 6, 1, .inr (.inr (.inr (.inl og))))), (o, .inl (G.2 5, 1, .inr (.inl of2_4547)))] ++ (W2_4548 ++ (W2_4555 ++ []))) := D_perm hpm_4558 hD
  refine W.eq (g2 := F0 m 2459 ls [.int rr_4554]) rfl ?_
  refine lv_istore (lv' := [(7, .int rr_4554), (6, .int (nI ((q_due (dC C)).1))), (0, .ref b), (1, .ref d), (2, .ref m0), (3, .ref o), (4, .ref oD), (5, .int (nI i9))]) hx hb dL_law_2459 hl (by decide) rfl (fun ls hl => ?_)
  refine lv_aload_n hx hb dL_law_2461 rfl (lv_at hl 4 rfl) ?_
  have hpm_4559 : (([(oD, .inl (G.2 6, 1, .inr (.inr (.inr (.inl og))))), (o, .inl (G.2 5, 1, .inr (.inl of2_4547)))] ++ (W2_4548 ++ (W2_4555 ++ []))) : va_W).Perm ([] ++ ([(oD, .inl (G.2 6, 1, .inr (.inr (.inr (.inl og))))), (o, .inl (G.2 5, 1, .inr (.inl of2_4547)))] ++ (W2_4548 ++ (W2_4555 ++ [])))) := segs_perm [[(oD, .inl (G.2 6, 1, .inr (.inr (.inr (.inl og)))))], [(o, .inl (G.2 5, 1, .inr (.inl of2_4547)))], W2_4548, W2_4555] [] [0, 1, 2, 3] rfl
  have hF := hF_ofP (wc := []) hD hS hA hpm_4559
  refine go_ctP hS hP hD hpm_4559 hF
      (va_runV (As := []) (rest := []) cf (eX4_thrown l G m0 M (((q_due (dC M))).1) W2_4555 (hq_4557) H.size) (cwV 0 hts (lw_V q1639 q1640 q1641 q58 q1642) rfl rfl rfl (by decide +kernel) ⟨Nat.le_of_ble_eq_true rfl, Nat.le_of_ble_eq_true rfl⟩) (preV_of hKB hE hS hF (MdW.recv hK hq_4557 (seg_at [[(oD, .inl (G.2 6, 1, .inr (.inr (.inr (.inl og)))))], [(o, .inl (G.2 5, 1, .inr (.inl of2_4547)))], W2_4548, W2_4555] 3 rfl hP)) (P_left (P_perm hpm_4559 hP)) ((D_left (D_perm hpm_4559 hD)).weaken (fun _ _ _ _ => trivial)) (roW.nil (seg_at [[(oD, .inl (G.2 6, 1, .inr (.inr (.inr (.inl og)))))], [(o, .inl (G.2 5, 1, .inr (.inl of2_4547)))], W2_4548, W2_4555] 3 rfl hP))) rfl rfl hl.1 rfl (lv_room (Nat.le_of_ble_eq_true rfl)) dL_law_2462 ⟨show cl + 8300 + 0 ≤ 1200144 from by first | decide | omega, show sl + 17000 + 0 ≤ 5495674 from by first | decide | omega⟩)
      (fun u_ H locs hq hph (hP : va_P G.1 CL (([(oD, .inl (G.2 6, 1, .inr (.inr (.inr (.inl og))))), (o, .inl (G.2 5, 1, .inr (.inl of2_4547)))] ++ (W2_4548 ++ (W2_4555 ++ []))) ++ []) H) (hD : va_D A (([(oD, .inl (G.2 6, 1, .inr (.inr (.inr (.inl og))))), (o, .inl (G.2 5, 1, .inr (.inl of2_4547)))] ++ (W2_4548 ++ (W2_4555 ++ []))) ++ [])) hS hfz hfk => ?_)
  have hpm_4560 : (([(oD, .inl (G.2 6, 1, .inr (.inr (.inr (.inl og))))), (o, .inl (G.2 5, 1, .inr (.inl of2_4547)))] ++ (W2_4548 ++ (W2_4555 ++ []))) ++ [] : va_W).Perm ([(oD, .inl (G.2 6, 1, .inr (.inr (.inr (.inl og))))), (o, .inl (G.2 5, 1, .inr (.inl of2_4547)))] ++ (W2_4548 ++ (W2_4555 ++ []))) := segs_perm2 [[(oD, .inl (G.2 6, 1, .inr (.inr (.inr (.inl og)))))], [(o, .inl (G.2 5, 1, .inr (.inl of2_4547)))], W2_4548, W2_4555] [] [0, 1, 2, 3] rfl
  have hP : va_P G.1 CL ([(oD, .inl (G.2 6, 1, .inr (.inr (.inr (.inl og))))), (o, .inl (G.2 5, 1, .inr (.inl of2_4547)))] ++ (W2_4548 ++ (W2_4555 ++ []))) H := P_perm hpm_4560 hP
  have hD : va_D A ([(oD, .inl (G.2 6, 1, .inr (.inr (.inr (.inl og))))), (o, .inl (G.2 5, 1, .inr (.inl of2_4547)))] ++ (W2_4548 ++ (W2_4555 ++ []))) := D_perm hpm_4560 hD
  refine W.eq (g2 := F0 m 2465 ls [.int (nI (((q_due (dC M))).1))]) rfl ?_
  refine lv_ton (n := ((q_due (dC C)).1)) (congrArg nI (by rw [hqs])) ?_
  refine lv_iload hx hb dL_law_2465 (lv_at hl 1 rfl) ?_
  refine lv_icmp_eq (tgt := 2472) hx hb dL_law_2467 (by decide) (fun _ => ?_) (fun c9 => absurd rfl c9)
  refine lv_iload hx hb dL_law_2472 (lv_at hl 1 rfl) ?_
  refine n_if_ne (tgt := 2489) hx hb (by omega) dL_law_2474 (by decide) (fun c_4561 => ?_) (fun c_4561 => ?_)
  · refine lv_goto (tgt := 2788) hx hb dL_law_2489 (by decide) ?_
    have hpm_4562 : (([(oD, .inl (G.2 6, 1, .inr (.inr (.inr (.inl og))))), (o, .inl (G.2 5, 1, .inr (.inl of2_4547)))] ++ (W2_4548 ++ (W2_4555 ++ []))) : va_W).Perm (([(o, .inl (G.2 5, 1, .inr (.inl of2_4547))), (oD, .inl (G.2 6, 1, .inr (.inr (.inr (.inl og)))))] ++ (W2_4548 ++ (W2_4555 ++ []))) ++ []) := segs_perm [[(oD, .inl (G.2 6, 1, .inr (.inr (.inr (.inl og)))))], [(o, .inl (G.2 5, 1, .inr (.inl of2_4547)))], W2_4548, W2_4555] [1, 0, 2, 3] [] rfl
    have hP : va_P G.1 CL ([(o, .inl (G.2 5, 1, .inr (.inl of2_4547))), (oD, .inl (G.2 6, 1, .inr (.inr (.inr (.inl og)))))] ++ (W2_4548 ++ (W2_4555 ++ []))) H := P_left (P_perm hpm_4562 hP)
    have hD : va_D A ([(o, .inl (G.2 5, 1, .inr (.inl of2_4547))), (oD, .inl (G.2 6, 1, .inr (.inr (.inr (.inl og)))))] ++ (W2_4548 ++ (W2_4555 ++ []))) := D_left (D_perm hpm_4562 hD)
    have hl := lv_sub hl [2, 3, 4, 5, 6, 7] (l' := [(0, .ref b), (1, .ref d), (2, .ref m0), (3, .ref o), (4, .ref oD), (5, .int (nI i9))]) rfl
    exact W.widen (show cl + 8300 ≤ cl + 20000 from by omega) (show sl + 17000 ≤ sl + 45000 from by omega) (kk ls H locs C M (((q_due (dC M))).1) W2_4548 W2_4555 of2_4547 og hP hD hS hl hq_4551 hq_4557 hLw.up)
  · refine lv_aload_n hx hb dL_law_2477 rfl (lv_at hl 5 rfl) ?_
    refine lv_iconst (v := nI 0) hx hb dL_law_2478 (by decide) ?_
    refine r_lald (v := (((q_due (dC C))).2).toInt64) hx hb hK hP 1 5 rfl rfl (i := 0) (by omega) (by omega) ((hq_4549 (by omega))) dL_law_2479 ?_
    refine lv_iload hx hb dL_law_2480 (lv_at hl 0 rfl) ?_
    refine lv_toi (y := ((q_due (dC C))).2) ((hq_4556 (by rw [hqs]; omega)).trans (by rw [hqs])) ?_
    refine lv_i2l (v := (((q_due (dC C))).2).toInt64) hx hb dL_law_2482 rfl ?_
    refine W.lcmp hx hb dL_law_2483 ?_
    refine lv_ton (n := 0) (lcmp0 _) ?_
    refine n_if_eq (tgt := 2489) hx hb (by omega) dL_law_2484 (by decide) (fun c_4563 => ?_) (fun c_4563 => absurd c_4563 (by omega))
    refine lv_goto (tgt := 2788) hx hb dL_law_2489 (by decide) ?_
    have hpm_4564 : (([(oD, .inl (G.2 6, 1, .inr (.inr (.inr (.inl og))))), (o, .inl (G.2 5, 1, .inr (.inl of2_4547)))] ++ (W2_4548 ++ (W2_4555 ++ []))) : va_W).Perm (([(o, .inl (G.2 5, 1, .inr (.inl of2_4547))), (oD, .inl (G.2 6, 1, .inr (.inr (.inr (.inl og)))))] ++ (W2_4548 ++ (W2_4555 ++ []))) ++ []) := segs_perm [[(oD, .inl (G.2 6, 1, .inr (.inr (.inr (.inl og)))))], [(o, .inl (G.2 5, 1, .inr (.inl of2_4547)))], W2_4548, W2_4555] [1, 0, 2, 3] [] rfl
    have hP : va_P G.1 CL ([(o, .inl (G.2 5, 1, .inr (.inl of2_4547))), (oD, .inl (G.2 6, 1, .inr (.inr (.inr (.inl og)))))] ++ (W2_4548 ++ (W2_4555 ++ []))) H := P_left (P_perm hpm_4564 hP)
    have hD : va_D A ([(o, .inl (G.2 5, 1, .inr (.inl of2_4547))), (oD, .inl (G.2 6, 1, .inr (.inr (.inr (.inl og)))))] ++ (W2_4548 ++ (W2_4555 ++ []))) := D_left (D_perm hpm_4564 hD)
    have hl := lv_sub hl [2, 3, 4, 5, 6, 7] (l' := [(0, .ref b), (1, .ref d), (2, .ref m0), (3, .ref o), (4, .ref oD), (5, .int (nI i9))]) rfl
    exact W.widen (show cl + 8300 ≤ cl + 20000 from by omega) (show sl + 17000 ≤ sl + 45000 from by omega) (kk ls H locs C M (((q_due (dC M))).1) W2_4548 W2_4555 of2_4547 og hP hD hS hl hq_4551 hq_4557 hLw.up)

set_option maxHeartbeats 4000000 in
theorem lawK_42 {p : Program} {l : Launch} {e : Env} {s : State} {m : MethodId} {below : List Frame} {meth : Method} {c : Code} {G : Gt} {A : Nat → Prop} {b L : Nat} {xs : Nat → Int32} {Q : State → Prop} {d m0 o oD i9 N cl sl : Nat} (hfl : l.stackTraces = false) (F : LwF G A p s m c b L xs) (hi9 : i9 + 4 ≤ L) (hN24 : N ≤ 24) (hcl : cl + 20000 ≤ 1200144) (hsl : sl + 45000 ≤ 5495674) (kk : ∀ (ls : Array Slot) (H : Heap) (locs : List Loc) (C M : DS) (th : Nat) (WD WM : va_W) (of : Nat → Int64) (og : Nat → UInt64), va_P G.1 CL ([(o, .inl (G.2 5, 1, .inr (.inl of))), (oD, .inl (G.2 6, 1, .inr (.inr (.inr (.inl og)))))] ++ (WD ++ (WM ++ []))) H → va_D A ([(o, .inl (G.2 5, 1, .inr (.inl of))), (oD, .inl (G.2 6, 1, .inr (.inr (.inr (.inl og)))))] ++ (WD ++ (WM ++ []))) → va_S A s.heap H locs → lv_has ls 10 [(0, .ref b), (1, .ref d), (2, .ref m0), (3, .ref o), (4, .ref oD), (5, .int (nI i9))] → DyW G d C WD → MdW G m0 M th WM → LawI C M (N + 1) → W p l e room_1 s m #[Value.ref b] below meth c H locs (cl + 20000) (sl + 45000) Q (F0 m 2788 ls [])) {ls : Array Slot} {H : Heap} {locs : List Loc} {C M : DS} {th : Nat} {WD WM : va_W} {of : Nat → Int64} {og : Nat → UInt64} (hP : va_P G.1 CL ([(o, .inl (G.2 5, 1, .inr (.inl of))), (oD, .inl (G.2 6, 1, .inr (.inr (.inr (.inl og)))))] ++ (WD ++ (WM ++ []))) H) (hD : va_D A ([(o, .inl (G.2 5, 1, .inr (.inl of))), (oD, .inl (G.2 6, 1, .inr (.inr (.inr (.inl og)))))] ++ (WD ++ (WM ++ [])))) (hS : va_S A s.heap H locs) (hl : lv_has ls 10 [(0, .ref b), (1, .ref d), (2, .ref m0), (3, .ref o), (4, .ref oD), (5, .int (nI i9))]) (hDy : DyW G d C WD) (hMd : MdW G m0 M th WM) (hLw : LawI C M N) : W p l e room_1 s m #[Value.ref b] below meth c H locs cl sl Q (F0 m 2492 ls []) := by
  obtain ⟨cf, hKB, hE, hA, hX9, hbl, hbA, hNc, hL96⟩ := F
  have hx := cf.1
  have hb := cf.2.1
  have hml := cf.2.2.1
  have hown : s.vm.findClass RX0 = some m.cls := cf.2.2.2.1
  have hts := cf.2.2.2.2
  have hK := hKB.1
  have hIc := hDy.inv.1
  have hIm : Inv (dC M) := Inv_sim hLw.1 hIc
  have hRk : RkOk (dC M) := RkOk_sim hLw.1 (RkOk_srt hDy.inv.2.2)
  have hl := hl
  refine lv_aload_n hx hb dL_law_2492 rfl (lv_at hl 1 rfl) ?_
  have hpm_4565 : (([(o, .inl (G.2 5, 1, .inr (.inl of))), (oD, .inl (G.2 6, 1, .inr (.inr (.inr (.inl og)))))] ++ (WD ++ (WM ++ []))) : va_W).Perm ((WD ++ []) ++ ([(o, .inl (G.2 5, 1, .inr (.inl of))), (oD, .inl (G.2 6, 1, .inr (.inr (.inr (.inl og)))))] ++ (WM ++ []))) := segs_perm [[(o, .inl (G.2 5, 1, .inr (.inl of)))], [(oD, .inl (G.2 6, 1, .inr (.inr (.inr (.inl og)))))], WD, WM] [2] [0, 1, 3] rfl
  have hF := hF_ofP (wc := (WD ++ [])) hD hS hA hpm_4565
  refine go_ctP hS hP hD hpm_4565 hF
      (va_runV (As := []) (rest := []) cf (dX1_missedDays l G d C WD (hDy) H.size) (cwV 0 hts (lw_V q623 q624 q625 q47 q626) rfl rfl rfl (by decide +kernel) ⟨Nat.le_of_ble_eq_true rfl, Nat.le_of_ble_eq_true rfl⟩) (preV_of hKB hE hS hF (DyW.recv hK hDy (seg_at [[(o, .inl (G.2 5, 1, .inr (.inl of)))], [(oD, .inl (G.2 6, 1, .inr (.inr (.inr (.inl og)))))], WD, WM] 2 rfl hP)) (P_left (P_perm hpm_4565 hP)) ((D_left (D_perm hpm_4565 hD)).weaken (fun _ _ _ _ => trivial)) trivial) rfl rfl hl.1 rfl (lv_room (Nat.le_of_ble_eq_true rfl)) dL_law_2493 ⟨show cl + 8300 ≤ 1200144 from by first | decide | omega, show sl + 17000 ≤ 5495674 from by first | decide | omega⟩)
      (fun u_ H locs hq hph (hP : va_P G.1 CL (([(o, .inl (G.2 5, 1, .inr (.inl of))), (oD, .inl (G.2 6, 1, .inr (.inr (.inr (.inl og)))))] ++ (WM ++ [])) ++ (u_.2 ++ [])) H) (hD : va_D A (([(o, .inl (G.2 5, 1, .inr (.inl of))), (oD, .inl (G.2 6, 1, .inr (.inr (.inr (.inl og)))))] ++ (WM ++ [])) ++ (u_.2 ++ []))) hS hfz hfk => ?_)
  obtain ⟨rr_4566, W2_4567⟩ := u_
  obtain ⟨hq_4568, hq_4569⟩ : q_missed (dC C) = (0, rr_4566) ∧ DyW G d C W2_4567 := hq
  have hpm_4570 : (([(o, .inl (G.2 5, 1, .inr (.inl of))), (oD, .inl (G.2 6, 1, .inr (.inr (.inr (.inl og)))))] ++ (WM ++ [])) ++ (W2_4567 ++ []) : va_W).Perm ([(o, .inl (G.2 5, 1, .inr (.inl of))), (oD, .inl (G.2 6, 1, .inr (.inr (.inr (.inl og)))))] ++ (WM ++ (W2_4567 ++ []))) := segs_perm2 [[(o, .inl (G.2 5, 1, .inr (.inl of)))], [(oD, .inl (G.2 6, 1, .inr (.inr (.inr (.inl og)))))], WM] [W2_4567] [0, 1, 2, 3] rfl
  have hP : va_P G.1 CL ([(o, .inl (G.2 5, 1, .inr (.inl of))), (oD, .inl (G.2 6, 1, .inr (.inr (.inr (.inl og)))))] ++ (WM ++ (W2_4567 ++ []))) H := P_perm hpm_4570 hP
  have hD : va_D A ([(o, .inl (G.2 5, 1, .inr (.inl of))), (oD, .inl (G.2 6, 1, .inr (.inr (.inr (.inl og)))))] ++ (WM ++ (W2_4567 ++ []))) := D_perm hpm_4570 hD
  refine W.eq (g2 := F0 m 2496 ls [.int rr_4566]) rfl ?_
  have hqs : (q_missed (dC M)) = (q_missed (dC C)) := q_missed_sim hLw.1.symm hIm 
  refine lv_toi (y := ((q_missed (dC C))).2) ((congrArg Prod.snd hq_4568).symm) ?_
  refine lv_aload_n hx hb dL_law_2496 rfl (lv_at hl 2 rfl) ?_
  have hpm_4571 : (([(o, .inl (G.2 5, 1, .inr (.inl of))), (oD, .inl (G.2 6, 1, .inr (.inr (.inr (.inl og)))))] ++ (WM ++ (W2_4567 ++ []))) : va_W).Perm ((WM ++ []) ++ ([(o, .inl (G.2 5, 1, .inr (.inl of))), (oD, .inl (G.2 6, 1, .inr (.inr (.inr (.inl og)))))] ++ (W2_4567 ++ []))) := segs_perm [[(o, .inl (G.2 5, 1, .inr (.inl of)))], [(oD, .inl (G.2 6, 1, .inr (.inr (.inr (.inl og)))))], WM, W2_4567] [2] [0, 1, 3] rfl
  have hF := hF_ofP (wc := (WM ++ [])) hD hS hA hpm_4571
  refine go_ctP hS hP hD hpm_4571 hF
      (va_runV (As := []) (rest := [.int (((q_missed (dC C))).2)]) cf (eX4_missedDays l G m0 M th WM (hMd) (hIm) H.size) (cwV 0 hts (lw_V q1922 q1923 q1924 q58 q1925) rfl rfl rfl (by decide +kernel) ⟨Nat.le_of_ble_eq_true rfl, Nat.le_of_ble_eq_true rfl⟩) (preV_of hKB hE hS hF (MdW.recv hK hMd (seg_at [[(o, .inl (G.2 5, 1, .inr (.inl of)))], [(oD, .inl (G.2 6, 1, .inr (.inr (.inr (.inl og)))))], WM, W2_4567] 2 rfl hP)) (P_left (P_perm hpm_4571 hP)) ((D_left (D_perm hpm_4571 hD)).weaken (fun _ _ _ _ => trivial)) trivial) rfl rfl hl.1 rfl (lv_room (Nat.le_of_ble_eq_true rfl)) dL_law_2497 ⟨show cl + 8300 + 0 ≤ 1200144 from by first | decide | omega, show sl + 17000 + 0 ≤ 5495674 from by first | decide | omega⟩)
      (fun u_ H locs hq hph (hP : va_P G.1 CL (([(o, .inl (G.2 5, 1, .inr (.inl of))), (oD, .inl (G.2 6, 1, .inr (.inr (.inr (.inl og)))))] ++ (W2_4567 ++ [])) ++ (u_.2 ++ [])) H) (hD : va_D A (([(o, .inl (G.2 5, 1, .inr (.inl of))), (oD, .inl (G.2 6, 1, .inr (.inr (.inr (.inl og)))))] ++ (W2_4567 ++ [])) ++ (u_.2 ++ []))) hS hfz hfk => ?_)
  obtain ⟨rr_4572, W2_4573⟩ := u_
  obtain ⟨hq_4574, hq_4575⟩ : ((q_missed (dC M)).1 = 0 → rr_4572 = (q_missed (dC M)).2) ∧ MdW G m0 M (q_missed (dC M)).1 W2_4573 := hq
  have hpm_4576 : (([(o, .inl (G.2 5, 1, .inr (.inl of))), (oD, .inl (G.2 6, 1, .inr (.inr (.inr (.inl og)))))] ++ (W2_4567 ++ [])) ++ (W2_4573 ++ []) : va_W).Perm ([(o, .inl (G.2 5, 1, .inr (.inl of))), (oD, .inl (G.2 6, 1, .inr (.inr (.inr (.inl og)))))] ++ (W2_4567 ++ (W2_4573 ++ []))) := segs_perm2 [[(o, .inl (G.2 5, 1, .inr (.inl of)))], [(oD, .inl (G.2 6, 1, .inr (.inr (.inr (.inl og)))))], W2_4567] [W2_4573] [0, 1, 2, 3] rfl
  have hP : va_P G.1 CL ([(o, .inl (G.2 5, 1, .inr (.inl of))), (oD, .inl (G.2 6, 1, .inr (.inr (.inr (.inl og)))))] ++ (W2_4567 ++ (W2_4573 ++ []))) H := P_perm hpm_4576 hP
  have hD : va_D A ([(o, .inl (G.2 5, 1, .inr (.inl of))), (oD, .inl (G.2 6, 1, .inr (.inr (.inr (.inl og)))))] ++ (W2_4567 ++ (W2_4573 ++ []))) := D_perm hpm_4576 hD
  refine W.eq (g2 := F0 m 2500 ls [.int rr_4572, .int (((q_missed (dC C))).2)]) rfl ?_
  refine lv_toi (y := ((q_missed (dC C))).2) ((hq_4574 (by rw [hqs, hq_4568])).trans (by rw [hqs])) ?_
  refine lv_icmp_eq (tgt := 2788) hx hb dL_law_2500 (by decide) (fun _ => ?_) (fun c9 => absurd rfl c9)
  have hpm_4577 : (([(o, .inl (G.2 5, 1, .inr (.inl of))), (oD, .inl (G.2 6, 1, .inr (.inr (.inr (.inl og)))))] ++ (W2_4567 ++ (W2_4573 ++ []))) : va_W).Perm (([(o, .inl (G.2 5, 1, .inr (.inl of))), (oD, .inl (G.2 6, 1, .inr (.inr (.inr (.inl og)))))] ++ (W2_4567 ++ (W2_4573 ++ []))) ++ []) := segs_perm [[(o, .inl (G.2 5, 1, .inr (.inl of)))], [(oD, .inl (G.2 6, 1, .inr (.inr (.inr (.inl og)))))], W2_4567, W2_4573] [0, 1, 2, 3] [] rfl
  have hP : va_P G.1 CL ([(o, .inl (G.2 5, 1, .inr (.inl of))), (oD, .inl (G.2 6, 1, .inr (.inr (.inr (.inl og)))))] ++ (W2_4567 ++ (W2_4573 ++ []))) H := P_left (P_perm hpm_4577 hP)
  have hD : va_D A ([(o, .inl (G.2 5, 1, .inr (.inl of))), (oD, .inl (G.2 6, 1, .inr (.inr (.inr (.inl og)))))] ++ (W2_4567 ++ (W2_4573 ++ []))) := D_left (D_perm hpm_4577 hD)
  have hl := lv_sub hl [0, 1, 2, 3, 4, 5] (l' := [(0, .ref b), (1, .ref d), (2, .ref m0), (3, .ref o), (4, .ref oD), (5, .int (nI i9))]) rfl
  exact W.widen (show cl + 8300 ≤ cl + 20000 from by omega) (show sl + 17000 ≤ sl + 45000 from by omega) (kk ls H locs C M (((q_missed (dC M))).1) W2_4567 W2_4573 of og hP hD hS hl hq_4569 hq_4575 hLw.up)

set_option maxHeartbeats 4000000 in
theorem lawK_43 {p : Program} {l : Launch} {e : Env} {s : State} {m : MethodId} {below : List Frame} {meth : Method} {c : Code} {G : Gt} {A : Nat → Prop} {b L : Nat} {xs : Nat → Int32} {Q : State → Prop} {d m0 o oD i9 N cl sl : Nat} (hfl : l.stackTraces = false) (F : LwF G A p s m c b L xs) (hi9 : i9 + 4 ≤ L) (hN24 : N ≤ 24) (hcl : cl + 20000 ≤ 1200144) (hsl : sl + 45000 ≤ 5495674) (kk : ∀ (ls : Array Slot) (H : Heap) (locs : List Loc) (C M : DS) (th : Nat) (WD WM : va_W) (of : Nat → Int64) (og : Nat → UInt64), va_P G.1 CL ([(o, .inl (G.2 5, 1, .inr (.inl of))), (oD, .inl (G.2 6, 1, .inr (.inr (.inr (.inl og)))))] ++ (WD ++ (WM ++ []))) H → va_D A ([(o, .inl (G.2 5, 1, .inr (.inl of))), (oD, .inl (G.2 6, 1, .inr (.inr (.inr (.inl og)))))] ++ (WD ++ (WM ++ []))) → va_S A s.heap H locs → lv_has ls 10 [(0, .ref b), (1, .ref d), (2, .ref m0), (3, .ref o), (4, .ref oD), (5, .int (nI i9))] → DyW G d C WD → MdW G m0 M th WM → LawI C M (N + 1) → W p l e room_1 s m #[Value.ref b] below meth c H locs (cl + 20000) (sl + 45000) Q (F0 m 2788 ls [])) {ls : Array Slot} {H : Heap} {locs : List Loc} {C M : DS} {th : Nat} {WD WM : va_W} {of : Nat → Int64} {og : Nat → UInt64} (hP : va_P G.1 CL ([(o, .inl (G.2 5, 1, .inr (.inl of))), (oD, .inl (G.2 6, 1, .inr (.inr (.inr (.inl og)))))] ++ (WD ++ (WM ++ []))) H) (hD : va_D A ([(o, .inl (G.2 5, 1, .inr (.inl of))), (oD, .inl (G.2 6, 1, .inr (.inr (.inr (.inl og)))))] ++ (WD ++ (WM ++ [])))) (hS : va_S A s.heap H locs) (hl : lv_has ls 10 [(0, .ref b), (1, .ref d), (2, .ref m0), (3, .ref o), (4, .ref oD), (5, .int (nI i9))]) (hDy : DyW G d C WD) (hMd : MdW G m0 M th WM) (hLw : LawI C M N) : W p l e room_1 s m #[Value.ref b] below meth c H locs cl sl Q (F0 m 2505 ls []) := by
  obtain ⟨cf, hKB, hE, hA, hX9, hbl, hbA, hNc, hL96⟩ := F
  have hx := cf.1
  have hb := cf.2.1
  have hml := cf.2.2.1
  have hown : s.vm.findClass RX0 = some m.cls := cf.2.2.2.1
  have hts := cf.2.2.2.2
  have hK := hKB.1
  have hIc := hDy.inv.1
  have hIm : Inv (dC M) := Inv_sim hLw.1 hIc
  have hRk : RkOk (dC M) := RkOk_sim hLw.1 (RkOk_srt hDy.inv.2.2)
  have hl := hl
  refine lv_aload_n hx hb dL_law_2505 rfl (lv_at hl 1 rfl) ?_
  have hpm_4578 : (([(o, .inl (G.2 5, 1, .inr (.inl of))), (oD, .inl (G.2 6, 1, .inr (.inr (.inr (.inl og)))))] ++ (WD ++ (WM ++ []))) : va_W).Perm ((WD ++ []) ++ ([(o, .inl (G.2 5, 1, .inr (.inl of))), (oD, .inl (G.2 6, 1, .inr (.inr (.inr (.inl og)))))] ++ (WM ++ []))) := segs_perm [[(o, .inl (G.2 5, 1, .inr (.inl of)))], [(oD, .inl (G.2 6, 1, .inr (.inr (.inr (.inl og)))))], WD, WM] [2] [0, 1, 3] rfl
  have hF := hF_ofP (wc := (WD ++ [])) hD hS hA hpm_4578
  refine go_ctP hS hP hD hpm_4578 hF
      (va_runV (As := []) (rest := []) cf (dX1_droppedEntries l G d C WD (hDy) H.size) (cwV 0 hts (lw_V q661 q662 q663 q47 q664) rfl rfl rfl (by decide +kernel) ⟨Nat.le_of_ble_eq_true rfl, Nat.le_of_ble_eq_true rfl⟩) (preV_of hKB hE hS hF (DyW.recv hK hDy (seg_at [[(o, .inl (G.2 5, 1, .inr (.inl of)))], [(oD, .inl (G.2 6, 1, .inr (.inr (.inr (.inl og)))))], WD, WM] 2 rfl hP)) (P_left (P_perm hpm_4578 hP)) ((D_left (D_perm hpm_4578 hD)).weaken (fun _ _ _ _ => trivial)) trivial) rfl rfl hl.1 rfl (lv_room (Nat.le_of_ble_eq_true rfl)) dL_law_2506 ⟨show cl + 8300 ≤ 1200144 from by first | decide | omega, show sl + 17000 ≤ 5495674 from by first | decide | omega⟩)
      (fun u_ H locs hq hph (hP : va_P G.1 CL (([(o, .inl (G.2 5, 1, .inr (.inl of))), (oD, .inl (G.2 6, 1, .inr (.inr (.inr (.inl og)))))] ++ (WM ++ [])) ++ (u_.2 ++ [])) H) (hD : va_D A (([(o, .inl (G.2 5, 1, .inr (.inl of))), (oD, .inl (G.2 6, 1, .inr (.inr (.inr (.inl og)))))] ++ (WM ++ [])) ++ (u_.2 ++ []))) hS hfz hfk => ?_)
  obtain ⟨rr_4579, W2_4580⟩ := u_
  obtain ⟨hq_4581, hq_4582⟩ : q_dropped (dC C) = (0, rr_4579) ∧ DyW G d C W2_4580 := hq
  have hpm_4583 : (([(o, .inl (G.2 5, 1, .inr (.inl of))), (oD, .inl (G.2 6, 1, .inr (.inr (.inr (.inl og)))))] ++ (WM ++ [])) ++ (W2_4580 ++ []) : va_W).Perm ([(o, .inl (G.2 5, 1, .inr (.inl of))), (oD, .inl (G.2 6, 1, .inr (.inr (.inr (.inl og)))))] ++ (WM ++ (W2_4580 ++ []))) := segs_perm2 [[(o, .inl (G.2 5, 1, .inr (.inl of)))], [(oD, .inl (G.2 6, 1, .inr (.inr (.inr (.inl og)))))], WM] [W2_4580] [0, 1, 2, 3] rfl
  have hP : va_P G.1 CL ([(o, .inl (G.2 5, 1, .inr (.inl of))), (oD, .inl (G.2 6, 1, .inr (.inr (.inr (.inl og)))))] ++ (WM ++ (W2_4580 ++ []))) H := P_perm hpm_4583 hP
  have hD : va_D A ([(o, .inl (G.2 5, 1, .inr (.inl of))), (oD, .inl (G.2 6, 1, .inr (.inr (.inr (.inl og)))))] ++ (WM ++ (W2_4580 ++ []))) := D_perm hpm_4583 hD
  refine W.eq (g2 := F0 m 2509 ls [.int rr_4579]) rfl ?_
  have hqs : (q_dropped (dC M)) = (q_dropped (dC C)) := q_dropped_sim hLw.1.symm hIm 
  refine lv_toi (y := ((q_dropped (dC C))).2) ((congrArg Prod.snd hq_4581).symm) ?_
  refine lv_aload_n hx hb dL_law_2509 rfl (lv_at hl 2 rfl) ?_
  have hpm_4584 : (([(o, .inl (G.2 5, 1, .inr (.inl of))), (oD, .inl (G.2 6, 1, .inr (.inr (.inr (.inl og)))))] ++ (WM ++ (W2_4580 ++ []))) : va_W).Perm ((WM ++ []) ++ ([(o, .inl (G.2 5, 1, .inr (.inl of))), (oD, .inl (G.2 6, 1, .inr (.inr (.inr (.inl og)))))] ++ (W2_4580 ++ []))) := segs_perm [[(o, .inl (G.2 5, 1, .inr (.inl of)))], [(oD, .inl (G.2 6, 1, .inr (.inr (.inr (.inl og)))))], WM, W2_4580] [2] [0, 1, 3] rfl
  have hF := hF_ofP (wc := (WM ++ [])) hD hS hA hpm_4584
  refine go_ctP hS hP hD hpm_4584 hF
      (va_runV (As := []) (rest := [.int (((q_dropped (dC C))).2)]) cf (eX4_droppedEntries l G m0 M th WM (hMd) (hIm) H.size) (cwV 0 hts (lw_V q1926 q1927 q1928 q58 q1929) rfl rfl rfl (by decide +kernel) ⟨Nat.le_of_ble_eq_true rfl, Nat.le_of_ble_eq_true rfl⟩) (preV_of hKB hE hS hF (MdW.recv hK hMd (seg_at [[(o, .inl (G.2 5, 1, .inr (.inl of)))], [(oD, .inl (G.2 6, 1, .inr (.inr (.inr (.inl og)))))], WM, W2_4580] 2 rfl hP)) (P_left (P_perm hpm_4584 hP)) ((D_left (D_perm hpm_4584 hD)).weaken (fun _ _ _ _ => trivial)) trivial) rfl rfl hl.1 rfl (lv_room (Nat.le_of_ble_eq_true rfl)) dL_law_2510 ⟨show cl + 8300 + 0 ≤ 1200144 from by first | decide | omega, show sl + 17000 + 0 ≤ 5495674 from by first | decide | omega⟩)
      (fun u_ H locs hq hph (hP : va_P G.1 CL (([(o, .inl (G.2 5, 1, .inr (.inl of))), (oD, .inl (G.2 6, 1, .inr (.inr (.inr (.inl og)))))] ++ (W2_4580 ++ [])) ++ (u_.2 ++ [])) H) (hD : va_D A (([(o, .inl (G.2 5, 1, .inr (.inl of))), (oD, .inl (G.2 6, 1, .inr (.inr (.inr (.inl og)))))] ++ (W2_4580 ++ [])) ++ (u_.2 ++ []))) hS hfz hfk => ?_)
  obtain ⟨rr_4585, W2_4586⟩ := u_
  obtain ⟨hq_4587, hq_4588⟩ : ((q_dropped (dC M)).1 = 0 → rr_4585 = (q_dropped (dC M)).2) ∧ MdW G m0 M (q_dropped (dC M)).1 W2_4586 := hq
  have hpm_4589 : (([(o, .inl (G.2 5, 1, .inr (.inl of))), (oD, .inl (G.2 6, 1, .inr (.inr (.inr (.inl og)))))] ++ (W2_4580 ++ [])) ++ (W2_4586 ++ []) : va_W).Perm ([(o, .inl (G.2 5, 1, .inr (.inl of))), (oD, .inl (G.2 6, 1, .inr (.inr (.inr (.inl og)))))] ++ (W2_4580 ++ (W2_4586 ++ []))) := segs_perm2 [[(o, .inl (G.2 5, 1, .inr (.inl of)))], [(oD, .inl (G.2 6, 1, .inr (.inr (.inr (.inl og)))))], W2_4580] [W2_4586] [0, 1, 2, 3] rfl
  have hP : va_P G.1 CL ([(o, .inl (G.2 5, 1, .inr (.inl of))), (oD, .inl (G.2 6, 1, .inr (.inr (.inr (.inl og)))))] ++ (W2_4580 ++ (W2_4586 ++ []))) H := P_perm hpm_4589 hP
  have hD : va_D A ([(o, .inl (G.2 5, 1, .inr (.inl of))), (oD, .inl (G.2 6, 1, .inr (.inr (.inr (.inl og)))))] ++ (W2_4580 ++ (W2_4586 ++ []))) := D_perm hpm_4589 hD
  refine W.eq (g2 := F0 m 2513 ls [.int rr_4585, .int (((q_dropped (dC C))).2)]) rfl ?_
  refine lv_toi (y := ((q_dropped (dC C))).2) ((hq_4587 (by rw [hqs, hq_4581])).trans (by rw [hqs])) ?_
  refine lv_icmp_eq (tgt := 2788) hx hb dL_law_2513 (by decide) (fun _ => ?_) (fun c9 => absurd rfl c9)
  have hpm_4590 : (([(o, .inl (G.2 5, 1, .inr (.inl of))), (oD, .inl (G.2 6, 1, .inr (.inr (.inr (.inl og)))))] ++ (W2_4580 ++ (W2_4586 ++ []))) : va_W).Perm (([(o, .inl (G.2 5, 1, .inr (.inl of))), (oD, .inl (G.2 6, 1, .inr (.inr (.inr (.inl og)))))] ++ (W2_4580 ++ (W2_4586 ++ []))) ++ []) := segs_perm [[(o, .inl (G.2 5, 1, .inr (.inl of)))], [(oD, .inl (G.2 6, 1, .inr (.inr (.inr (.inl og)))))], W2_4580, W2_4586] [0, 1, 2, 3] [] rfl
  have hP : va_P G.1 CL ([(o, .inl (G.2 5, 1, .inr (.inl of))), (oD, .inl (G.2 6, 1, .inr (.inr (.inr (.inl og)))))] ++ (W2_4580 ++ (W2_4586 ++ []))) H := P_left (P_perm hpm_4590 hP)
  have hD : va_D A ([(o, .inl (G.2 5, 1, .inr (.inl of))), (oD, .inl (G.2 6, 1, .inr (.inr (.inr (.inl og)))))] ++ (W2_4580 ++ (W2_4586 ++ []))) := D_left (D_perm hpm_4590 hD)
  have hl := lv_sub hl [0, 1, 2, 3, 4, 5] (l' := [(0, .ref b), (1, .ref d), (2, .ref m0), (3, .ref o), (4, .ref oD), (5, .int (nI i9))]) rfl
  exact W.widen (show cl + 8300 ≤ cl + 20000 from by omega) (show sl + 17000 ≤ sl + 45000 from by omega) (kk ls H locs C M (((q_dropped (dC M))).1) W2_4580 W2_4586 of og hP hD hS hl hq_4582 hq_4588 hLw.up)

set_option maxHeartbeats 4000000 in
theorem lawK_44 {p : Program} {l : Launch} {e : Env} {s : State} {m : MethodId} {below : List Frame} {meth : Method} {c : Code} {G : Gt} {A : Nat → Prop} {b L : Nat} {xs : Nat → Int32} {Q : State → Prop} {d m0 o oD i9 N cl sl : Nat} (hfl : l.stackTraces = false) (F : LwF G A p s m c b L xs) (hi9 : i9 + 4 ≤ L) (hN24 : N ≤ 24) (hcl : cl + 20000 ≤ 1200144) (hsl : sl + 45000 ≤ 5495674) (kk : ∀ (ls : Array Slot) (H : Heap) (locs : List Loc) (C M : DS) (th : Nat) (WD WM : va_W) (of : Nat → Int64) (og : Nat → UInt64), va_P G.1 CL ([(o, .inl (G.2 5, 1, .inr (.inl of))), (oD, .inl (G.2 6, 1, .inr (.inr (.inr (.inl og)))))] ++ (WD ++ (WM ++ []))) H → va_D A ([(o, .inl (G.2 5, 1, .inr (.inl of))), (oD, .inl (G.2 6, 1, .inr (.inr (.inr (.inl og)))))] ++ (WD ++ (WM ++ []))) → va_S A s.heap H locs → lv_has ls 10 [(0, .ref b), (1, .ref d), (2, .ref m0), (3, .ref o), (4, .ref oD), (5, .int (nI i9))] → DyW G d C WD → MdW G m0 M th WM → LawI C M (N + 1) → W p l e room_1 s m #[Value.ref b] below meth c H locs (cl + 20000) (sl + 45000) Q (F0 m 2788 ls [])) {ls : Array Slot} {H : Heap} {locs : List Loc} {C M : DS} {th : Nat} {WD WM : va_W} {of : Nat → Int64} {og : Nat → UInt64} (hP : va_P G.1 CL ([(o, .inl (G.2 5, 1, .inr (.inl of))), (oD, .inl (G.2 6, 1, .inr (.inr (.inr (.inl og)))))] ++ (WD ++ (WM ++ []))) H) (hD : va_D A ([(o, .inl (G.2 5, 1, .inr (.inl of))), (oD, .inl (G.2 6, 1, .inr (.inr (.inr (.inl og)))))] ++ (WD ++ (WM ++ [])))) (hS : va_S A s.heap H locs) (hl : lv_has ls 10 [(0, .ref b), (1, .ref d), (2, .ref m0), (3, .ref o), (4, .ref oD), (5, .int (nI i9))]) (hDy : DyW G d C WD) (hMd : MdW G m0 M th WM) (hLw : LawI C M N) : W p l e room_1 s m #[Value.ref b] below meth c H locs cl sl Q (F0 m 2518 ls []) := by
  obtain ⟨cf, hKB, hE, hA, hX9, hbl, hbA, hNc, hL96⟩ := F
  have hx := cf.1
  have hb := cf.2.1
  have hml := cf.2.2.1
  have hown : s.vm.findClass RX0 = some m.cls := cf.2.2.2.1
  have hts := cf.2.2.2.2
  have hK := hKB.1
  have hIc := hDy.inv.1
  have hIm : Inv (dC M) := Inv_sim hLw.1 hIc
  have hRk : RkOk (dC M) := RkOk_sim hLw.1 (RkOk_srt hDy.inv.2.2)
  have hl := hl
  refine lv_aload_n hx hb dL_law_2518 rfl (lv_at hl 1 rfl) ?_
  refine lv_aload_n hx hb dL_law_2519 rfl (lv_at hl 3 rfl) ?_
  have hpm_4591 : (([(o, .inl (G.2 5, 1, .inr (.inl of))), (oD, .inl (G.2 6, 1, .inr (.inr (.inr (.inl og)))))] ++ (WD ++ (WM ++ []))) : va_W).Perm (([(o, .inl (G.2 5, 1, .inr (.inl of)))] ++ (WD ++ [])) ++ ([(oD, .inl (G.2 6, 1, .inr (.inr (.inr (.inl og)))))] ++ (WM ++ []))) := segs_perm [[(o, .inl (G.2 5, 1, .inr (.inl of)))], [(oD, .inl (G.2 6, 1, .inr (.inr (.inr (.inl og)))))], WD, WM] [0, 2] [1, 3] rfl
  have hF := hF_ofP (wc := ([(o, .inl (G.2 5, 1, .inr (.inl of)))] ++ (WD ++ []))) hD hS hA hpm_4591
  refine go_ctP hS hP hD hpm_4591 hF
      (vx_runSW (As := [.ref d, .ref o]) (rest := []) cf (wX0_planEnd l G d C WD o of (hDy) hfl H.size) (vx_cwSW 2 hts (lw_SW q1438 q1439 q46 q1440) rfl rfl rfl (by decide +kernel) ⟨Nat.le_of_ble_eq_true rfl, Nat.le_of_ble_eq_true rfl⟩) (preS_ofW hNc hKB hE hS hF (P_left (P_perm hpm_4591 hP)) ((D_left (D_perm hpm_4591 hD)).weaken (fun _ _ _ _ => trivial)) trivial) rfl rfl hl.1 rfl (lv_room (Nat.le_of_ble_eq_true rfl)) dL_law_2520 ⟨show cl + 8300 ≤ 1200144 from by first | decide | omega, show sl + 17000 ≤ 5495674 from by first | decide | omega⟩)
      (fun u_ H locs hq hph (hP : va_P G.1 CL (([(oD, .inl (G.2 6, 1, .inr (.inr (.inr (.inl og)))))] ++ (WM ++ [])) ++ ([(o, .inl (G.2 5, 1, .inr (.inl u_.1)))] ++ (u_.2 ++ []))) H) (hD : va_D A (([(oD, .inl (G.2 6, 1, .inr (.inr (.inr (.inl og)))))] ++ (WM ++ [])) ++ ([(o, .inl (G.2 5, 1, .inr (.inl u_.1)))] ++ (u_.2 ++ [])))) hS hfz hfk => ?_)
  obtain ⟨of2_4592, W2_4593⟩ := u_
  obtain ⟨hq_4594, hq_4595, hq_4596⟩ : ((q_end (dC C)).1 = 0 → of2_4592 0 = ((q_end (dC C)).2).toInt64) ∧ (q_end (dC C)).1 < 10 ∧ DyW G d C W2_4593 := hq
  have hpm_4597 : (([(oD, .inl (G.2 6, 1, .inr (.inr (.inr (.inl og)))))] ++ (WM ++ [])) ++ ([(o, .inl (G.2 5, 1, .inr (.inl of2_4592)))] ++ (W2_4593 ++ [])) : va_W).Perm ([(oD, .inl (G.2 6, 1, .inr (.inr (.inr (.inl og))))), (o, .inl (G.2 5, 1, .inr (.inl of2_4592)))] ++ (WM ++ (W2_4593 ++ []))) := segs_perm2 [[(oD, .inl (G.2 6, 1, .inr (.inr (.inr (.inl og)))))], WM] [[(o, .inl (G.2 5, 1, .inr (.inl of2_4592)))], W2_4593] [0, 2, 1, 3] rfl
  have hP : va_P G.1 CL ([(oD, .inl (G.2 6, 1, .inr (.inr (.inr (.inl og))))), (o, .inl (G.2 5, 1, .inr (.inl of2_4592)))] ++ (WM ++ (W2_4593 ++ []))) H := P_perm hpm_4597 hP
  have hD : va_D A ([(oD, .inl (G.2 6, 1, .inr (.inr (.inr (.inl og))))), (o, .inl (G.2 5, 1, .inr (.inl of2_4592)))] ++ (WM ++ (W2_4593 ++ []))) := D_perm hpm_4597 hD
  refine W.eq (g2 := F0 m 2523 ls [.int (nI ((q_end (dC C)).1))]) rfl ?_
  have hqs : (q_end (dC M)) = (q_end (dC C)) := q_end_sim hLw.1.symm hIm 
  refine lv_istore (lv' := [(6, .int (nI ((q_end (dC C)).1))), (0, .ref b), (1, .ref d), (2, .ref m0), (3, .ref o), (4, .ref oD), (5, .int (nI i9))]) hx hb dL_law_2523 hl (by decide) rfl (fun ls hl => ?_)
  refine lv_aload_n hx hb dL_law_2525 rfl (lv_at hl 3 rfl) ?_
  have hpm_4598 : (([(oD, .inl (G.2 6, 1, .inr (.inr (.inr (.inl og))))), (o, .inl (G.2 5, 1, .inr (.inl of2_4592)))] ++ (WM ++ (W2_4593 ++ []))) : va_W).Perm ((WM ++ []) ++ ([(oD, .inl (G.2 6, 1, .inr (.inr (.inr (.inl og))))), (o, .inl (G.2 5, 1, .inr (.inl of2_4592)))] ++ (W2_4593 ++ []))) := segs_perm [[(oD, .inl (G.2 6, 1, .inr (.inr (.inr (.inl og)))))], [(o, .inl (G.2 5, 1, .inr (.inl of2_4592)))], WM, W2_4593] [2] [0, 1, 3] rfl
  have hF := hF_ofP (wc := (WM ++ [])) hD hS hA hpm_4598
  refine go_ctP hS hP hD hpm_4598 hF
      (va_runV (As := []) (rest := []) cf (eX4_planEnd l G m0 M th WM (hMd) (hIm) H.size) (cwV 0 hts (lw_V q1930 q1931 q1932 q58 q1933) rfl rfl rfl (by decide +kernel) ⟨Nat.le_of_ble_eq_true rfl, Nat.le_of_ble_eq_true rfl⟩) (preV_of hKB hE hS hF (MdW.recv hK hMd (seg_at [[(oD, .inl (G.2 6, 1, .inr (.inr (.inr (.inl og)))))], [(o, .inl (G.2 5, 1, .inr (.inl of2_4592)))], WM, W2_4593] 2 rfl hP)) (P_left (P_perm hpm_4598 hP)) ((D_left (D_perm hpm_4598 hD)).weaken (fun _ _ _ _ => trivial)) trivial) rfl rfl hl.1 rfl (lv_room (Nat.le_of_ble_eq_true rfl)) dL_law_2526 ⟨show cl + 8300 + 0 ≤ 1200144 from by first | decide | omega, show sl + 17000 + 0 ≤ 5495674 from by first | decide | omega⟩)
      (fun u_ H locs hq hph (hP : va_P G.1 CL (([(oD, .inl (G.2 6, 1, .inr (.inr (.inr (.inl og))))), (o, .inl (G.2 5, 1, .inr (.inl of2_4592)))] ++ (W2_4593 ++ [])) ++ (u_.2 ++ [])) H) (hD : va_D A (([(oD, .inl (G.2 6, 1, .inr (.inr (.inr (.inl og))))), (o, .inl (G.2 5, 1, .inr (.inl of2_4592)))] ++ (W2_4593 ++ [])) ++ (u_.2 ++ []))) hS hfz hfk => ?_)
  obtain ⟨rr_4599, W2_4600⟩ := u_
  obtain ⟨hq_4601, hq_4602⟩ : ((q_end (dC M)).1 = 0 → rr_4599 = (q_end (dC M)).2) ∧ MdW G m0 M (q_end (dC M)).1 W2_4600 := hq
  have hpm_4603 : (([(oD, .inl (G.2 6, 1, .inr (.inr (.inr (.inl og))))), (o, .inl (G.2 5, 1, .inr (.inl of2_4592)))] ++ (W2_4593 ++ [])) ++ (W2_4600 ++ []) : va_W).Perm ([(oD, .inl (G.2 6, 1, .inr (.inr (.inr (.inl og))))), (o, .inl (G.2 5, 1, .inr (.inl of2_4592)))] ++ (W2_4593 ++ (W2_4600 ++ []))) := segs_perm2 [[(oD, .inl (G.2 6, 1, .inr (.inr (.inr (.inl og)))))], [(o, .inl (G.2 5, 1, .inr (.inl of2_4592)))], W2_4593] [W2_4600] [0, 1, 2, 3] rfl
  have hP : va_P G.1 CL ([(oD, .inl (G.2 6, 1, .inr (.inr (.inr (.inl og))))), (o, .inl (G.2 5, 1, .inr (.inl of2_4592)))] ++ (W2_4593 ++ (W2_4600 ++ []))) H := P_perm hpm_4603 hP
  have hD : va_D A ([(oD, .inl (G.2 6, 1, .inr (.inr (.inr (.inl og))))), (o, .inl (G.2 5, 1, .inr (.inl of2_4592)))] ++ (W2_4593 ++ (W2_4600 ++ []))) := D_perm hpm_4603 hD
  refine W.eq (g2 := F0 m 2529 ls [.int rr_4599]) rfl ?_
  refine lv_istore (lv' := [(7, .int rr_4599), (6, .int (nI ((q_end (dC C)).1))), (0, .ref b), (1, .ref d), (2, .ref m0), (3, .ref o), (4, .ref oD), (5, .int (nI i9))]) hx hb dL_law_2529 hl (by decide) rfl (fun ls hl => ?_)
  refine lv_aload_n hx hb dL_law_2531 rfl (lv_at hl 4 rfl) ?_
  have hpm_4604 : (([(oD, .inl (G.2 6, 1, .inr (.inr (.inr (.inl og))))), (o, .inl (G.2 5, 1, .inr (.inl of2_4592)))] ++ (W2_4593 ++ (W2_4600 ++ []))) : va_W).Perm ([] ++ ([(oD, .inl (G.2 6, 1, .inr (.inr (.inr (.inl og))))), (o, .inl (G.2 5, 1, .inr (.inl of2_4592)))] ++ (W2_4593 ++ (W2_4600 ++ [])))) := segs_perm [[(oD, .inl (G.2 6, 1, .inr (.inr (.inr (.inl og)))))], [(o, .inl (G.2 5, 1, .inr (.inl of2_4592)))], W2_4593, W2_4600] [] [0, 1, 2, 3] rfl
  have hF := hF_ofP (wc := []) hD hS hA hpm_4604
  refine go_ctP hS hP hD hpm_4604 hF
      (va_runV (As := []) (rest := []) cf (eX4_thrown l G m0 M (((q_end (dC M))).1) W2_4600 (hq_4602) H.size) (cwV 0 hts (lw_V q1639 q1640 q1641 q58 q1642) rfl rfl rfl (by decide +kernel) ⟨Nat.le_of_ble_eq_true rfl, Nat.le_of_ble_eq_true rfl⟩) (preV_of hKB hE hS hF (MdW.recv hK hq_4602 (seg_at [[(oD, .inl (G.2 6, 1, .inr (.inr (.inr (.inl og)))))], [(o, .inl (G.2 5, 1, .inr (.inl of2_4592)))], W2_4593, W2_4600] 3 rfl hP)) (P_left (P_perm hpm_4604 hP)) ((D_left (D_perm hpm_4604 hD)).weaken (fun _ _ _ _ => trivial)) (roW.nil (seg_at [[(oD, .inl (G.2 6, 1, .inr (.inr (.inr (.inl og)))))], [(o, .inl (G.2 5, 1, .inr (.inl of2_4592)))], W2_4593, W2_4600] 3 rfl hP))) rfl rfl hl.1 rfl (lv_room (Nat.le_of_ble_eq_true rfl)) dL_law_2532 ⟨show cl + 8300 + 0 ≤ 1200144 from by first | decide | omega, show sl + 17000 + 0 ≤ 5495674 from by first | decide | omega⟩)
      (fun u_ H locs hq hph (hP : va_P G.1 CL (([(oD, .inl (G.2 6, 1, .inr (.inr (.inr (.inl og))))), (o, .inl (G.2 5, 1, .inr (.inl of2_4592)))] ++ (W2_4593 ++ (W2_4600 ++ []))) ++ []) H) (hD : va_D A (([(oD, .inl (G.2 6, 1, .inr (.inr (.inr (.inl og))))), (o, .inl (G.2 5, 1, .inr (.inl of2_4592)))] ++ (W2_4593 ++ (W2_4600 ++ []))) ++ [])) hS hfz hfk => ?_)
  have hpm_4605 : (([(oD, .inl (G.2 6, 1, .inr (.inr (.inr (.inl og))))), (o, .inl (G.2 5, 1, .inr (.inl of2_4592)))] ++ (W2_4593 ++ (W2_4600 ++ []))) ++ [] : va_W).Perm ([(oD, .inl (G.2 6, 1, .inr (.inr (.inr (.inl og))))), (o, .inl (G.2 5, 1, .inr (.inl of2_4592)))] ++ (W2_4593 ++ (W2_4600 ++ []))) := segs_perm2 [[(oD, .inl (G.2 6, 1, .inr (.inr (.inr (.inl og)))))], [(o, .inl (G.2 5, 1, .inr (.inl of2_4592)))], W2_4593, W2_4600] [] [0, 1, 2, 3] rfl
  have hP : va_P G.1 CL ([(oD, .inl (G.2 6, 1, .inr (.inr (.inr (.inl og))))), (o, .inl (G.2 5, 1, .inr (.inl of2_4592)))] ++ (W2_4593 ++ (W2_4600 ++ []))) H := P_perm hpm_4605 hP
  have hD : va_D A ([(oD, .inl (G.2 6, 1, .inr (.inr (.inr (.inl og))))), (o, .inl (G.2 5, 1, .inr (.inl of2_4592)))] ++ (W2_4593 ++ (W2_4600 ++ []))) := D_perm hpm_4605 hD
  refine W.eq (g2 := F0 m 2535 ls [.int (nI (((q_end (dC M))).1))]) rfl ?_
  refine lv_ton (n := ((q_end (dC C)).1)) (congrArg nI (by rw [hqs])) ?_
  refine lv_iload hx hb dL_law_2535 (lv_at hl 1 rfl) ?_
  refine lv_icmp_eq (tgt := 2542) hx hb dL_law_2537 (by decide) (fun _ => ?_) (fun c9 => absurd rfl c9)
  refine lv_iload hx hb dL_law_2542 (lv_at hl 1 rfl) ?_
  refine n_if_ne (tgt := 2559) hx hb (by omega) dL_law_2544 (by decide) (fun c_4606 => ?_) (fun c_4606 => ?_)
  · refine lv_goto (tgt := 2788) hx hb dL_law_2559 (by decide) ?_
    have hpm_4607 : (([(oD, .inl (G.2 6, 1, .inr (.inr (.inr (.inl og))))), (o, .inl (G.2 5, 1, .inr (.inl of2_4592)))] ++ (W2_4593 ++ (W2_4600 ++ []))) : va_W).Perm (([(o, .inl (G.2 5, 1, .inr (.inl of2_4592))), (oD, .inl (G.2 6, 1, .inr (.inr (.inr (.inl og)))))] ++ (W2_4593 ++ (W2_4600 ++ []))) ++ []) := segs_perm [[(oD, .inl (G.2 6, 1, .inr (.inr (.inr (.inl og)))))], [(o, .inl (G.2 5, 1, .inr (.inl of2_4592)))], W2_4593, W2_4600] [1, 0, 2, 3] [] rfl
    have hP : va_P G.1 CL ([(o, .inl (G.2 5, 1, .inr (.inl of2_4592))), (oD, .inl (G.2 6, 1, .inr (.inr (.inr (.inl og)))))] ++ (W2_4593 ++ (W2_4600 ++ []))) H := P_left (P_perm hpm_4607 hP)
    have hD : va_D A ([(o, .inl (G.2 5, 1, .inr (.inl of2_4592))), (oD, .inl (G.2 6, 1, .inr (.inr (.inr (.inl og)))))] ++ (W2_4593 ++ (W2_4600 ++ []))) := D_left (D_perm hpm_4607 hD)
    have hl := lv_sub hl [2, 3, 4, 5, 6, 7] (l' := [(0, .ref b), (1, .ref d), (2, .ref m0), (3, .ref o), (4, .ref oD), (5, .int (nI i9))]) rfl
    exact W.widen (show cl + 8300 ≤ cl + 20000 from by omega) (show sl + 17000 ≤ sl + 45000 from by omega) (kk ls H locs C M (((q_end (dC M))).1) W2_4593 W2_4600 of2_4592 og hP hD hS hl hq_4596 hq_4602 hLw.up)
  · refine lv_aload_n hx hb dL_law_2547 rfl (lv_at hl 5 rfl) ?_
    refine lv_iconst (v := nI 0) hx hb dL_law_2548 (by decide) ?_
    refine r_lald (v := (((q_end (dC C))).2).toInt64) hx hb hK hP 1 5 rfl rfl (i := 0) (by omega) (by omega) ((hq_4594 (by omega))) dL_law_2549 ?_
    refine lv_iload hx hb dL_law_2550 (lv_at hl 0 rfl) ?_
    refine lv_toi (y := ((q_end (dC C))).2) ((hq_4601 (by rw [hqs]; omega)).trans (by rw [hqs])) ?_
    refine lv_i2l (v := (((q_end (dC C))).2).toInt64) hx hb dL_law_2552 rfl ?_
    refine W.lcmp hx hb dL_law_2553 ?_
    refine lv_ton (n := 0) (lcmp0 _) ?_
    refine n_if_eq (tgt := 2559) hx hb (by omega) dL_law_2554 (by decide) (fun c_4608 => ?_) (fun c_4608 => absurd c_4608 (by omega))
    refine lv_goto (tgt := 2788) hx hb dL_law_2559 (by decide) ?_
    have hpm_4609 : (([(oD, .inl (G.2 6, 1, .inr (.inr (.inr (.inl og))))), (o, .inl (G.2 5, 1, .inr (.inl of2_4592)))] ++ (W2_4593 ++ (W2_4600 ++ []))) : va_W).Perm (([(o, .inl (G.2 5, 1, .inr (.inl of2_4592))), (oD, .inl (G.2 6, 1, .inr (.inr (.inr (.inl og)))))] ++ (W2_4593 ++ (W2_4600 ++ []))) ++ []) := segs_perm [[(oD, .inl (G.2 6, 1, .inr (.inr (.inr (.inl og)))))], [(o, .inl (G.2 5, 1, .inr (.inl of2_4592)))], W2_4593, W2_4600] [1, 0, 2, 3] [] rfl
    have hP : va_P G.1 CL ([(o, .inl (G.2 5, 1, .inr (.inl of2_4592))), (oD, .inl (G.2 6, 1, .inr (.inr (.inr (.inl og)))))] ++ (W2_4593 ++ (W2_4600 ++ []))) H := P_left (P_perm hpm_4609 hP)
    have hD : va_D A ([(o, .inl (G.2 5, 1, .inr (.inl of2_4592))), (oD, .inl (G.2 6, 1, .inr (.inr (.inr (.inl og)))))] ++ (W2_4593 ++ (W2_4600 ++ []))) := D_left (D_perm hpm_4609 hD)
    have hl := lv_sub hl [2, 3, 4, 5, 6, 7] (l' := [(0, .ref b), (1, .ref d), (2, .ref m0), (3, .ref o), (4, .ref oD), (5, .int (nI i9))]) rfl
    exact W.widen (show cl + 8300 ≤ cl + 20000 from by omega) (show sl + 17000 ≤ sl + 45000 from by omega) (kk ls H locs C M (((q_end (dC M))).1) W2_4593 W2_4600 of2_4592 og hP hD hS hl hq_4596 hq_4602 hLw.up)

set_option maxHeartbeats 4000000 in
theorem lawK_45 {p : Program} {l : Launch} {e : Env} {s : State} {m : MethodId} {below : List Frame} {meth : Method} {c : Code} {G : Gt} {A : Nat → Prop} {b L : Nat} {xs : Nat → Int32} {Q : State → Prop} {d m0 o oD i9 N cl sl : Nat} (hfl : l.stackTraces = false) (F : LwF G A p s m c b L xs) (hi9 : i9 + 4 ≤ L) (hN24 : N ≤ 24) (hcl : cl + 20000 ≤ 1200144) (hsl : sl + 45000 ≤ 5495674) (kk : ∀ (ls : Array Slot) (H : Heap) (locs : List Loc) (C M : DS) (th : Nat) (WD WM : va_W) (of : Nat → Int64) (og : Nat → UInt64), va_P G.1 CL ([(o, .inl (G.2 5, 1, .inr (.inl of))), (oD, .inl (G.2 6, 1, .inr (.inr (.inr (.inl og)))))] ++ (WD ++ (WM ++ []))) H → va_D A ([(o, .inl (G.2 5, 1, .inr (.inl of))), (oD, .inl (G.2 6, 1, .inr (.inr (.inr (.inl og)))))] ++ (WD ++ (WM ++ []))) → va_S A s.heap H locs → lv_has ls 10 [(0, .ref b), (1, .ref d), (2, .ref m0), (3, .ref o), (4, .ref oD), (5, .int (nI i9))] → DyW G d C WD → MdW G m0 M th WM → LawI C M (N + 1) → W p l e room_1 s m #[Value.ref b] below meth c H locs (cl + 20000) (sl + 45000) Q (F0 m 2788 ls [])) {ls : Array Slot} {H : Heap} {locs : List Loc} {C M : DS} {th : Nat} {WD WM : va_W} {of : Nat → Int64} {og : Nat → UInt64} (hP : va_P G.1 CL ([(o, .inl (G.2 5, 1, .inr (.inl of))), (oD, .inl (G.2 6, 1, .inr (.inr (.inr (.inl og)))))] ++ (WD ++ (WM ++ []))) H) (hD : va_D A ([(o, .inl (G.2 5, 1, .inr (.inl of))), (oD, .inl (G.2 6, 1, .inr (.inr (.inr (.inl og)))))] ++ (WD ++ (WM ++ [])))) (hS : va_S A s.heap H locs) (hl : lv_has ls 10 [(0, .ref b), (1, .ref d), (2, .ref m0), (3, .ref o), (4, .ref oD), (5, .int (nI i9))]) (hDy : DyW G d C WD) (hMd : MdW G m0 M th WM) (hLw : LawI C M N) : W p l e room_1 s m #[Value.ref b] below meth c H locs cl sl Q (F0 m 2562 ls []) := by
  obtain ⟨cf, hKB, hE, hA, hX9, hbl, hbA, hNc, hL96⟩ := F
  have hx := cf.1
  have hb := cf.2.1
  have hml := cf.2.2.1
  have hown : s.vm.findClass RX0 = some m.cls := cf.2.2.2.1
  have hts := cf.2.2.2.2
  have hK := hKB.1
  have hIc := hDy.inv.1
  have hIm : Inv (dC M) := Inv_sim hLw.1 hIc
  have hRk : RkOk (dC M) := RkOk_sim hLw.1 (RkOk_srt hDy.inv.2.2)
  have hl := hl
  refine lv_aload_n hx hb dL_law_2562 rfl (lv_at hl 1 rfl) ?_
  have hpm_4610 : (([(o, .inl (G.2 5, 1, .inr (.inl of))), (oD, .inl (G.2 6, 1, .inr (.inr (.inr (.inl og)))))] ++ (WD ++ (WM ++ []))) : va_W).Perm ((WD ++ []) ++ ([(o, .inl (G.2 5, 1, .inr (.inl of))), (oD, .inl (G.2 6, 1, .inr (.inr (.inr (.inl og)))))] ++ (WM ++ []))) := segs_perm [[(o, .inl (G.2 5, 1, .inr (.inl of)))], [(oD, .inl (G.2 6, 1, .inr (.inr (.inr (.inl og)))))], WD, WM] [2] [0, 1, 3] rfl
  have hF := hF_ofP (wc := (WD ++ [])) hD hS hA hpm_4610
  refine go_ctP hS hP hD hpm_4610 hF
      (va_runV (As := []) (rest := []) cf (dX1_isPlanOver l G d C WD (hDy) H.size) (cwV 0 hts (lw_V q665 q666 q667 q47 q668) rfl rfl rfl (by decide +kernel) ⟨Nat.le_of_ble_eq_true rfl, Nat.le_of_ble_eq_true rfl⟩) (preV_of hKB hE hS hF (DyW.recv hK hDy (seg_at [[(o, .inl (G.2 5, 1, .inr (.inl of)))], [(oD, .inl (G.2 6, 1, .inr (.inr (.inr (.inl og)))))], WD, WM] 2 rfl hP)) (P_left (P_perm hpm_4610 hP)) ((D_left (D_perm hpm_4610 hD)).weaken (fun _ _ _ _ => trivial)) trivial) rfl rfl hl.1 rfl (lv_room (Nat.le_of_ble_eq_true rfl)) dL_law_2563 ⟨show cl + 8300 ≤ 1200144 from by first | decide | omega, show sl + 17000 ≤ 5495674 from by first | decide | omega⟩)
      (fun u_ H locs hq hph (hP : va_P G.1 CL (([(o, .inl (G.2 5, 1, .inr (.inl of))), (oD, .inl (G.2 6, 1, .inr (.inr (.inr (.inl og)))))] ++ (WM ++ [])) ++ (u_.2 ++ [])) H) (hD : va_D A (([(o, .inl (G.2 5, 1, .inr (.inl of))), (oD, .inl (G.2 6, 1, .inr (.inr (.inr (.inl og)))))] ++ (WM ++ [])) ++ (u_.2 ++ []))) hS hfz hfk => ?_)
  obtain ⟨rr_4611, W2_4612⟩ := u_
  obtain ⟨hq_4613, hq_4614⟩ : q_over (dC C) = (0, rr_4611) ∧ DyW G d C W2_4612 := hq
  have hpm_4615 : (([(o, .inl (G.2 5, 1, .inr (.inl of))), (oD, .inl (G.2 6, 1, .inr (.inr (.inr (.inl og)))))] ++ (WM ++ [])) ++ (W2_4612 ++ []) : va_W).Perm ([(o, .inl (G.2 5, 1, .inr (.inl of))), (oD, .inl (G.2 6, 1, .inr (.inr (.inr (.inl og)))))] ++ (WM ++ (W2_4612 ++ []))) := segs_perm2 [[(o, .inl (G.2 5, 1, .inr (.inl of)))], [(oD, .inl (G.2 6, 1, .inr (.inr (.inr (.inl og)))))], WM] [W2_4612] [0, 1, 2, 3] rfl
  have hP : va_P G.1 CL ([(o, .inl (G.2 5, 1, .inr (.inl of))), (oD, .inl (G.2 6, 1, .inr (.inr (.inr (.inl og)))))] ++ (WM ++ (W2_4612 ++ []))) H := P_perm hpm_4615 hP
  have hD : va_D A ([(o, .inl (G.2 5, 1, .inr (.inl of))), (oD, .inl (G.2 6, 1, .inr (.inr (.inr (.inl og)))))] ++ (WM ++ (W2_4612 ++ []))) := D_perm hpm_4615 hD
  refine W.eq (g2 := F0 m 2566 ls [.int rr_4611]) rfl ?_
  have hqs : (q_over (dC M)) = (q_over (dC C)) := q_over_sim hLw.1.symm hIm 
  refine lv_toi (y := ((q_over (dC C))).2) ((congrArg Prod.snd hq_4613).symm) ?_
  refine lv_aload_n hx hb dL_law_2566 rfl (lv_at hl 2 rfl) ?_
  have hpm_4616 : (([(o, .inl (G.2 5, 1, .inr (.inl of))), (oD, .inl (G.2 6, 1, .inr (.inr (.inr (.inl og)))))] ++ (WM ++ (W2_4612 ++ []))) : va_W).Perm ((WM ++ []) ++ ([(o, .inl (G.2 5, 1, .inr (.inl of))), (oD, .inl (G.2 6, 1, .inr (.inr (.inr (.inl og)))))] ++ (W2_4612 ++ []))) := segs_perm [[(o, .inl (G.2 5, 1, .inr (.inl of)))], [(oD, .inl (G.2 6, 1, .inr (.inr (.inr (.inl og)))))], WM, W2_4612] [2] [0, 1, 3] rfl
  have hF := hF_ofP (wc := (WM ++ [])) hD hS hA hpm_4616
  refine go_ctP hS hP hD hpm_4616 hF
      (va_runV (As := []) (rest := [.int (((q_over (dC C))).2)]) cf (eX4_isPlanOver l G m0 M th WM (hMd) (hIm) H.size) (cwV 0 hts (lw_V q1934 q1935 q1936 q58 q1937) rfl rfl rfl (by decide +kernel) ⟨Nat.le_of_ble_eq_true rfl, Nat.le_of_ble_eq_true rfl⟩) (preV_of hKB hE hS hF (MdW.recv hK hMd (seg_at [[(o, .inl (G.2 5, 1, .inr (.inl of)))], [(oD, .inl (G.2 6, 1, .inr (.inr (.inr (.inl og)))))], WM, W2_4612] 2 rfl hP)) (P_left (P_perm hpm_4616 hP)) ((D_left (D_perm hpm_4616 hD)).weaken (fun _ _ _ _ => trivial)) trivial) rfl rfl hl.1 rfl (lv_room (Nat.le_of_ble_eq_true rfl)) dL_law_2567 ⟨show cl + 8300 + 0 ≤ 1200144 from by first | decide | omega, show sl + 17000 + 0 ≤ 5495674 from by first | decide | omega⟩)
      (fun u_ H locs hq hph (hP : va_P G.1 CL (([(o, .inl (G.2 5, 1, .inr (.inl of))), (oD, .inl (G.2 6, 1, .inr (.inr (.inr (.inl og)))))] ++ (W2_4612 ++ [])) ++ (u_.2 ++ [])) H) (hD : va_D A (([(o, .inl (G.2 5, 1, .inr (.inl of))), (oD, .inl (G.2 6, 1, .inr (.inr (.inr (.inl og)))))] ++ (W2_4612 ++ [])) ++ (u_.2 ++ []))) hS hfz hfk => ?_)
  obtain ⟨rr_4617, W2_4618⟩ := u_
  obtain ⟨hq_4619, hq_4620⟩ : ((q_over (dC M)).1 = 0 → rr_4617 = (q_over (dC M)).2) ∧ MdW G m0 M (q_over (dC M)).1 W2_4618 := hq
  have hpm_4621 : (([(o, .inl (G.2 5, 1, .inr (.inl of))), (oD, .inl (G.2 6, 1, .inr (.inr (.inr (.inl og)))))] ++ (W2_4612 ++ [])) ++ (W2_4618 ++ []) : va_W).Perm ([(o, .inl (G.2 5, 1, .inr (.inl of))), (oD, .inl (G.2 6, 1, .inr (.inr (.inr (.inl og)))))] ++ (W2_4612 ++ (W2_4618 ++ []))) := segs_perm2 [[(o, .inl (G.2 5, 1, .inr (.inl of)))], [(oD, .inl (G.2 6, 1, .inr (.inr (.inr (.inl og)))))], W2_4612] [W2_4618] [0, 1, 2, 3] rfl
  have hP : va_P G.1 CL ([(o, .inl (G.2 5, 1, .inr (.inl of))), (oD, .inl (G.2 6, 1, .inr (.inr (.inr (.inl og)))))] ++ (W2_4612 ++ (W2_4618 ++ []))) H := P_perm hpm_4621 hP
  have hD : va_D A ([(o, .inl (G.2 5, 1, .inr (.inl of))), (oD, .inl (G.2 6, 1, .inr (.inr (.inr (.inl og)))))] ++ (W2_4612 ++ (W2_4618 ++ []))) := D_perm hpm_4621 hD
  refine W.eq (g2 := F0 m 2570 ls [.int rr_4617, .int (((q_over (dC C))).2)]) rfl ?_
  refine lv_toi (y := ((q_over (dC C))).2) ((hq_4619 (by rw [hqs, hq_4613])).trans (by rw [hqs])) ?_
  refine lv_icmp_eq (tgt := 2788) hx hb dL_law_2570 (by decide) (fun _ => ?_) (fun c9 => absurd rfl c9)
  have hpm_4622 : (([(o, .inl (G.2 5, 1, .inr (.inl of))), (oD, .inl (G.2 6, 1, .inr (.inr (.inr (.inl og)))))] ++ (W2_4612 ++ (W2_4618 ++ []))) : va_W).Perm (([(o, .inl (G.2 5, 1, .inr (.inl of))), (oD, .inl (G.2 6, 1, .inr (.inr (.inr (.inl og)))))] ++ (W2_4612 ++ (W2_4618 ++ []))) ++ []) := segs_perm [[(o, .inl (G.2 5, 1, .inr (.inl of)))], [(oD, .inl (G.2 6, 1, .inr (.inr (.inr (.inl og)))))], W2_4612, W2_4618] [0, 1, 2, 3] [] rfl
  have hP : va_P G.1 CL ([(o, .inl (G.2 5, 1, .inr (.inl of))), (oD, .inl (G.2 6, 1, .inr (.inr (.inr (.inl og)))))] ++ (W2_4612 ++ (W2_4618 ++ []))) H := P_left (P_perm hpm_4622 hP)
  have hD : va_D A ([(o, .inl (G.2 5, 1, .inr (.inl of))), (oD, .inl (G.2 6, 1, .inr (.inr (.inr (.inl og)))))] ++ (W2_4612 ++ (W2_4618 ++ []))) := D_left (D_perm hpm_4622 hD)
  have hl := lv_sub hl [0, 1, 2, 3, 4, 5] (l' := [(0, .ref b), (1, .ref d), (2, .ref m0), (3, .ref o), (4, .ref oD), (5, .int (nI i9))]) rfl
  exact W.widen (show cl + 8300 ≤ cl + 20000 from by omega) (show sl + 17000 ≤ sl + 45000 from by omega) (kk ls H locs C M (((q_over (dC M))).1) W2_4612 W2_4618 of og hP hD hS hl hq_4614 hq_4620 hLw.up)

set_option maxHeartbeats 4000000 in
theorem lawK_46 {p : Program} {l : Launch} {e : Env} {s : State} {m : MethodId} {below : List Frame} {meth : Method} {c : Code} {G : Gt} {A : Nat → Prop} {b L : Nat} {xs : Nat → Int32} {Q : State → Prop} {d m0 o oD i9 N cl sl : Nat} (hfl : l.stackTraces = false) (F : LwF G A p s m c b L xs) (hi9 : i9 + 4 ≤ L) (hN24 : N ≤ 24) (hcl : cl + 20000 ≤ 1200144) (hsl : sl + 45000 ≤ 5495674) (kk : ∀ (ls : Array Slot) (H : Heap) (locs : List Loc) (C M : DS) (th : Nat) (WD WM : va_W) (of : Nat → Int64) (og : Nat → UInt64), va_P G.1 CL ([(o, .inl (G.2 5, 1, .inr (.inl of))), (oD, .inl (G.2 6, 1, .inr (.inr (.inr (.inl og)))))] ++ (WD ++ (WM ++ []))) H → va_D A ([(o, .inl (G.2 5, 1, .inr (.inl of))), (oD, .inl (G.2 6, 1, .inr (.inr (.inr (.inl og)))))] ++ (WD ++ (WM ++ []))) → va_S A s.heap H locs → lv_has ls 10 [(0, .ref b), (1, .ref d), (2, .ref m0), (3, .ref o), (4, .ref oD), (5, .int (nI i9))] → DyW G d C WD → MdW G m0 M th WM → LawI C M (N + 1) → W p l e room_1 s m #[Value.ref b] below meth c H locs (cl + 20000) (sl + 45000) Q (F0 m 2788 ls [])) {ls : Array Slot} {H : Heap} {locs : List Loc} {C M : DS} {th : Nat} {WD WM : va_W} {of : Nat → Int64} {og : Nat → UInt64} (hP : va_P G.1 CL ([(o, .inl (G.2 5, 1, .inr (.inl of))), (oD, .inl (G.2 6, 1, .inr (.inr (.inr (.inl og)))))] ++ (WD ++ (WM ++ []))) H) (hD : va_D A ([(o, .inl (G.2 5, 1, .inr (.inl of))), (oD, .inl (G.2 6, 1, .inr (.inr (.inr (.inl og)))))] ++ (WD ++ (WM ++ [])))) (hS : va_S A s.heap H locs) (hl : lv_has ls 10 [(0, .ref b), (1, .ref d), (2, .ref m0), (3, .ref o), (4, .ref oD), (5, .int (nI i9))]) (hDy : DyW G d C WD) (hMd : MdW G m0 M th WM) (hLw : LawI C M N) : W p l e room_1 s m #[Value.ref b] below meth c H locs cl sl Q (F0 m 2575 ls []) := by
  obtain ⟨cf, hKB, hE, hA, hX9, hbl, hbA, hNc, hL96⟩ := F
  have hx := cf.1
  have hb := cf.2.1
  have hml := cf.2.2.1
  have hown : s.vm.findClass RX0 = some m.cls := cf.2.2.2.1
  have hts := cf.2.2.2.2
  have hK := hKB.1
  have hIc := hDy.inv.1
  have hIm : Inv (dC M) := Inv_sim hLw.1 hIc
  have hRk : RkOk (dC M) := RkOk_sim hLw.1 (RkOk_srt hDy.inv.2.2)
  have hl := hl
  refine lv_aload_n hx hb dL_law_2575 rfl (lv_at hl 1 rfl) ?_
  refine lv_aload_n hx hb dL_law_2576 rfl (lv_at hl 0 rfl) ?_
  refine lv_iload hx hb dL_law_2577 (lv_at hl 5 rfl) ?_
  refine lv_iconst (v := nI 1) hx hb dL_law_2579 (by decide) ?_
  refine lv_iadd hx hb dL_law_2580 ?_
  refine lv_ton (n := i9 + 1) (nadd (by omega)) ?_
  refine va_sld hx hb hX9 hbl hbA hS (i := nI (i9 + 1)) (vp9 (by omega) hL96) dL_law_2581 ?_
  refine W.eq (g2 := F0 m 2582 ls [.int (sx9 xs (i9 + 1)), .ref d]) rfl ?_
  refine lv_aload_n hx hb dL_law_2582 rfl (lv_at hl 3 rfl) ?_
  have hpm_4623 : (([(o, .inl (G.2 5, 1, .inr (.inl of))), (oD, .inl (G.2 6, 1, .inr (.inr (.inr (.inl og)))))] ++ (WD ++ (WM ++ []))) : va_W).Perm (([(o, .inl (G.2 5, 1, .inr (.inl of)))] ++ (WD ++ [])) ++ ([(oD, .inl (G.2 6, 1, .inr (.inr (.inr (.inl og)))))] ++ (WM ++ []))) := segs_perm [[(o, .inl (G.2 5, 1, .inr (.inl of)))], [(oD, .inl (G.2 6, 1, .inr (.inr (.inr (.inl og)))))], WD, WM] [0, 2] [1, 3] rfl
  have hF := hF_ofP (wc := ([(o, .inl (G.2 5, 1, .inr (.inl of)))] ++ (WD ++ []))) hD hS hA hpm_4623
  refine go_ctP hS hP hD hpm_4623 hF
      (vx_runSW (As := [.ref d, .int (sx9 xs (i9 + 1)), .ref o]) (rest := []) cf (wX0_writeWeek l G d C WD o of (sx9 xs (i9 + 1)) (hDy) hfl H.size) (vx_cwSW 3 hts (lw_SW q1445 q1446 q46 q1447) rfl rfl rfl (by decide +kernel) ⟨Nat.le_of_ble_eq_true rfl, Nat.le_of_ble_eq_true rfl⟩) (preS_ofW hNc hKB hE hS hF (P_left (P_perm hpm_4623 hP)) ((D_left (D_perm hpm_4623 hD)).weaken (fun _ _ _ _ => trivial)) trivial) rfl rfl hl.1 rfl (lv_room (Nat.le_of_ble_eq_true rfl)) dL_law_2583 ⟨show cl + 1500 ≤ 1200144 from by first | decide | omega, show sl + 3000 ≤ 5495674 from by first | decide | omega⟩)
      (fun u_ H locs hq hph (hP : va_P G.1 CL (([(oD, .inl (G.2 6, 1, .inr (.inr (.inr (.inl og)))))] ++ (WM ++ [])) ++ ([(o, .inl (G.2 5, 1, .inr (.inl u_.1)))] ++ (u_.2.2 ++ []))) H) (hD : va_D A (([(oD, .inl (G.2 6, 1, .inr (.inr (.inr (.inl og)))))] ++ (WM ++ [])) ++ ([(o, .inl (G.2 5, 1, .inr (.inl u_.1)))] ++ (u_.2.2 ++ [])))) hS hfz hfk => ?_)
  obtain ⟨of2_4624, k_4625, W2_4626⟩ := u_
  obtain ⟨hq_4627, hq_4628⟩ : (∀ z, inR (sx9 xs (i9 + 1)) 0 (bD (dC C)) = some z → k_4625 = 0 ∧ of2_4624 0 = (nI 13).toInt64 ∧ DyW G d ((dC C, dS C, dK C, dH C, wkF (dC C) z, 13) : DS) W2_4626) ∧ (inR (sx9 xs (i9 + 1)) 0 (bD (dC C)) = none → k_4625 = 1 ∧ DyW G d C W2_4626) := hq
  have hpm_4629 : (([(oD, .inl (G.2 6, 1, .inr (.inr (.inr (.inl og)))))] ++ (WM ++ [])) ++ ([(o, .inl (G.2 5, 1, .inr (.inl of2_4624)))] ++ (W2_4626 ++ [])) : va_W).Perm ([(oD, .inl (G.2 6, 1, .inr (.inr (.inr (.inl og))))), (o, .inl (G.2 5, 1, .inr (.inl of2_4624)))] ++ (WM ++ (W2_4626 ++ []))) := segs_perm2 [[(oD, .inl (G.2 6, 1, .inr (.inr (.inr (.inl og)))))], WM] [[(o, .inl (G.2 5, 1, .inr (.inl of2_4624)))], W2_4626] [0, 2, 1, 3] rfl
  have hP : va_P G.1 CL ([(oD, .inl (G.2 6, 1, .inr (.inr (.inr (.inl og))))), (o, .inl (G.2 5, 1, .inr (.inl of2_4624)))] ++ (WM ++ (W2_4626 ++ []))) H := P_perm hpm_4629 hP
  have hD : va_D A ([(oD, .inl (G.2 6, 1, .inr (.inr (.inr (.inl og))))), (o, .inl (G.2 5, 1, .inr (.inl of2_4624)))] ++ (WM ++ (W2_4626 ++ []))) := D_perm hpm_4629 hD
  refine W.eq (g2 := F0 m 2586 ls [.int (nI k_4625)]) rfl ?_
  refine lv_istore (lv' := [(6, .int (nI k_4625)), (0, .ref b), (1, .ref d), (2, .ref m0), (3, .ref o), (4, .ref oD), (5, .int (nI i9))]) hx hb dL_law_2586 hl (by decide) rfl (fun ls hl => ?_)
  refine lv_aload_n hx hb dL_law_2588 rfl (lv_at hl 3 rfl) ?_
  refine lv_aload_n hx hb dL_law_2589 rfl (lv_at hl 1 rfl) ?_
  refine lv_iload hx hb dL_law_2590 (lv_at hl 6 rfl) ?_
  refine lv_iconst (v := nI 1) hx hb dL_law_2592 (by decide) ?_
  refine lv_iadd hx hb dL_law_2593 ?_
  refine lv_ton (n := i9 + 1) (nadd (by omega)) ?_
  refine va_sld hx hb hX9 hbl hbA hS (i := nI (i9 + 1)) (vp9 (by omega) hL96) dL_law_2594 ?_
  refine W.eq (g2 := F0 m 2595 ls [.int (sx9 xs (i9 + 1)), .ref m0]) rfl ?_
  have hpm_4630 : (([(oD, .inl (G.2 6, 1, .inr (.inr (.inr (.inl og))))), (o, .inl (G.2 5, 1, .inr (.inl of2_4624)))] ++ (WM ++ (W2_4626 ++ []))) : va_W).Perm ((WM ++ []) ++ ([(oD, .inl (G.2 6, 1, .inr (.inr (.inr (.inl og))))), (o, .inl (G.2 5, 1, .inr (.inl of2_4624)))] ++ (W2_4626 ++ []))) := segs_perm [[(oD, .inl (G.2 6, 1, .inr (.inr (.inr (.inl og)))))], [(o, .inl (G.2 5, 1, .inr (.inl of2_4624)))], WM, W2_4626] [2] [0, 1, 3] rfl
  have hF := hF_ofP (wc := (WM ++ [])) hD hS hA hpm_4630
  refine go_ctP hS hP hD hpm_4630 hF
      (va_runV (As := [.int (sx9 xs (i9 + 1))]) (rest := []) cf (eX4_writeWeek l G m0 M th WM (sx9 xs (i9 + 1)) (hMd) (hIm) H.size) (cwV 1 hts (lw_V q1938 q1939 q1940 q58 q1941) rfl rfl rfl (by decide +kernel) ⟨Nat.le_of_ble_eq_true rfl, Nat.le_of_ble_eq_true rfl⟩) (preV_of hKB hE hS hF (MdW.recv hK hMd (seg_at [[(oD, .inl (G.2 6, 1, .inr (.inr (.inr (.inl og)))))], [(o, .inl (G.2 5, 1, .inr (.inl of2_4624)))], WM, W2_4626] 2 rfl hP)) (P_left (P_perm hpm_4630 hP)) ((D_left (D_perm hpm_4630 hD)).weaken (fun _ _ _ _ => trivial)) trivial) rfl rfl hl.1 rfl (lv_room (Nat.le_of_ble_eq_true rfl)) dL_law_2595 ⟨show cl + 1500 + 0 ≤ 1200144 from by first | decide | omega, show sl + 3000 + 0 ≤ 5495674 from by first | decide | omega⟩)
      (fun u_ H locs hq hph (hP : va_P G.1 CL (([(oD, .inl (G.2 6, 1, .inr (.inr (.inr (.inl og))))), (o, .inl (G.2 5, 1, .inr (.inl of2_4624)))] ++ (W2_4626 ++ [])) ++ (u_.2 ++ [])) H) (hD : va_D A (([(oD, .inl (G.2 6, 1, .inr (.inr (.inr (.inl og))))), (o, .inl (G.2 5, 1, .inr (.inl of2_4624)))] ++ (W2_4626 ++ [])) ++ (u_.2 ++ []))) hS hfz hfk => ?_)
  obtain ⟨rr_4631, W2_4632⟩ := u_
  obtain ⟨hq_4633, hq_4634⟩ : (∀ z, inR (sx9 xs (i9 + 1)) 0 (bD (dC M)) = some z → rr_4631 = nI 13 ∧ MdW G m0 ((dC M, dS M, dK M, dH M, wkF (dC M) z, 13) : DS) 0 W2_4632) ∧ (inR (sx9 xs (i9 + 1)) 0 (bD (dC M)) = none → MdW G m0 M 1 W2_4632) := hq
  have hpm_4635 : (([(oD, .inl (G.2 6, 1, .inr (.inr (.inr (.inl og))))), (o, .inl (G.2 5, 1, .inr (.inl of2_4624)))] ++ (W2_4626 ++ [])) ++ (W2_4632 ++ []) : va_W).Perm ([(oD, .inl (G.2 6, 1, .inr (.inr (.inr (.inl og))))), (o, .inl (G.2 5, 1, .inr (.inl of2_4624)))] ++ (W2_4626 ++ (W2_4632 ++ []))) := segs_perm2 [[(oD, .inl (G.2 6, 1, .inr (.inr (.inr (.inl og)))))], [(o, .inl (G.2 5, 1, .inr (.inl of2_4624)))], W2_4626] [W2_4632] [0, 1, 2, 3] rfl
  have hP : va_P G.1 CL ([(oD, .inl (G.2 6, 1, .inr (.inr (.inr (.inl og))))), (o, .inl (G.2 5, 1, .inr (.inl of2_4624)))] ++ (W2_4626 ++ (W2_4632 ++ []))) H := P_perm hpm_4635 hP
  have hD : va_D A ([(oD, .inl (G.2 6, 1, .inr (.inr (.inr (.inl og))))), (o, .inl (G.2 5, 1, .inr (.inl of2_4624)))] ++ (W2_4626 ++ (W2_4632 ++ []))) := D_perm hpm_4635 hD
  refine W.eq (g2 := F0 m 2598 ls [.int rr_4631]) rfl ?_
  have hbd : bD (dC M) = bD (dC C) := hLw.1.bD.symm
  rcases hin : inR sx9 xs (i9 + 1) 0 (bD (dC C)) with _ | z_4636
  · obtain ⟨rfl, hDy2⟩ := hq_4628 hin
    have hMd2 := hq_4634 (by rw [hbd]; exact hin)
    refine W.eq (g2 := F0 m 2598 ls [.int rr_4631]) rfl ?_
    refine lv_istore (lv' := [(7, .int rr_4631), (6, .int (nI 1)), (0, .ref b), (1, .ref d), (2, .ref m0), (3, .ref o), (4, .ref oD), (5, .int (nI i9))]) hx hb dL_law_2598 hl (by decide) rfl (fun ls hl => ?_)
    refine lv_aload_n hx hb dL_law_2600 rfl (lv_at hl 4 rfl) ?_
    have hpm_4637 : (([(oD, .inl (G.2 6, 1, .inr (.inr (.inr (.inl og))))), (o, .inl (G.2 5, 1, .inr (.inl of2_4624)))] ++ (W2_4626 ++ (W2_4632 ++ []))) : va_W).Perm ([] ++ ([(oD, .inl (G.2 6, 1, .inr (.inr (.inr (.inl og))))), (o, .inl (G.2 5, 1, .inr (.inl of2_4624)))] ++ (W2_4626 ++ (W2_4632 ++ [])))) := segs_perm [[(oD, .inl (G.2 6, 1, .inr (.inr (.inr (.inl og)))))], [(o, .inl (G.2 5, 1, .inr (.inl of2_4624)))], W2_4626, W2_4632] [] [0, 1, 2, 3] rfl
    have hF := hF_ofP (wc := []) hD hS hA hpm_4637
    refine go_ctP hS hP hD hpm_4637 hF
        (va_runV (As := []) (rest := []) cf (eX4_thrown l G m0 M 1 W2_4632 (hMd2) H.size) (cwV 0 hts (lw_V q1639 q1640 q1641 q58 q1642) rfl rfl rfl (by decide +kernel) ⟨Nat.le_of_ble_eq_true rfl, Nat.le_of_ble_eq_true rfl⟩) (preV_of hKB hE hS hF (MdW.recv hK hMd2 (seg_at [[(oD, .inl (G.2 6, 1, .inr (.inr (.inr (.inl og)))))], [(o, .inl (G.2 5, 1, .inr (.inl of2_4624)))], W2_4626, W2_4632] 3 rfl hP)) (P_left (P_perm hpm_4637 hP)) ((D_left (D_perm hpm_4637 hD)).weaken (fun _ _ _ _ => trivial)) (roW.nil (seg_at [[(oD, .inl (G.2 6, 1, .inr (.inr (.inr (.inl og)))))], [(o, .inl (G.2 5, 1, .inr (.inl of2_4624)))], W2_4626, W2_4632] 3 rfl hP))) rfl rfl hl.1 rfl (lv_room (Nat.le_of_ble_eq_true rfl)) dL_law_2601 ⟨show cl + 1500 + 0 ≤ 1200144 from by first | decide | omega, show sl + 3000 + 0 ≤ 5495674 from by first | decide | omega⟩)
        (fun u_ H locs hq hph (hP : va_P G.1 CL (([(oD, .inl (G.2 6, 1, .inr (.inr (.inr (.inl og))))), (o, .inl (G.2 5, 1, .inr (.inl of2_4624)))] ++ (W2_4626 ++ (W2_4632 ++ []))) ++ []) H) (hD : va_D A (([(oD, .inl (G.2 6, 1, .inr (.inr (.inr (.inl og))))), (o, .inl (G.2 5, 1, .inr (.inl of2_4624)))] ++ (W2_4626 ++ (W2_4632 ++ []))) ++ [])) hS hfz hfk => ?_)
    have hpm_4638 : (([(oD, .inl (G.2 6, 1, .inr (.inr (.inr (.inl og))))), (o, .inl (G.2 5, 1, .inr (.inl of2_4624)))] ++ (W2_4626 ++ (W2_4632 ++ []))) ++ [] : va_W).Perm ([(oD, .inl (G.2 6, 1, .inr (.inr (.inr (.inl og))))), (o, .inl (G.2 5, 1, .inr (.inl of2_4624)))] ++ (W2_4626 ++ (W2_4632 ++ []))) := segs_perm2 [[(oD, .inl (G.2 6, 1, .inr (.inr (.inr (.inl og)))))], [(o, .inl (G.2 5, 1, .inr (.inl of2_4624)))], W2_4626, W2_4632] [] [0, 1, 2, 3] rfl
    have hP : va_P G.1 CL ([(oD, .inl (G.2 6, 1, .inr (.inr (.inr (.inl og))))), (o, .inl (G.2 5, 1, .inr (.inl of2_4624)))] ++ (W2_4626 ++ (W2_4632 ++ []))) H := P_perm hpm_4638 hP
    have hD : va_D A ([(oD, .inl (G.2 6, 1, .inr (.inr (.inr (.inl og))))), (o, .inl (G.2 5, 1, .inr (.inl of2_4624)))] ++ (W2_4626 ++ (W2_4632 ++ []))) := D_perm hpm_4638 hD
    refine W.eq (g2 := F0 m 2604 ls [.int (nI 1)]) rfl ?_
    refine lv_iload hx hb dL_law_2604 (lv_at hl 1 rfl) ?_
    refine lv_icmp_eq (tgt := 2611) hx hb dL_law_2606 (by decide) (fun _ => ?_) (fun c9 => absurd rfl c9)
    refine lv_iload hx hb dL_law_2611 (lv_at hl 1 rfl) ?_
    refine n_if_ne (tgt := 2628) hx hb (by omega) dL_law_2613 (by decide) (fun c_4639 => ?_) (fun c_4639 => absurd c_4639 (by omega))
    refine lv_goto (tgt := 2788) hx hb dL_law_2628 (by decide) ?_
    have hpm_4640 : (([(oD, .inl (G.2 6, 1, .inr (.inr (.inr (.inl og))))), (o, .inl (G.2 5, 1, .inr (.inl of2_4624)))] ++ (W2_4626 ++ (W2_4632 ++ []))) : va_W).Perm (([(o, .inl (G.2 5, 1, .inr (.inl of2_4624))), (oD, .inl (G.2 6, 1, .inr (.inr (.inr (.inl og)))))] ++ (W2_4626 ++ (W2_4632 ++ []))) ++ []) := segs_perm [[(oD, .inl (G.2 6, 1, .inr (.inr (.inr (.inl og)))))], [(o, .inl (G.2 5, 1, .inr (.inl of2_4624)))], W2_4626, W2_4632] [1, 0, 2, 3] [] rfl
    have hP : va_P G.1 CL ([(o, .inl (G.2 5, 1, .inr (.inl of2_4624))), (oD, .inl (G.2 6, 1, .inr (.inr (.inr (.inl og)))))] ++ (W2_4626 ++ (W2_4632 ++ []))) H := P_left (P_perm hpm_4640 hP)
    have hD : va_D A ([(o, .inl (G.2 5, 1, .inr (.inl of2_4624))), (oD, .inl (G.2 6, 1, .inr (.inr (.inr (.inl og)))))] ++ (W2_4626 ++ (W2_4632 ++ []))) := D_left (D_perm hpm_4640 hD)
    have hl := lv_sub hl [2, 3, 4, 5, 6, 7] (l' := [(0, .ref b), (1, .ref d), (2, .ref m0), (3, .ref o), (4, .ref oD), (5, .int (nI i9))]) rfl
    exact W.widen (show cl + 1500 ≤ cl + 20000 from by omega) (show sl + 3000 ≤ sl + 45000 from by omega) (kk ls H locs C M 1 W2_4626 W2_4632 of2_4624 og hP hD hS hl hDy2 hMd2 hLw.up)
  · obtain ⟨rfl, hof9, hDy2⟩ := hq_4627 z_4636 hin
    obtain ⟨hrr9, hMd2⟩ := hq_4633 z_4636 (by rw [hbd]; exact hin)
    refine lv_ton (n := 13) (hrr9) ?_
    refine lv_istore (lv' := [(7, .int (nI 13)), (6, .int (nI 0)), (0, .ref b), (1, .ref d), (2, .ref m0), (3, .ref o), (4, .ref oD), (5, .int (nI i9))]) hx hb dL_law_2598 hl (by decide) rfl (fun ls hl => ?_)
    refine lv_aload_n hx hb dL_law_2600 rfl (lv_at hl 4 rfl) ?_
    have hpm_4641 : (([(oD, .inl (G.2 6, 1, .inr (.inr (.inr (.inl og))))), (o, .inl (G.2 5, 1, .inr (.inl of2_4624)))] ++ (W2_4626 ++ (W2_4632 ++ []))) : va_W).Perm ([] ++ ([(oD, .inl (G.2 6, 1, .inr (.inr (.inr (.inl og))))), (o, .inl (G.2 5, 1, .inr (.inl of2_4624)))] ++ (W2_4626 ++ (W2_4632 ++ [])))) := segs_perm [[(oD, .inl (G.2 6, 1, .inr (.inr (.inr (.inl og)))))], [(o, .inl (G.2 5, 1, .inr (.inl of2_4624)))], W2_4626, W2_4632] [] [0, 1, 2, 3] rfl
    have hF := hF_ofP (wc := []) hD hS hA hpm_4641
    refine go_ctP hS hP hD hpm_4641 hF
        (va_runV (As := []) (rest := []) cf (eX4_thrown l G m0 ((dC M, dS M, dK M, dH M, wkF (dC M) z_4636, 13) : DS) 0 W2_4632 (hMd2) H.size) (cwV 0 hts (lw_V q1639 q1640 q1641 q58 q1642) rfl rfl rfl (by decide +kernel) ⟨Nat.le_of_ble_eq_true rfl, Nat.le_of_ble_eq_true rfl⟩) (preV_of hKB hE hS hF (MdW.recv hK hMd2 (seg_at [[(oD, .inl (G.2 6, 1, .inr (.inr (.inr (.inl og)))))], [(o, .inl (G.2 5, 1, .inr (.inl of2_4624)))], W2_4626, W2_4632] 3 rfl hP)) (P_left (P_perm hpm_4641 hP)) ((D_left (D_perm hpm_4641 hD)).weaken (fun _ _ _ _ => trivial)) (roW.nil (seg_at [[(oD, .inl (G.2 6, 1, .inr (.inr (.inr (.inl og)))))], [(o, .inl (G.2 5, 1, .inr (.inl of2_4624)))], W2_4626, W2_4632] 3 rfl hP))) rfl rfl hl.1 rfl (lv_room (Nat.le_of_ble_eq_true rfl)) dL_law_2601 ⟨show cl + 1500 + 0 ≤ 1200144 from by first | decide | omega, show sl + 3000 + 0 ≤ 5495674 from by first | decide | omega⟩)
        (fun u_ H locs hq hph (hP : va_P G.1 CL (([(oD, .inl (G.2 6, 1, .inr (.inr (.inr (.inl og))))), (o, .inl (G.2 5, 1, .inr (.inl of2_4624)))] ++ (W2_4626 ++ (W2_4632 ++ []))) ++ []) H) (hD : va_D A (([(oD, .inl (G.2 6, 1, .inr (.inr (.inr (.inl og))))), (o, .inl (G.2 5, 1, .inr (.inl of2_4624)))] ++ (W2_4626 ++ (W2_4632 ++ []))) ++ [])) hS hfz hfk => ?_)
    have hpm_4642 : (([(oD, .inl (G.2 6, 1, .inr (.inr (.inr (.inl og))))), (o, .inl (G.2 5, 1, .inr (.inl of2_4624)))] ++ (W2_4626 ++ (W2_4632 ++ []))) ++ [] : va_W).Perm ([(oD, .inl (G.2 6, 1, .inr (.inr (.inr (.inl og))))), (o, .inl (G.2 5, 1, .inr (.inl of2_4624)))] ++ (W2_4626 ++ (W2_4632 ++ []))) := segs_perm2 [[(oD, .inl (G.2 6, 1, .inr (.inr (.inr (.inl og)))))], [(o, .inl (G.2 5, 1, .inr (.inl of2_4624)))], W2_4626, W2_4632] [] [0, 1, 2, 3] rfl
    have hP : va_P G.1 CL ([(oD, .inl (G.2 6, 1, .inr (.inr (.inr (.inl og))))), (o, .inl (G.2 5, 1, .inr (.inl of2_4624)))] ++ (W2_4626 ++ (W2_4632 ++ []))) H := P_perm hpm_4642 hP
    have hD : va_D A ([(oD, .inl (G.2 6, 1, .inr (.inr (.inr (.inl og))))), (o, .inl (G.2 5, 1, .inr (.inl of2_4624)))] ++ (W2_4626 ++ (W2_4632 ++ []))) := D_perm hpm_4642 hD
    refine W.eq (g2 := F0 m 2604 ls [.int (nI 0)]) rfl ?_
    refine lv_iload hx hb dL_law_2604 (lv_at hl 1 rfl) ?_
    refine lv_icmp_eq (tgt := 2611) hx hb dL_law_2606 (by decide) (fun _ => ?_) (fun c9 => absurd rfl c9)
    refine lv_iload hx hb dL_law_2611 (lv_at hl 1 rfl) ?_
    refine n_if_ne (tgt := 2628) hx hb (by omega) dL_law_2613 (by decide) (fun c_4643 => absurd c_4643 (by omega)) (fun c_4643 => ?_)
    refine lv_aload_n hx hb dL_law_2616 rfl (lv_at hl 5 rfl) ?_
    refine lv_iconst (v := nI 0) hx hb dL_law_2617 (by decide) ?_
    refine r_lald (v := (nI 13).toInt64) hx hb hK hP 1 5 rfl rfl (i := 0) (by omega) (by omega) (hof9) dL_law_2618 ?_
    refine lv_iload hx hb dL_law_2619 (lv_at hl 0 rfl) ?_
    refine lv_i2l (v := (nI 13).toInt64) hx hb dL_law_2621 rfl ?_
    refine W.lcmp hx hb dL_law_2622 ?_
    refine lv_ton (n := 0) (lcmp0 _) ?_
    refine n_if_eq (tgt := 2628) hx hb (by omega) dL_law_2623 (by decide) (fun c_4644 => ?_) (fun c_4644 => absurd c_4644 (by omega))
    refine lv_goto (tgt := 2788) hx hb dL_law_2628 (by decide) ?_
    have hpm_4645 : (([(oD, .inl (G.2 6, 1, .inr (.inr (.inr (.inl og))))), (o, .inl (G.2 5, 1, .inr (.inl of2_4624)))] ++ (W2_4626 ++ (W2_4632 ++ []))) : va_W).Perm (([(o, .inl (G.2 5, 1, .inr (.inl of2_4624))), (oD, .inl (G.2 6, 1, .inr (.inr (.inr (.inl og)))))] ++ (W2_4626 ++ (W2_4632 ++ []))) ++ []) := segs_perm [[(oD, .inl (G.2 6, 1, .inr (.inr (.inr (.inl og)))))], [(o, .inl (G.2 5, 1, .inr (.inl of2_4624)))], W2_4626, W2_4632] [1, 0, 2, 3] [] rfl
    have hP : va_P G.1 CL ([(o, .inl (G.2 5, 1, .inr (.inl of2_4624))), (oD, .inl (G.2 6, 1, .inr (.inr (.inr (.inl og)))))] ++ (W2_4626 ++ (W2_4632 ++ []))) H := P_left (P_perm hpm_4645 hP)
    have hD : va_D A ([(o, .inl (G.2 5, 1, .inr (.inl of2_4624))), (oD, .inl (G.2 6, 1, .inr (.inr (.inr (.inl og)))))] ++ (W2_4626 ++ (W2_4632 ++ []))) := D_left (D_perm hpm_4645 hD)
    have hl := lv_sub hl [2, 3, 4, 5, 6, 7] (l' := [(0, .ref b), (1, .ref d), (2, .ref m0), (3, .ref o), (4, .ref oD), (5, .int (nI i9))]) rfl
    exact W.widen (show cl + 1500 ≤ cl + 20000 from by omega) (show sl + 3000 ≤ sl + 45000 from by omega) (kk ls H locs ((dC C, dS C, dK C, dH C, wkF (dC C) z_4636, 13) : DS) ((dC M, dS M, dK M, dH M, wkF (dC M) z_4636, 13) : DS) 0 W2_4626 W2_4632 of2_4624 og hP hD hS hl hDy2 hMd2 (hLw.week hIc))

set_option maxHeartbeats 4000000 in
theorem lawK_47 {p : Program} {l : Launch} {e : Env} {s : State} {m : MethodId} {below : List Frame} {meth : Method} {c : Code} {G : Gt} {A : Nat → Prop} {b L : Nat} {xs : Nat → Int32} {Q : State → Prop} {d m0 o oD i9 N cl sl : Nat} (hfl : l.stackTraces = false) (F : LwF G A p s m c b L xs) (hi9 : i9 + 4 ≤ L) (hN24 : N ≤ 24) (hcl : cl + 20000 ≤ 1200144) (hsl : sl + 45000 ≤ 5495674) (kk : ∀ (ls : Array Slot) (H : Heap) (locs : List Loc) (C M : DS) (th : Nat) (WD WM : va_W) (of : Nat → Int64) (og : Nat → UInt64), va_P G.1 CL ([(o, .inl (G.2 5, 1, .inr (.inl of))), (oD, .inl (G.2 6, 1, .inr (.inr (.inr (.inl og)))))] ++ (WD ++ (WM ++ []))) H → va_D A ([(o, .inl (G.2 5, 1, .inr (.inl of))), (oD, .inl (G.2 6, 1, .inr (.inr (.inr (.inl og)))))] ++ (WD ++ (WM ++ []))) → va_S A s.heap H locs → lv_has ls 10 [(0, .ref b), (1, .ref d), (2, .ref m0), (3, .ref o), (4, .ref oD), (5, .int (nI i9))] → DyW G d C WD → MdW G m0 M th WM → LawI C M (N + 1) → W p l e room_1 s m #[Value.ref b] below meth c H locs (cl + 20000) (sl + 45000) Q (F0 m 2788 ls [])) {ls : Array Slot} {H : Heap} {locs : List Loc} {C M : DS} {th : Nat} {WD WM : va_W} {of : Nat → Int64} {og : Nat → UInt64} (hP : va_P G.1 CL ([(o, .inl (G.2 5, 1, .inr (.inl of))), (oD, .inl (G.2 6, 1, .inr (.inr (.inr (.inl og)))))] ++ (WD ++ (WM ++ []))) H) (hD : va_D A ([(o, .inl (G.2 5, 1, .inr (.inl of))), (oD, .inl (G.2 6, 1, .inr (.inr (.inr (.inl og)))))] ++ (WD ++ (WM ++ [])))) (hS : va_S A s.heap H locs) (hl : lv_has ls 10 [(0, .ref b), (1, .ref d), (2, .ref m0), (3, .ref o), (4, .ref oD), (5, .int (nI i9))]) (hDy : DyW G d C WD) (hMd : MdW G m0 M th WM) (hLw : LawI C M N) : W p l e room_1 s m #[Value.ref b] below meth c H locs cl sl Q (F0 m 2631 ls []) := by
  obtain ⟨cf, hKB, hE, hA, hX9, hbl, hbA, hNc, hL96⟩ := F
  have hx := cf.1
  have hb := cf.2.1
  have hml := cf.2.2.1
  have hown : s.vm.findClass RX0 = some m.cls := cf.2.2.2.1
  have hts := cf.2.2.2.2
  have hK := hKB.1
  have hIc := hDy.inv.1
  have hIm : Inv (dC M) := Inv_sim hLw.1 hIc
  have hRk : RkOk (dC M) := RkOk_sim hLw.1 (RkOk_srt hDy.inv.2.2)
  have hl := hl
  refine lv_aload_n hx hb dL_law_2631 rfl (lv_at hl 1 rfl) ?_
  refine lv_aload_n hx hb dL_law_2632 rfl (lv_at hl 0 rfl) ?_
  refine lv_iload hx hb dL_law_2633 (lv_at hl 5 rfl) ?_
  refine lv_iconst (v := nI 1) hx hb dL_law_2635 (by decide) ?_
  refine lv_iadd hx hb dL_law_2636 ?_
  refine lv_ton (n := i9 + 1) (nadd (by omega)) ?_
  refine va_sld hx hb hX9 hbl hbA hS (i := nI (i9 + 1)) (vp9 (by omega) hL96) dL_law_2637 ?_
  refine W.eq (g2 := F0 m 2638 ls [.int (sx9 xs (i9 + 1)), .ref d]) rfl ?_
  refine lv_aload_n hx hb dL_law_2638 rfl (lv_at hl 3 rfl) ?_
  have hpm_4646 : (([(o, .inl (G.2 5, 1, .inr (.inl of))), (oD, .inl (G.2 6, 1, .inr (.inr (.inr (.inl og)))))] ++ (WD ++ (WM ++ []))) : va_W).Perm (([(o, .inl (G.2 5, 1, .inr (.inl of)))] ++ (WD ++ [])) ++ ([(oD, .inl (G.2 6, 1, .inr (.inr (.inr (.inl og)))))] ++ (WM ++ []))) := segs_perm [[(o, .inl (G.2 5, 1, .inr (.inl of)))], [(oD, .inl (G.2 6, 1, .inr (.inr (.inr (.inl og)))))], WD, WM] [0, 2] [1, 3] rfl
  have hF := hF_ofP (wc := ([(o, .inl (G.2 5, 1, .inr (.inl of)))] ++ (WD ++ []))) hD hS hA hpm_4646
  refine go_ctP hS hP hD hpm_4646 hF
      (vx_runSW (As := [.ref d, .int (sx9 xs (i9 + 1)), .ref o]) (rest := []) cf (wX0_lineAt l G d C WD o of (sx9 xs (i9 + 1)) (hDy) hfl H.size) (vx_cwSW 3 hts (lw_SW q1534 q1535 q46 q1536) rfl rfl rfl (by decide +kernel) ⟨Nat.le_of_ble_eq_true rfl, Nat.le_of_ble_eq_true rfl⟩) (preS_ofW hNc hKB hE hS hF (P_left (P_perm hpm_4646 hP)) ((D_left (D_perm hpm_4646 hD)).weaken (fun _ _ _ _ => trivial)) trivial) rfl rfl hl.1 rfl (lv_room (Nat.le_of_ble_eq_true rfl)) dL_law_2639 ⟨show cl + 2 ≤ 1200144 from by first | decide | omega, show sl + 8 ≤ 5495674 from by first | decide | omega⟩)
      (fun u_ H locs hq hph (hP : va_P G.1 CL (([(oD, .inl (G.2 6, 1, .inr (.inr (.inr (.inl og)))))] ++ (WM ++ [])) ++ ([(o, .inl (G.2 5, 1, .inr (.inl u_.1)))] ++ (u_.2 ++ []))) H) (hD : va_D A (([(oD, .inl (G.2 6, 1, .inr (.inr (.inr (.inl og)))))] ++ (WM ++ [])) ++ ([(o, .inl (G.2 5, 1, .inr (.inl u_.1)))] ++ (u_.2 ++ [])))) hS hfz hfk => ?_)
  obtain ⟨of2_4647, W2_4648⟩ := u_
  obtain ⟨hq_4649, hq_4650, hq_4651⟩ : ((q_line (dL C) (dN C) (sx9 xs (i9 + 1))).1 = 0 → of2_4647 0 = ((q_line (dL C) (dN C) (sx9 xs (i9 + 1))).2).toInt64) ∧ (q_line (dL C) (dN C) (sx9 xs (i9 + 1))).1 < 10 ∧ DyW G d C W2_4648 := hq
  have hpm_4652 : (([(oD, .inl (G.2 6, 1, .inr (.inr (.inr (.inl og)))))] ++ (WM ++ [])) ++ ([(o, .inl (G.2 5, 1, .inr (.inl of2_4647)))] ++ (W2_4648 ++ [])) : va_W).Perm ([(oD, .inl (G.2 6, 1, .inr (.inr (.inr (.inl og))))), (o, .inl (G.2 5, 1, .inr (.inl of2_4647)))] ++ (WM ++ (W2_4648 ++ []))) := segs_perm2 [[(oD, .inl (G.2 6, 1, .inr (.inr (.inr (.inl og)))))], WM] [[(o, .inl (G.2 5, 1, .inr (.inl of2_4647)))], W2_4648] [0, 2, 1, 3] rfl
  have hP : va_P G.1 CL ([(oD, .inl (G.2 6, 1, .inr (.inr (.inr (.inl og))))), (o, .inl (G.2 5, 1, .inr (.inl of2_4647)))] ++ (WM ++ (W2_4648 ++ []))) H := P_perm hpm_4652 hP
  have hD : va_D A ([(oD, .inl (G.2 6, 1, .inr (.inr (.inr (.inl og))))), (o, .inl (G.2 5, 1, .inr (.inl of2_4647)))] ++ (WM ++ (W2_4648 ++ []))) := D_perm hpm_4652 hD
  refine W.eq (g2 := F0 m 2642 ls [.int (nI (((q_line (dL C) (dN C) (sx9 xs (i9 + 1)))).1))]) rfl ?_
  have hqs : (q_line (dL M) (dN M) (sx9 xs (i9 + 1))) = (q_line (dL C) (dN C) (sx9 xs (i9 + 1))) := (hLw.line (by have := hDy.line13; omega) (sx9 xs (i9 + 1))).symm
  refine lv_istore (lv' := [(6, .int (nI (((q_line (dL C) (dN C) (sx9 xs (i9 + 1)))).1))), (0, .ref b), (1, .ref d), (2, .ref m0), (3, .ref o), (4, .ref oD), (5, .int (nI i9))]) hx hb dL_law_2642 hl (by decide) rfl (fun ls hl => ?_)
  refine lv_aload_n hx hb dL_law_2644 rfl (lv_at hl 3 rfl) ?_
  refine lv_aload_n hx hb dL_law_2645 rfl (lv_at hl 1 rfl) ?_
  refine lv_iload hx hb dL_law_2646 (lv_at hl 6 rfl) ?_
  refine lv_iconst (v := nI 1) hx hb dL_law_2648 (by decide) ?_
  refine lv_iadd hx hb dL_law_2649 ?_
  refine lv_ton (n := i9 + 1) (nadd (by omega)) ?_
  refine va_sld hx hb hX9 hbl hbA hS (i := nI (i9 + 1)) (vp9 (by omega) hL96) dL_law_2650 ?_
  refine W.eq (g2 := F0 m 2651 ls [.int (sx9 xs (i9 + 1)), .ref m0]) rfl ?_
  have hpm_4653 : (([(oD, .inl (G.2 6, 1, .inr (.inr (.inr (.inl og))))), (o, .inl (G.2 5, 1, .inr (.inl of2_4647)))] ++ (WM ++ (W2_4648 ++ []))) : va_W).Perm ((WM ++ []) ++ ([(oD, .inl (G.2 6, 1, .inr (.inr (.inr (.inl og))))), (o, .inl (G.2 5, 1, .inr (.inl of2_4647)))] ++ (W2_4648 ++ []))) := segs_perm [[(oD, .inl (G.2 6, 1, .inr (.inr (.inr (.inl og)))))], [(o, .inl (G.2 5, 1, .inr (.inl of2_4647)))], WM, W2_4648] [2] [0, 1, 3] rfl
  have hF := hF_ofP (wc := (WM ++ [])) hD hS hA hpm_4653
  refine go_ctP hS hP hD hpm_4653 hF
      (va_runV (As := [.int (sx9 xs (i9 + 1))]) (rest := []) cf (eX4_lineAt l G m0 M th WM (sx9 xs (i9 + 1)) (hMd) H.size) (cwV 1 hts (lw_V q1946 q1947 q1948 q58 q1949) rfl rfl rfl (by decide +kernel) ⟨Nat.le_of_ble_eq_true rfl, Nat.le_of_ble_eq_true rfl⟩) (preV_of hKB hE hS hF (MdW.recv hK hMd (seg_at [[(oD, .inl (G.2 6, 1, .inr (.inr (.inr (.inl og)))))], [(o, .inl (G.2 5, 1, .inr (.inl of2_4647)))], WM, W2_4648] 2 rfl hP)) (P_left (P_perm hpm_4653 hP)) ((D_left (D_perm hpm_4653 hD)).weaken (fun _ _ _ _ => trivial)) trivial) rfl rfl hl.1 rfl (lv_room (Nat.le_of_ble_eq_true rfl)) dL_law_2651 ⟨show cl + 2 + 0 ≤ 1200144 from by first | decide | omega, show sl + 8 + 0 ≤ 5495674 from by first | decide | omega⟩)
      (fun u_ H locs hq hph (hP : va_P G.1 CL (([(oD, .inl (G.2 6, 1, .inr (.inr (.inr (.inl og))))), (o, .inl (G.2 5, 1, .inr (.inl of2_4647)))] ++ (W2_4648 ++ [])) ++ (u_.2 ++ [])) H) (hD : va_D A (([(oD, .inl (G.2 6, 1, .inr (.inr (.inr (.inl og))))), (o, .inl (G.2 5, 1, .inr (.inl of2_4647)))] ++ (W2_4648 ++ [])) ++ (u_.2 ++ []))) hS hfz hfk => ?_)
  obtain ⟨rr_4654, W2_4655⟩ := u_
  obtain ⟨hq_4656, hq_4657⟩ : ((q_line (dL M) (dN M) (sx9 xs (i9 + 1))).1 = 0 → rr_4654 = (q_line (dL M) (dN M) (sx9 xs (i9 + 1))).2) ∧ MdW G m0 M (q_line (dL M) (dN M) (sx9 xs (i9 + 1))).1 W2_4655 := hq
  have hpm_4658 : (([(oD, .inl (G.2 6, 1, .inr (.inr (.inr (.inl og))))), (o, .inl (G.2 5, 1, .inr (.inl of2_4647)))] ++ (W2_4648 ++ [])) ++ (W2_4655 ++ []) : va_W).Perm ([(oD, .inl (G.2 6, 1, .inr (.inr (.inr (.inl og))))), (o, .inl (G.2 5, 1, .inr (.inl of2_4647)))] ++ (W2_4648 ++ (W2_4655 ++ []))) := segs_perm2 [[(oD, .inl (G.2 6, 1, .inr (.inr (.inr (.inl og)))))], [(o, .inl (G.2 5, 1, .inr (.inl of2_4647)))], W2_4648] [W2_4655] [0, 1, 2, 3] rfl
  have hP : va_P G.1 CL ([(oD, .inl (G.2 6, 1, .inr (.inr (.inr (.inl og))))), (o, .inl (G.2 5, 1, .inr (.inl of2_4647)))] ++ (W2_4648 ++ (W2_4655 ++ []))) H := P_perm hpm_4658 hP
  have hD : va_D A ([(oD, .inl (G.2 6, 1, .inr (.inr (.inr (.inl og))))), (o, .inl (G.2 5, 1, .inr (.inl of2_4647)))] ++ (W2_4648 ++ (W2_4655 ++ []))) := D_perm hpm_4658 hD
  refine W.eq (g2 := F0 m 2654 ls [.int rr_4654]) rfl ?_
  refine lv_istore (lv' := [(7, .int rr_4654), (6, .int (nI (((q_line (dL C) (dN C) (sx9 xs (i9 + 1)))).1))), (0, .ref b), (1, .ref d), (2, .ref m0), (3, .ref o), (4, .ref oD), (5, .int (nI i9))]) hx hb dL_law_2654 hl (by decide) rfl (fun ls hl => ?_)
  refine lv_aload_n hx hb dL_law_2656 rfl (lv_at hl 4 rfl) ?_
  have hpm_4659 : (([(oD, .inl (G.2 6, 1, .inr (.inr (.inr (.inl og))))), (o, .inl (G.2 5, 1, .inr (.inl of2_4647)))] ++ (W2_4648 ++ (W2_4655 ++ []))) : va_W).Perm ([] ++ ([(oD, .inl (G.2 6, 1, .inr (.inr (.inr (.inl og))))), (o, .inl (G.2 5, 1, .inr (.inl of2_4647)))] ++ (W2_4648 ++ (W2_4655 ++ [])))) := segs_perm [[(oD, .inl (G.2 6, 1, .inr (.inr (.inr (.inl og)))))], [(o, .inl (G.2 5, 1, .inr (.inl of2_4647)))], W2_4648, W2_4655] [] [0, 1, 2, 3] rfl
  have hF := hF_ofP (wc := []) hD hS hA hpm_4659
  refine go_ctP hS hP hD hpm_4659 hF
      (va_runV (As := []) (rest := []) cf (eX4_thrown l G m0 M ((q_line (dL M) (dN M) (sx9 xs (i9 + 1))).1) W2_4655 (hq_4657) H.size) (cwV 0 hts (lw_V q1639 q1640 q1641 q58 q1642) rfl rfl rfl (by decide +kernel) ⟨Nat.le_of_ble_eq_true rfl, Nat.le_of_ble_eq_true rfl⟩) (preV_of hKB hE hS hF (MdW.recv hK hq_4657 (seg_at [[(oD, .inl (G.2 6, 1, .inr (.inr (.inr (.inl og)))))], [(o, .inl (G.2 5, 1, .inr (.inl of2_4647)))], W2_4648, W2_4655] 3 rfl hP)) (P_left (P_perm hpm_4659 hP)) ((D_left (D_perm hpm_4659 hD)).weaken (fun _ _ _ _ => trivial)) (roW.nil (seg_at [[(oD, .inl (G.2 6, 1, .inr (.inr (.inr (.inl og)))))], [(o, .inl (G.2 5, 1, .inr (.inl of2_4647)))], W2_4648, W2_4655] 3 rfl hP))) rfl rfl hl.1 rfl (lv_room (Nat.le_of_ble_eq_true rfl)) dL_law_2657 ⟨show cl + 2 + 0 ≤ 1200144 from by first | decide | omega, show sl + 8 + 0 ≤ 5495674 from by first | decide | omega⟩)
      (fun u_ H locs hq hph (hP : va_P G.1 CL (([(oD, .inl (G.2 6, 1, .inr (.inr (.inr (.inl og))))), (o, .inl (G.2 5, 1, .inr (.inl of2_4647)))] ++ (W2_4648 ++ (W2_4655 ++ []))) ++ []) H) (hD : va_D A (([(oD, .inl (G.2 6, 1, .inr (.inr (.inr (.inl og))))), (o, .inl (G.2 5, 1, .inr (.inl of2_4647)))] ++ (W2_4648 ++ (W2_4655 ++ []))) ++ [])) hS hfz hfk => ?_)
  have hpm_4660 : (([(oD, .inl (G.2 6, 1, .inr (.inr (.inr (.inl og))))), (o, .inl (G.2 5, 1, .inr (.inl of2_4647)))] ++ (W2_4648 ++ (W2_4655 ++ []))) ++ [] : va_W).Perm ([(oD, .inl (G.2 6, 1, .inr (.inr (.inr (.inl og))))), (o, .inl (G.2 5, 1, .inr (.inl of2_4647)))] ++ (W2_4648 ++ (W2_4655 ++ []))) := segs_perm2 [[(oD, .inl (G.2 6, 1, .inr (.inr (.inr (.inl og)))))], [(o, .inl (G.2 5, 1, .inr (.inl of2_4647)))], W2_4648, W2_4655] [] [0, 1, 2, 3] rfl
  have hP : va_P G.1 CL ([(oD, .inl (G.2 6, 1, .inr (.inr (.inr (.inl og))))), (o, .inl (G.2 5, 1, .inr (.inl of2_4647)))] ++ (W2_4648 ++ (W2_4655 ++ []))) H := P_perm hpm_4660 hP
  have hD : va_D A ([(oD, .inl (G.2 6, 1, .inr (.inr (.inr (.inl og))))), (o, .inl (G.2 5, 1, .inr (.inl of2_4647)))] ++ (W2_4648 ++ (W2_4655 ++ []))) := D_perm hpm_4660 hD
  refine W.eq (g2 := F0 m 2660 ls [.int (nI ((q_line (dL M) (dN M) (sx9 xs (i9 + 1))).1))]) rfl ?_
  refine lv_ton (n := ((q_line (dL C) (dN C) (sx9 xs (i9 + 1))).1)) (congrArg nI (by rw [hqs])) ?_
  refine lv_iload hx hb dL_law_2660 (lv_at hl 1 rfl) ?_
  refine lv_icmp_eq (tgt := 2667) hx hb dL_law_2662 (by decide) (fun _ => ?_) (fun c9 => absurd rfl c9)
  refine lv_iload hx hb dL_law_2667 (lv_at hl 1 rfl) ?_
  refine n_if_ne (tgt := 2684) hx hb (by omega) dL_law_2669 (by decide) (fun c_4661 => ?_) (fun c_4661 => ?_)
  · refine lv_goto (tgt := 2788) hx hb dL_law_2684 (by decide) ?_
    have hpm_4662 : (([(oD, .inl (G.2 6, 1, .inr (.inr (.inr (.inl og))))), (o, .inl (G.2 5, 1, .inr (.inl of2_4647)))] ++ (W2_4648 ++ (W2_4655 ++ []))) : va_W).Perm (([(o, .inl (G.2 5, 1, .inr (.inl of2_4647))), (oD, .inl (G.2 6, 1, .inr (.inr (.inr (.inl og)))))] ++ (W2_4648 ++ (W2_4655 ++ []))) ++ []) := segs_perm [[(oD, .inl (G.2 6, 1, .inr (.inr (.inr (.inl og)))))], [(o, .inl (G.2 5, 1, .inr (.inl of2_4647)))], W2_4648, W2_4655] [1, 0, 2, 3] [] rfl
    have hP : va_P G.1 CL ([(o, .inl (G.2 5, 1, .inr (.inl of2_4647))), (oD, .inl (G.2 6, 1, .inr (.inr (.inr (.inl og)))))] ++ (W2_4648 ++ (W2_4655 ++ []))) H := P_left (P_perm hpm_4662 hP)
    have hD : va_D A ([(o, .inl (G.2 5, 1, .inr (.inl of2_4647))), (oD, .inl (G.2 6, 1, .inr (.inr (.inr (.inl og)))))] ++ (W2_4648 ++ (W2_4655 ++ []))) := D_left (D_perm hpm_4662 hD)
    have hl := lv_sub hl [2, 3, 4, 5, 6, 7] (l' := [(0, .ref b), (1, .ref d), (2, .ref m0), (3, .ref o), (4, .ref oD), (5, .int (nI i9))]) rfl
    exact W.widen (show cl + 2 ≤ cl + 20000 from by omega) (show sl + 8 ≤ sl + 45000 from by omega) (kk ls H locs C M ((q_line (dL M) (dN M) (sx9 xs (i9 + 1))).1) W2_4648 W2_4655 of2_4647 og hP hD hS hl hq_4651 hq_4657 hLw.up)
  · refine lv_aload_n hx hb dL_law_2672 rfl (lv_at hl 5 rfl) ?_
    refine lv_iconst (v := nI 0) hx hb dL_law_2673 (by decide) ?_
    refine r_lald (v := ((q_line (dL C) (dN C) (sx9 xs (i9 + 1))).2).toInt64) hx hb hK hP 1 5 rfl rfl (i := 0) (by omega) (by omega) ((hq_4649 (by omega))) dL_law_2674 ?_
    refine lv_iload hx hb dL_law_2675 (lv_at hl 0 rfl) ?_
    refine lv_toi (y := (q_line (dL C) (dN C) (sx9 xs (i9 + 1))).2) ((hq_4656 (by rw [hqs]; omega)).trans (by rw [hqs])) ?_
    refine lv_i2l (v := ((q_line (dL C) (dN C) (sx9 xs (i9 + 1))).2).toInt64) hx hb dL_law_2677 rfl ?_
    refine W.lcmp hx hb dL_law_2678 ?_
    refine lv_ton (n := 0) (lcmp0 _) ?_
    refine n_if_eq (tgt := 2684) hx hb (by omega) dL_law_2679 (by decide) (fun c_4663 => ?_) (fun c_4663 => absurd c_4663 (by omega))
    refine lv_goto (tgt := 2788) hx hb dL_law_2684 (by decide) ?_
    have hpm_4664 : (([(oD, .inl (G.2 6, 1, .inr (.inr (.inr (.inl og))))), (o, .inl (G.2 5, 1, .inr (.inl of2_4647)))] ++ (W2_4648 ++ (W2_4655 ++ []))) : va_W).Perm (([(o, .inl (G.2 5, 1, .inr (.inl of2_4647))), (oD, .inl (G.2 6, 1, .inr (.inr (.inr (.inl og)))))] ++ (W2_4648 ++ (W2_4655 ++ []))) ++ []) := segs_perm [[(oD, .inl (G.2 6, 1, .inr (.inr (.inr (.inl og)))))], [(o, .inl (G.2 5, 1, .inr (.inl of2_4647)))], W2_4648, W2_4655] [1, 0, 2, 3] [] rfl
    have hP : va_P G.1 CL ([(o, .inl (G.2 5, 1, .inr (.inl of2_4647))), (oD, .inl (G.2 6, 1, .inr (.inr (.inr (.inl og)))))] ++ (W2_4648 ++ (W2_4655 ++ []))) H := P_left (P_perm hpm_4664 hP)
    have hD : va_D A ([(o, .inl (G.2 5, 1, .inr (.inl of2_4647))), (oD, .inl (G.2 6, 1, .inr (.inr (.inr (.inl og)))))] ++ (W2_4648 ++ (W2_4655 ++ []))) := D_left (D_perm hpm_4664 hD)
    have hl := lv_sub hl [2, 3, 4, 5, 6, 7] (l' := [(0, .ref b), (1, .ref d), (2, .ref m0), (3, .ref o), (4, .ref oD), (5, .int (nI i9))]) rfl
    exact W.widen (show cl + 2 ≤ cl + 20000 from by omega) (show sl + 8 ≤ sl + 45000 from by omega) (kk ls H locs C M ((q_line (dL M) (dN M) (sx9 xs (i9 + 1))).1) W2_4648 W2_4655 of2_4647 og hP hD hS hl hq_4651 hq_4657 hLw.up)

set_option maxHeartbeats 4000000 in
theorem lawK_48 {p : Program} {l : Launch} {e : Env} {s : State} {m : MethodId} {below : List Frame} {meth : Method} {c : Code} {G : Gt} {A : Nat → Prop} {b L : Nat} {xs : Nat → Int32} {Q : State → Prop} {d m0 o oD i9 N cl sl : Nat} (hfl : l.stackTraces = false) (F : LwF G A p s m c b L xs) (hi9 : i9 + 4 ≤ L) (hN24 : N ≤ 24) (hcl : cl + 20000 ≤ 1200144) (hsl : sl + 45000 ≤ 5495674) (kk : ∀ (ls : Array Slot) (H : Heap) (locs : List Loc) (C M : DS) (th : Nat) (WD WM : va_W) (of : Nat → Int64) (og : Nat → UInt64), va_P G.1 CL ([(o, .inl (G.2 5, 1, .inr (.inl of))), (oD, .inl (G.2 6, 1, .inr (.inr (.inr (.inl og)))))] ++ (WD ++ (WM ++ []))) H → va_D A ([(o, .inl (G.2 5, 1, .inr (.inl of))), (oD, .inl (G.2 6, 1, .inr (.inr (.inr (.inl og)))))] ++ (WD ++ (WM ++ []))) → va_S A s.heap H locs → lv_has ls 10 [(0, .ref b), (1, .ref d), (2, .ref m0), (3, .ref o), (4, .ref oD), (5, .int (nI i9))] → DyW G d C WD → MdW G m0 M th WM → LawI C M (N + 1) → W p l e room_1 s m #[Value.ref b] below meth c H locs (cl + 20000) (sl + 45000) Q (F0 m 2788 ls [])) {ls : Array Slot} {H : Heap} {locs : List Loc} {C M : DS} {th : Nat} {WD WM : va_W} {of : Nat → Int64} {og : Nat → UInt64} (hP : va_P G.1 CL ([(o, .inl (G.2 5, 1, .inr (.inl of))), (oD, .inl (G.2 6, 1, .inr (.inr (.inr (.inl og)))))] ++ (WD ++ (WM ++ []))) H) (hD : va_D A ([(o, .inl (G.2 5, 1, .inr (.inl of))), (oD, .inl (G.2 6, 1, .inr (.inr (.inr (.inl og)))))] ++ (WD ++ (WM ++ [])))) (hS : va_S A s.heap H locs) (hl : lv_has ls 10 [(0, .ref b), (1, .ref d), (2, .ref m0), (3, .ref o), (4, .ref oD), (5, .int (nI i9))]) (hDy : DyW G d C WD) (hMd : MdW G m0 M th WM) (hLw : LawI C M N) : W p l e room_1 s m #[Value.ref b] below meth c H locs cl sl Q (F0 m 2687 ls []) := by
  obtain ⟨cf, hKB, hE, hA, hX9, hbl, hbA, hNc, hL96⟩ := F
  have hx := cf.1
  have hb := cf.2.1
  have hml := cf.2.2.1
  have hown : s.vm.findClass RX0 = some m.cls := cf.2.2.2.1
  have hts := cf.2.2.2.2
  have hK := hKB.1
  have hIc := hDy.inv.1
  have hIm : Inv (dC M) := Inv_sim hLw.1 hIc
  have hRk : RkOk (dC M) := RkOk_sim hLw.1 (RkOk_srt hDy.inv.2.2)
  have hl := hl
  refine lv_aload_n hx hb dL_law_2687 rfl (lv_at hl 1 rfl) ?_
  refine lv_aload_n hx hb dL_law_2688 rfl (lv_at hl 3 rfl) ?_
  have hpm_4665 : (([(o, .inl (G.2 5, 1, .inr (.inl of))), (oD, .inl (G.2 6, 1, .inr (.inr (.inr (.inl og)))))] ++ (WD ++ (WM ++ []))) : va_W).Perm (([(o, .inl (G.2 5, 1, .inr (.inl of)))] ++ (WD ++ [])) ++ ([(oD, .inl (G.2 6, 1, .inr (.inr (.inr (.inl og)))))] ++ (WM ++ []))) := segs_perm [[(o, .inl (G.2 5, 1, .inr (.inl of)))], [(oD, .inl (G.2 6, 1, .inr (.inr (.inr (.inl og)))))], WD, WM] [0, 2] [1, 3] rfl
  have hF := hF_ofP (wc := ([(o, .inl (G.2 5, 1, .inr (.inl of)))] ++ (WD ++ []))) hD hS hA hpm_4665
  refine go_ctP hS hP hD hpm_4665 hF
      (vx_runSW (As := [.ref d, .ref o]) (rest := []) cf (wX0_undo l G d C WD o of (hDy) hfl H.size) (vx_cwSW 2 hts (lw_SW q1551 q1552 q46 q1553) rfl rfl rfl (by decide +kernel) ⟨Nat.le_of_ble_eq_true rfl, Nat.le_of_ble_eq_true rfl⟩) (preS_ofW hNc hKB hE hS hF (P_left (P_perm hpm_4665 hP)) ((D_left (D_perm hpm_4665 hD)).weaken (fun _ _ _ _ => trivial)) trivial) rfl rfl hl.1 rfl (lv_room (Nat.le_of_ble_eq_true rfl)) dL_law_2689 ⟨show cl + 2 ≤ 1200144 from by first | decide | omega, show sl + 8 ≤ 5495674 from by first | decide | omega⟩)
      (fun u_ H locs hq hph (hP : va_P G.1 CL (([(oD, .inl (G.2 6, 1, .inr (.inr (.inr (.inl og)))))] ++ (WM ++ [])) ++ ([(o, .inl (G.2 5, 1, .inr (.inl u_.1)))] ++ (u_.2.2 ++ []))) H) (hD : va_D A (([(oD, .inl (G.2 6, 1, .inr (.inr (.inr (.inl og)))))] ++ (WM ++ [])) ++ ([(o, .inl (G.2 5, 1, .inr (.inl u_.1)))] ++ (u_.2.2 ++ [])))) hS hfz hfk => ?_)
  obtain ⟨of2_4666, k_4667, W2_4668⟩ := u_
  obtain ⟨hq_4669, hq_4670⟩ : (0 < dK C → k_4667 = 0 ∧ of2_4666 0 = (nI (dK C - 1)).toInt64 ∧ DyW G d ((dH C (dK C - 1), dS C, dK C - 1, dH C, dL C, dN C) : DS) W2_4668) ∧ (dK C = 0 → k_4667 = 1 ∧ DyW G d C W2_4668) := hq
  have hpm_4671 : (([(oD, .inl (G.2 6, 1, .inr (.inr (.inr (.inl og)))))] ++ (WM ++ [])) ++ ([(o, .inl (G.2 5, 1, .inr (.inl of2_4666)))] ++ (W2_4668 ++ [])) : va_W).Perm ([(oD, .inl (G.2 6, 1, .inr (.inr (.inr (.inl og))))), (o, .inl (G.2 5, 1, .inr (.inl of2_4666)))] ++ (WM ++ (W2_4668 ++ []))) := segs_perm2 [[(oD, .inl (G.2 6, 1, .inr (.inr (.inr (.inl og)))))], WM] [[(o, .inl (G.2 5, 1, .inr (.inl of2_4666)))], W2_4668] [0, 2, 1, 3] rfl
  have hP : va_P G.1 CL ([(oD, .inl (G.2 6, 1, .inr (.inr (.inr (.inl og))))), (o, .inl (G.2 5, 1, .inr (.inl of2_4666)))] ++ (WM ++ (W2_4668 ++ []))) H := P_perm hpm_4671 hP
  have hD : va_D A ([(oD, .inl (G.2 6, 1, .inr (.inr (.inr (.inl og))))), (o, .inl (G.2 5, 1, .inr (.inl of2_4666)))] ++ (WM ++ (W2_4668 ++ []))) := D_perm hpm_4671 hD
  refine W.eq (g2 := F0 m 2692 ls [.int (nI k_4667)]) rfl ?_
  refine lv_istore (lv' := [(6, .int (nI k_4667)), (0, .ref b), (1, .ref d), (2, .ref m0), (3, .ref o), (4, .ref oD), (5, .int (nI i9))]) hx hb dL_law_2692 hl (by decide) rfl (fun ls hl => ?_)
  refine lv_aload_n hx hb dL_law_2694 rfl (lv_at hl 3 rfl) ?_
  have hpm_4672 : (([(oD, .inl (G.2 6, 1, .inr (.inr (.inr (.inl og))))), (o, .inl (G.2 5, 1, .inr (.inl of2_4666)))] ++ (WM ++ (W2_4668 ++ []))) : va_W).Perm ((WM ++ []) ++ ([(oD, .inl (G.2 6, 1, .inr (.inr (.inr (.inl og))))), (o, .inl (G.2 5, 1, .inr (.inl of2_4666)))] ++ (W2_4668 ++ []))) := segs_perm [[(oD, .inl (G.2 6, 1, .inr (.inr (.inr (.inl og)))))], [(o, .inl (G.2 5, 1, .inr (.inl of2_4666)))], WM, W2_4668] [2] [0, 1, 3] rfl
  have hF := hF_ofP (wc := (WM ++ [])) hD hS hA hpm_4672
  refine go_ctP hS hP hD hpm_4672 hF
      (va_runV (As := []) (rest := []) cf (eX4_undo l G m0 M th WM (hMd) H.size) (cwV 0 hts (lw_V q1950 q1951 q1952 q58 q1953) rfl rfl rfl (by decide +kernel) ⟨Nat.le_of_ble_eq_true rfl, Nat.le_of_ble_eq_true rfl⟩) (preV_of hKB hE hS hF (MdW.recv hK hMd (seg_at [[(oD, .inl (G.2 6, 1, .inr (.inr (.inr (.inl og)))))], [(o, .inl (G.2 5, 1, .inr (.inl of2_4666)))], WM, W2_4668] 2 rfl hP)) (P_left (P_perm hpm_4672 hP)) ((D_left (D_perm hpm_4672 hD)).weaken (fun _ _ _ _ => trivial)) trivial) rfl rfl hl.1 rfl (lv_room (Nat.le_of_ble_eq_true rfl)) dL_law_2695 ⟨show cl + 2 + 0 ≤ 1200144 from by first | decide | omega, show sl + 8 + 0 ≤ 5495674 from by first | decide | omega⟩)
      (fun u_ H locs hq hph (hP : va_P G.1 CL (([(oD, .inl (G.2 6, 1, .inr (.inr (.inr (.inl og))))), (o, .inl (G.2 5, 1, .inr (.inl of2_4666)))] ++ (W2_4668 ++ [])) ++ (u_.2 ++ [])) H) (hD : va_D A (([(oD, .inl (G.2 6, 1, .inr (.inr (.inr (.inl og))))), (o, .inl (G.2 5, 1, .inr (.inl of2_4666)))] ++ (W2_4668 ++ [])) ++ (u_.2 ++ []))) hS hfz hfk => ?_)
  obtain ⟨rr_4673, W2_4674⟩ := u_
  obtain ⟨hq_4675, hq_4676⟩ : (0 < dK M → rr_4673 = nI (dK M - 1)) ∧ MdW G m0 (if 0 < dK M then ((dH M (dK M - 1), dS M, dK M - 1, dH M, dL M, dN M) : DS) else M) (if 0 < dK M then 0 else 1) W2_4674 := hq
  have hpm_4677 : (([(oD, .inl (G.2 6, 1, .inr (.inr (.inr (.inl og))))), (o, .inl (G.2 5, 1, .inr (.inl of2_4666)))] ++ (W2_4668 ++ [])) ++ (W2_4674 ++ []) : va_W).Perm ([(oD, .inl (G.2 6, 1, .inr (.inr (.inr (.inl og))))), (o, .inl (G.2 5, 1, .inr (.inl of2_4666)))] ++ (W2_4668 ++ (W2_4674 ++ []))) := segs_perm2 [[(oD, .inl (G.2 6, 1, .inr (.inr (.inr (.inl og)))))], [(o, .inl (G.2 5, 1, .inr (.inl of2_4666)))], W2_4668] [W2_4674] [0, 1, 2, 3] rfl
  have hP : va_P G.1 CL ([(oD, .inl (G.2 6, 1, .inr (.inr (.inr (.inl og))))), (o, .inl (G.2 5, 1, .inr (.inl of2_4666)))] ++ (W2_4668 ++ (W2_4674 ++ []))) H := P_perm hpm_4677 hP
  have hD : va_D A ([(oD, .inl (G.2 6, 1, .inr (.inr (.inr (.inl og))))), (o, .inl (G.2 5, 1, .inr (.inl of2_4666)))] ++ (W2_4668 ++ (W2_4674 ++ []))) := D_perm hpm_4677 hD
  refine W.eq (g2 := F0 m 2698 ls [.int rr_4673]) rfl ?_
  have hk9 : dK C = dK M := hLw.2.2.1
  rcases Nat.eq_zero_or_pos (dK C) with h0 | h0
  · obtain ⟨rfl, hDy2⟩ := hq_4670 h0
    have hMd2 := hq_4676
    rw [if_neg (show ¬ 0 < dK M by omega), if_neg (show ¬ 0 < dK M by omega)] at hMd2
    refine W.eq (g2 := F0 m 2698 ls [.int rr_4673]) rfl ?_
    refine lv_istore (lv' := [(7, .int rr_4673), (6, .int (nI 1)), (0, .ref b), (1, .ref d), (2, .ref m0), (3, .ref o), (4, .ref oD), (5, .int (nI i9))]) hx hb dL_law_2698 hl (by decide) rfl (fun ls hl => ?_)
    refine lv_aload_n hx hb dL_law_2700 rfl (lv_at hl 4 rfl) ?_
    have hpm_4678 : (([(oD, .inl (G.2 6, 1, .inr (.inr (.inr (.inl og))))), (o, .inl (G.2 5, 1, .inr (.inl of2_4666)))] ++ (W2_4668 ++ (W2_4674 ++ []))) : va_W).Perm ([] ++ ([(oD, .inl (G.2 6, 1, .inr (.inr (.inr (.inl og))))), (o, .inl (G.2 5, 1, .inr (.inl of2_4666)))] ++ (W2_4668 ++ (W2_4674 ++ [])))) := segs_perm [[(oD, .inl (G.2 6, 1, .inr (.inr (.inr (.inl og)))))], [(o, .inl (G.2 5, 1, .inr (.inl of2_4666)))], W2_4668, W2_4674] [] [0, 1, 2, 3] rfl
    have hF := hF_ofP (wc := []) hD hS hA hpm_4678
    refine go_ctP hS hP hD hpm_4678 hF
        (va_runV (As := []) (rest := []) cf (eX4_thrown l G m0 M 1 W2_4674 (hMd2) H.size) (cwV 0 hts (lw_V q1639 q1640 q1641 q58 q1642) rfl rfl rfl (by decide +kernel) ⟨Nat.le_of_ble_eq_true rfl, Nat.le_of_ble_eq_true rfl⟩) (preV_of hKB hE hS hF (MdW.recv hK hMd2 (seg_at [[(oD, .inl (G.2 6, 1, .inr (.inr (.inr (.inl og)))))], [(o, .inl (G.2 5, 1, .inr (.inl of2_4666)))], W2_4668, W2_4674] 3 rfl hP)) (P_left (P_perm hpm_4678 hP)) ((D_left (D_perm hpm_4678 hD)).weaken (fun _ _ _ _ => trivial)) (roW.nil (seg_at [[(oD, .inl (G.2 6, 1, .inr (.inr (.inr (.inl og)))))], [(o, .inl (G.2 5, 1, .inr (.inl of2_4666)))], W2_4668, W2_4674] 3 rfl hP))) rfl rfl hl.1 rfl (lv_room (Nat.le_of_ble_eq_true rfl)) dL_law_2701 ⟨show cl + 2 + 0 ≤ 1200144 from by first | decide | omega, show sl + 8 + 0 ≤ 5495674 from by first | decide | omega⟩)
        (fun u_ H locs hq hph (hP : va_P G.1 CL (([(oD, .inl (G.2 6, 1, .inr (.inr (.inr (.inl og))))), (o, .inl (G.2 5, 1, .inr (.inl of2_4666)))] ++ (W2_4668 ++ (W2_4674 ++ []))) ++ []) H) (hD : va_D A (([(oD, .inl (G.2 6, 1, .inr (.inr (.inr (.inl og))))), (o, .inl (G.2 5, 1, .inr (.inl of2_4666)))] ++ (W2_4668 ++ (W2_4674 ++ []))) ++ [])) hS hfz hfk => ?_)
    have hpm_4679 : (([(oD, .inl (G.2 6, 1, .inr (.inr (.inr (.inl og))))), (o, .inl (G.2 5, 1, .inr (.inl of2_4666)))] ++ (W2_4668 ++ (W2_4674 ++ []))) ++ [] : va_W).Perm ([(oD, .inl (G.2 6, 1, .inr (.inr (.inr (.inl og))))), (o, .inl (G.2 5, 1, .inr (.inl of2_4666)))] ++ (W2_4668 ++ (W2_4674 ++ []))) := segs_perm2 [[(oD, .inl (G.2 6, 1, .inr (.inr (.inr (.inl og)))))], [(o, .inl (G.2 5, 1, .inr (.inl of2_4666)))], W2_4668, W2_4674] [] [0, 1, 2, 3] rfl
    have hP : va_P G.1 CL ([(oD, .inl (G.2 6, 1, .inr (.inr (.inr (.inl og))))), (o, .inl (G.2 5, 1, .inr (.inl of2_4666)))] ++ (W2_4668 ++ (W2_4674 ++ []))) H := P_perm hpm_4679 hP
    have hD : va_D A ([(oD, .inl (G.2 6, 1, .inr (.inr (.inr (.inl og))))), (o, .inl (G.2 5, 1, .inr (.inl of2_4666)))] ++ (W2_4668 ++ (W2_4674 ++ []))) := D_perm hpm_4679 hD
    refine W.eq (g2 := F0 m 2704 ls [.int (nI 1)]) rfl ?_
    refine lv_iload hx hb dL_law_2704 (lv_at hl 1 rfl) ?_
    refine lv_icmp_eq (tgt := 2711) hx hb dL_law_2706 (by decide) (fun _ => ?_) (fun c9 => absurd rfl c9)
    refine lv_iload hx hb dL_law_2711 (lv_at hl 1 rfl) ?_
    refine n_if_ne (tgt := 2728) hx hb (by omega) dL_law_2713 (by decide) (fun c_4680 => ?_) (fun c_4680 => absurd c_4680 (by omega))
    refine lv_goto (tgt := 2788) hx hb dL_law_2728 (by decide) ?_
    have hpm_4681 : (([(oD, .inl (G.2 6, 1, .inr (.inr (.inr (.inl og))))), (o, .inl (G.2 5, 1, .inr (.inl of2_4666)))] ++ (W2_4668 ++ (W2_4674 ++ []))) : va_W).Perm (([(o, .inl (G.2 5, 1, .inr (.inl of2_4666))), (oD, .inl (G.2 6, 1, .inr (.inr (.inr (.inl og)))))] ++ (W2_4668 ++ (W2_4674 ++ []))) ++ []) := segs_perm [[(oD, .inl (G.2 6, 1, .inr (.inr (.inr (.inl og)))))], [(o, .inl (G.2 5, 1, .inr (.inl of2_4666)))], W2_4668, W2_4674] [1, 0, 2, 3] [] rfl
    have hP : va_P G.1 CL ([(o, .inl (G.2 5, 1, .inr (.inl of2_4666))), (oD, .inl (G.2 6, 1, .inr (.inr (.inr (.inl og)))))] ++ (W2_4668 ++ (W2_4674 ++ []))) H := P_left (P_perm hpm_4681 hP)
    have hD : va_D A ([(o, .inl (G.2 5, 1, .inr (.inl of2_4666))), (oD, .inl (G.2 6, 1, .inr (.inr (.inr (.inl og)))))] ++ (W2_4668 ++ (W2_4674 ++ []))) := D_left (D_perm hpm_4681 hD)
    have hl := lv_sub hl [2, 3, 4, 5, 6, 7] (l' := [(0, .ref b), (1, .ref d), (2, .ref m0), (3, .ref o), (4, .ref oD), (5, .int (nI i9))]) rfl
    exact W.widen (show cl + 2 ≤ cl + 20000 from by omega) (show sl + 8 ≤ sl + 45000 from by omega) (kk ls H locs C M 1 W2_4668 W2_4674 of2_4666 og hP hD hS hl hDy2 hMd2 hLw.up)
  · obtain ⟨rfl, hof9, hDy2⟩ := hq_4669 h0
    have hMd2 := hq_4676
    rw [if_pos (show 0 < dK M by omega), if_pos (show 0 < dK M by omega)] at hMd2
    refine lv_ton (n := (dK C - 1)) ((hq_4675 (by omega)).trans (congrArg nI (by omega))) ?_
    refine lv_istore (lv' := [(7, .int (nI (dK C - 1))), (6, .int (nI 0)), (0, .ref b), (1, .ref d), (2, .ref m0), (3, .ref o), (4, .ref oD), (5, .int (nI i9))]) hx hb dL_law_2698 hl (by decide) rfl (fun ls hl => ?_)
    refine lv_aload_n hx hb dL_law_2700 rfl (lv_at hl 4 rfl) ?_
    have hpm_4682 : (([(oD, .inl (G.2 6, 1, .inr (.inr (.inr (.inl og))))), (o, .inl (G.2 5, 1, .inr (.inl of2_4666)))] ++ (W2_4668 ++ (W2_4674 ++ []))) : va_W).Perm ([] ++ ([(oD, .inl (G.2 6, 1, .inr (.inr (.inr (.inl og))))), (o, .inl (G.2 5, 1, .inr (.inl of2_4666)))] ++ (W2_4668 ++ (W2_4674 ++ [])))) := segs_perm [[(oD, .inl (G.2 6, 1, .inr (.inr (.inr (.inl og)))))], [(o, .inl (G.2 5, 1, .inr (.inl of2_4666)))], W2_4668, W2_4674] [] [0, 1, 2, 3] rfl
    have hF := hF_ofP (wc := []) hD hS hA hpm_4682
    refine go_ctP hS hP hD hpm_4682 hF
        (va_runV (As := []) (rest := []) cf (eX4_thrown l G m0 ((dH M (dK M - 1), dS M, dK M - 1, dH M, dL M, dN M) : DS) 0 W2_4674 (hMd2) H.size) (cwV 0 hts (lw_V q1639 q1640 q1641 q58 q1642) rfl rfl rfl (by decide +kernel) ⟨Nat.le_of_ble_eq_true rfl, Nat.le_of_ble_eq_true rfl⟩) (preV_of hKB hE hS hF (MdW.recv hK hMd2 (seg_at [[(oD, .inl (G.2 6, 1, .inr (.inr (.inr (.inl og)))))], [(o, .inl (G.2 5, 1, .inr (.inl of2_4666)))], W2_4668, W2_4674] 3 rfl hP)) (P_left (P_perm hpm_4682 hP)) ((D_left (D_perm hpm_4682 hD)).weaken (fun _ _ _ _ => trivial)) (roW.nil (seg_at [[(oD, .inl (G.2 6, 1, .inr (.inr (.inr (.inl og)))))], [(o, .inl (G.2 5, 1, .inr (.inl of2_4666)))], W2_4668, W2_4674] 3 rfl hP))) rfl rfl hl.1 rfl (lv_room (Nat.le_of_ble_eq_true rfl)) dL_law_2701 ⟨show cl + 2 + 0 ≤ 1200144 from by first | decide | omega, show sl + 8 + 0 ≤ 5495674 from by first | decide | omega⟩)
        (fun u_ H locs hq hph (hP : va_P G.1 CL (([(oD, .inl (G.2 6, 1, .inr (.inr (.inr (.inl og))))), (o, .inl (G.2 5, 1, .inr (.inl of2_4666)))] ++ (W2_4668 ++ (W2_4674 ++ []))) ++ []) H) (hD : va_D A (([(oD, .inl (G.2 6, 1, .inr (.inr (.inr (.inl og))))), (o, .inl (G.2 5, 1, .inr (.inl of2_4666)))] ++ (W2_4668 ++ (W2_4674 ++ []))) ++ [])) hS hfz hfk => ?_)
    have hpm_4683 : (([(oD, .inl (G.2 6, 1, .inr (.inr (.inr (.inl og))))), (o, .inl (G.2 5, 1, .inr (.inl of2_4666)))] ++ (W2_4668 ++ (W2_4674 ++ []))) ++ [] : va_W).Perm ([(oD, .inl (G.2 6, 1, .inr (.inr (.inr (.inl og))))), (o, .inl (G.2 5, 1, .inr (.inl of2_4666)))] ++ (W2_4668 ++ (W2_4674 ++ []))) := segs_perm2 [[(oD, .inl (G.2 6, 1, .inr (.inr (.inr (.inl og)))))], [(o, .inl (G.2 5, 1, .inr (.inl of2_4666)))], W2_4668, W2_4674] [] [0, 1, 2, 3] rfl
    have hP : va_P G.1 CL ([(oD, .inl (G.2 6, 1, .inr (.inr (.inr (.inl og))))), (o, .inl (G.2 5, 1, .inr (.inl of2_4666)))] ++ (W2_4668 ++ (W2_4674 ++ []))) H := P_perm hpm_4683 hP
    have hD : va_D A ([(oD, .inl (G.2 6, 1, .inr (.inr (.inr (.inl og))))), (o, .inl (G.2 5, 1, .inr (.inl of2_4666)))] ++ (W2_4668 ++ (W2_4674 ++ []))) := D_perm hpm_4683 hD
    refine W.eq (g2 := F0 m 2704 ls [.int (nI 0)]) rfl ?_
    refine lv_iload hx hb dL_law_2704 (lv_at hl 1 rfl) ?_
    refine lv_icmp_eq (tgt := 2711) hx hb dL_law_2706 (by decide) (fun _ => ?_) (fun c9 => absurd rfl c9)
    refine lv_iload hx hb dL_law_2711 (lv_at hl 1 rfl) ?_
    refine n_if_ne (tgt := 2728) hx hb (by omega) dL_law_2713 (by decide) (fun c_4684 => absurd c_4684 (by omega)) (fun c_4684 => ?_)
    refine lv_aload_n hx hb dL_law_2716 rfl (lv_at hl 5 rfl) ?_
    refine lv_iconst (v := nI 0) hx hb dL_law_2717 (by decide) ?_
    refine r_lald (v := (nI (dK C - 1)).toInt64) hx hb hK hP 1 5 rfl rfl (i := 0) (by omega) (by omega) (hof9) dL_law_2718 ?_
    refine lv_iload hx hb dL_law_2719 (lv_at hl 0 rfl) ?_
    refine lv_i2l (v := (nI (dK C - 1)).toInt64) hx hb dL_law_2721 rfl ?_
    refine W.lcmp hx hb dL_law_2722 ?_
    refine lv_ton (n := 0) (lcmp0 _) ?_
    refine n_if_eq (tgt := 2728) hx hb (by omega) dL_law_2723 (by decide) (fun c_4685 => ?_) (fun c_4685 => absurd c_4685 (by omega))
    refine lv_goto (tgt := 2788) hx hb dL_law_2728 (by decide) ?_
    have hpm_4686 : (([(oD, .inl (G.2 6, 1, .inr (.inr (.inr (.inl og))))), (o, .inl (G.2 5, 1, .inr (.inl of2_4666)))] ++ (W2_4668 ++ (W2_4674 ++ []))) : va_W).Perm (([(o, .inl (G.2 5, 1, .inr (.inl of2_4666))), (oD, .inl (G.2 6, 1, .inr (.inr (.inr (.inl og)))))] ++ (W2_4668 ++ (W2_4674 ++ []))) ++ []) := segs_perm [[(oD, .inl (G.2 6, 1, .inr (.inr (.inr (.inl og)))))], [(o, .inl (G.2 5, 1, .inr (.inl of2_4666)))], W2_4668, W2_4674] [1, 0, 2, 3] [] rfl
    have hP : va_P G.1 CL ([(o, .inl (G.2 5, 1, .inr (.inl of2_4666))), (oD, .inl (G.2 6, 1, .inr (.inr (.inr (.inl og)))))] ++ (W2_4668 ++ (W2_4674 ++ []))) H := P_left (P_perm hpm_4686 hP)
    have hD : va_D A ([(o, .inl (G.2 5, 1, .inr (.inl of2_4666))), (oD, .inl (G.2 6, 1, .inr (.inr (.inr (.inl og)))))] ++ (W2_4668 ++ (W2_4674 ++ []))) := D_left (D_perm hpm_4686 hD)
    have hl := lv_sub hl [2, 3, 4, 5, 6, 7] (l' := [(0, .ref b), (1, .ref d), (2, .ref m0), (3, .ref o), (4, .ref oD), (5, .int (nI i9))]) rfl
    exact W.widen (show cl + 2 ≤ cl + 20000 from by omega) (show sl + 8 ≤ sl + 45000 from by omega) (kk ls H locs ((dH C (dK C - 1), dS C, dK C - 1, dH C, dL C, dN C) : DS) ((dH M (dK M - 1), dS M, dK M - 1, dH M, dL M, dN M) : DS) 0 W2_4668 W2_4674 of2_4666 og hP hD hS hl hDy2 hMd2 (hLw.undo h0))

set_option maxHeartbeats 4000000 in
theorem lawK_49 {p : Program} {l : Launch} {e : Env} {s : State} {m : MethodId} {below : List Frame} {meth : Method} {c : Code} {G : Gt} {A : Nat → Prop} {b L : Nat} {xs : Nat → Int32} {Q : State → Prop} {d m0 o oD i9 N cl sl : Nat} (hfl : l.stackTraces = false) (F : LwF G A p s m c b L xs) (hi9 : i9 + 4 ≤ L) (hN24 : N ≤ 24) (hcl : cl + 20000 ≤ 1200144) (hsl : sl + 45000 ≤ 5495674) (kk : ∀ (ls : Array Slot) (H : Heap) (locs : List Loc) (C M : DS) (th : Nat) (WD WM : va_W) (of : Nat → Int64) (og : Nat → UInt64), va_P G.1 CL ([(o, .inl (G.2 5, 1, .inr (.inl of))), (oD, .inl (G.2 6, 1, .inr (.inr (.inr (.inl og)))))] ++ (WD ++ (WM ++ []))) H → va_D A ([(o, .inl (G.2 5, 1, .inr (.inl of))), (oD, .inl (G.2 6, 1, .inr (.inr (.inr (.inl og)))))] ++ (WD ++ (WM ++ []))) → va_S A s.heap H locs → lv_has ls 10 [(0, .ref b), (1, .ref d), (2, .ref m0), (3, .ref o), (4, .ref oD), (5, .int (nI i9))] → DyW G d C WD → MdW G m0 M th WM → LawI C M (N + 1) → W p l e room_1 s m #[Value.ref b] below meth c H locs (cl + 20000) (sl + 45000) Q (F0 m 2788 ls [])) {ls : Array Slot} {H : Heap} {locs : List Loc} {C M : DS} {th : Nat} {WD WM : va_W} {of : Nat → Int64} {og : Nat → UInt64} (hP : va_P G.1 CL ([(o, .inl (G.2 5, 1, .inr (.inl of))), (oD, .inl (G.2 6, 1, .inr (.inr (.inr (.inl og)))))] ++ (WD ++ (WM ++ []))) H) (hD : va_D A ([(o, .inl (G.2 5, 1, .inr (.inl of))), (oD, .inl (G.2 6, 1, .inr (.inr (.inr (.inl og)))))] ++ (WD ++ (WM ++ [])))) (hS : va_S A s.heap H locs) (hl : lv_has ls 10 [(0, .ref b), (1, .ref d), (2, .ref m0), (3, .ref o), (4, .ref oD), (5, .int (nI i9))]) (hDy : DyW G d C WD) (hMd : MdW G m0 M th WM) (hLw : LawI C M N) : W p l e room_1 s m #[Value.ref b] below meth c H locs cl sl Q (F0 m 2731 ls []) := by
  obtain ⟨cf, hKB, hE, hA, hX9, hbl, hbA, hNc, hL96⟩ := F
  have hx := cf.1
  have hb := cf.2.1
  have hml := cf.2.2.1
  have hown : s.vm.findClass RX0 = some m.cls := cf.2.2.2.1
  have hts := cf.2.2.2.2
  have hK := hKB.1
  have hIc := hDy.inv.1
  have hIm : Inv (dC M) := Inv_sim hLw.1 hIc
  have hRk : RkOk (dC M) := RkOk_sim hLw.1 (RkOk_srt hDy.inv.2.2)
  have hl := hl
  refine lv_aload_n hx hb dL_law_2731 rfl (lv_at hl 1 rfl) ?_
  have hpm_4687 : (([(o, .inl (G.2 5, 1, .inr (.inl of))), (oD, .inl (G.2 6, 1, .inr (.inr (.inr (.inl og)))))] ++ (WD ++ (WM ++ []))) : va_W).Perm ((WD ++ []) ++ ([(o, .inl (G.2 5, 1, .inr (.inl of))), (oD, .inl (G.2 6, 1, .inr (.inr (.inr (.inl og)))))] ++ (WM ++ []))) := segs_perm [[(o, .inl (G.2 5, 1, .inr (.inl of)))], [(oD, .inl (G.2 6, 1, .inr (.inr (.inr (.inl og)))))], WD, WM] [2] [0, 1, 3] rfl
  have hF := hF_ofP (wc := (WD ++ [])) hD hS hA hpm_4687
  refine go_ctP hS hP hD hpm_4687 hF
      (va_runV (As := []) (rest := []) cf (dX1_save l G d C WD (hDy) H.size) (cwV 0 hts (lw_V q673 q674 q675 q47 q676) rfl rfl rfl (by decide +kernel) ⟨Nat.le_of_ble_eq_true rfl, Nat.le_of_ble_eq_true rfl⟩) (preV_of hKB hE hS hF (DyW.recv hK hDy (seg_at [[(o, .inl (G.2 5, 1, .inr (.inl of)))], [(oD, .inl (G.2 6, 1, .inr (.inr (.inr (.inl og)))))], WD, WM] 2 rfl hP)) (P_left (P_perm hpm_4687 hP)) ((D_left (D_perm hpm_4687 hD)).weaken (fun _ _ _ _ => trivial)) trivial) rfl rfl hl.1 rfl (lv_room (Nat.le_of_ble_eq_true rfl)) dL_law_2732 ⟨show cl + 103 ≤ 1200144 from by first | decide | omega, show sl + 5800 ≤ 5495674 from by first | decide | omega⟩)
      (fun u_ H locs hq hph (hP : va_P G.1 CL (([(o, .inl (G.2 5, 1, .inr (.inl of))), (oD, .inl (G.2 6, 1, .inr (.inr (.inr (.inl og)))))] ++ (WM ++ [])) ++ (u_ ++ [])) H) (hD : va_D A (([(o, .inl (G.2 5, 1, .inr (.inl of))), (oD, .inl (G.2 6, 1, .inr (.inr (.inr (.inl og)))))] ++ (WM ++ [])) ++ (u_ ++ []))) hS hfz hfk => ?_)
  obtain ⟨W2_4688, rfl⟩ : ∃ z, z = u_ := ⟨_, rfl⟩
  have hq_4689 : DyW G d ((dC C, some (dC C), dK C, dH C, dL C, dN C) : DS) W2_4688 := hq
  have hpm_4690 : (([(o, .inl (G.2 5, 1, .inr (.inl of))), (oD, .inl (G.2 6, 1, .inr (.inr (.inr (.inl og)))))] ++ (WM ++ [])) ++ (W2_4688 ++ []) : va_W).Perm ([(o, .inl (G.2 5, 1, .inr (.inl of))), (oD, .inl (G.2 6, 1, .inr (.inr (.inr (.inl og)))))] ++ (WM ++ (W2_4688 ++ []))) := segs_perm2 [[(o, .inl (G.2 5, 1, .inr (.inl of)))], [(oD, .inl (G.2 6, 1, .inr (.inr (.inr (.inl og)))))], WM] [W2_4688] [0, 1, 2, 3] rfl
  have hP : va_P G.1 CL ([(o, .inl (G.2 5, 1, .inr (.inl of))), (oD, .inl (G.2 6, 1, .inr (.inr (.inr (.inl og)))))] ++ (WM ++ (W2_4688 ++ []))) H := P_perm hpm_4690 hP
  have hD : va_D A ([(o, .inl (G.2 5, 1, .inr (.inl of))), (oD, .inl (G.2 6, 1, .inr (.inr (.inr (.inl og)))))] ++ (WM ++ (W2_4688 ++ []))) := D_perm hpm_4690 hD
  refine W.eq (g2 := F0 m 2735 ls [.int (nI (sN (dC C)))]) rfl ?_
  refine lv_aload_n hx hb dL_law_2735 rfl (lv_at hl 2 rfl) ?_
  have hpm_4691 : (([(o, .inl (G.2 5, 1, .inr (.inl of))), (oD, .inl (G.2 6, 1, .inr (.inr (.inr (.inl og)))))] ++ (WM ++ (W2_4688 ++ []))) : va_W).Perm ((WM ++ []) ++ ([(o, .inl (G.2 5, 1, .inr (.inl of))), (oD, .inl (G.2 6, 1, .inr (.inr (.inr (.inl og)))))] ++ (W2_4688 ++ []))) := segs_perm [[(o, .inl (G.2 5, 1, .inr (.inl of)))], [(oD, .inl (G.2 6, 1, .inr (.inr (.inr (.inl og)))))], WM, W2_4688] [2] [0, 1, 3] rfl
  have hF := hF_ofP (wc := (WM ++ [])) hD hS hA hpm_4691
  refine go_ctP hS hP hD hpm_4691 hF
      (va_runV (As := []) (rest := [.int (nI (sN (dC C)))]) cf (eX4_save l G m0 M th WM (hMd) (hIm) H.size) (cwV 0 hts (lw_V q1954 q1955 q1956 q58 q1957) rfl rfl rfl (by decide +kernel) ⟨Nat.le_of_ble_eq_true rfl, Nat.le_of_ble_eq_true rfl⟩) (preV_of hKB hE hS hF (MdW.recv hK hMd (seg_at [[(o, .inl (G.2 5, 1, .inr (.inl of)))], [(oD, .inl (G.2 6, 1, .inr (.inr (.inr (.inl og)))))], WM, W2_4688] 2 rfl hP)) (P_left (P_perm hpm_4691 hP)) ((D_left (D_perm hpm_4691 hD)).weaken (fun _ _ _ _ => trivial)) trivial) rfl rfl hl.1 rfl (lv_room (Nat.le_of_ble_eq_true rfl)) dL_law_2736 ⟨show cl + 103 + 0 ≤ 1200144 from by first | decide | omega, show sl + 5800 + 0 ≤ 5495674 from by first | decide | omega⟩)
      (fun u_ H locs hq hph (hP : va_P G.1 CL (([(o, .inl (G.2 5, 1, .inr (.inl of))), (oD, .inl (G.2 6, 1, .inr (.inr (.inr (.inl og)))))] ++ (W2_4688 ++ [])) ++ (u_ ++ [])) H) (hD : va_D A (([(o, .inl (G.2 5, 1, .inr (.inl of))), (oD, .inl (G.2 6, 1, .inr (.inr (.inr (.inl og)))))] ++ (W2_4688 ++ [])) ++ (u_ ++ []))) hS hfz hfk => ?_)
  obtain ⟨W2_4692, rfl⟩ : ∃ z, z = u_ := ⟨_, rfl⟩
  have hq_4693 : MdW G m0 ((dC M, some (dC M), dK M, dH M, dL M, dN M) : DS) 0 W2_4692 := hq
  have hpm_4694 : (([(o, .inl (G.2 5, 1, .inr (.inl of))), (oD, .inl (G.2 6, 1, .inr (.inr (.inr (.inl og)))))] ++ (W2_4688 ++ [])) ++ (W2_4692 ++ []) : va_W).Perm ([(o, .inl (G.2 5, 1, .inr (.inl of))), (oD, .inl (G.2 6, 1, .inr (.inr (.inr (.inl og)))))] ++ (W2_4688 ++ (W2_4692 ++ []))) := segs_perm2 [[(o, .inl (G.2 5, 1, .inr (.inl of)))], [(oD, .inl (G.2 6, 1, .inr (.inr (.inr (.inl og)))))], W2_4688] [W2_4692] [0, 1, 2, 3] rfl
  have hP : va_P G.1 CL ([(o, .inl (G.2 5, 1, .inr (.inl of))), (oD, .inl (G.2 6, 1, .inr (.inr (.inr (.inl og)))))] ++ (W2_4688 ++ (W2_4692 ++ []))) H := P_perm hpm_4694 hP
  have hD : va_D A ([(o, .inl (G.2 5, 1, .inr (.inl of))), (oD, .inl (G.2 6, 1, .inr (.inr (.inr (.inl og)))))] ++ (W2_4688 ++ (W2_4692 ++ []))) := D_perm hpm_4694 hD
  refine W.eq (g2 := F0 m 2739 ls [.int (nI (sN (dC M))), .int (nI (sN (dC C)))]) rfl ?_
  refine lv_ton (n := (sN (dC C))) (congrArg nI hLw.1.sN.symm) ?_
  refine lv_icmp_eq (tgt := 2788) hx hb dL_law_2739 (by decide) (fun _ => ?_) (fun c9 => absurd rfl c9)
  have hpm_4695 : (([(o, .inl (G.2 5, 1, .inr (.inl of))), (oD, .inl (G.2 6, 1, .inr (.inr (.inr (.inl og)))))] ++ (W2_4688 ++ (W2_4692 ++ []))) : va_W).Perm (([(o, .inl (G.2 5, 1, .inr (.inl of))), (oD, .inl (G.2 6, 1, .inr (.inr (.inr (.inl og)))))] ++ (W2_4688 ++ (W2_4692 ++ []))) ++ []) := segs_perm [[(o, .inl (G.2 5, 1, .inr (.inl of)))], [(oD, .inl (G.2 6, 1, .inr (.inr (.inr (.inl og)))))], W2_4688, W2_4692] [0, 1, 2, 3] [] rfl
  have hP : va_P G.1 CL ([(o, .inl (G.2 5, 1, .inr (.inl of))), (oD, .inl (G.2 6, 1, .inr (.inr (.inr (.inl og)))))] ++ (W2_4688 ++ (W2_4692 ++ []))) H := P_left (P_perm hpm_4695 hP)
  have hD : va_D A ([(o, .inl (G.2 5, 1, .inr (.inl of))), (oD, .inl (G.2 6, 1, .inr (.inr (.inr (.inl og)))))] ++ (W2_4688 ++ (W2_4692 ++ []))) := D_left (D_perm hpm_4695 hD)
  have hl := lv_sub hl [0, 1, 2, 3, 4, 5] (l' := [(0, .ref b), (1, .ref d), (2, .ref m0), (3, .ref o), (4, .ref oD), (5, .int (nI i9))]) rfl
  exact W.widen (show cl + 103 ≤ cl + 20000 from by omega) (show sl + 5800 ≤ sl + 45000 from by omega) (kk ls H locs ((dC C, some (dC C), dK C, dH C, dL C, dN C) : DS) ((dC M, some (dC M), dK M, dH M, dL M, dN M) : DS) 0 W2_4688 W2_4692 of og hP hD hS hl hq_4689 hq_4693 hLw.save)

set_option maxHeartbeats 4000000 in
theorem lawK_50 {p : Program} {l : Launch} {e : Env} {s : State} {m : MethodId} {below : List Frame} {meth : Method} {c : Code} {G : Gt} {A : Nat → Prop} {b L : Nat} {xs : Nat → Int32} {Q : State → Prop} {d m0 o oD i9 N cl sl : Nat} (hfl : l.stackTraces = false) (F : LwF G A p s m c b L xs) (hi9 : i9 + 4 ≤ L) (hN24 : N ≤ 24) (hcl : cl + 20000 ≤ 1200144) (hsl : sl + 45000 ≤ 5495674) (kk : ∀ (ls : Array Slot) (H : Heap) (locs : List Loc) (C M : DS) (th : Nat) (WD WM : va_W) (of : Nat → Int64) (og : Nat → UInt64), va_P G.1 CL ([(o, .inl (G.2 5, 1, .inr (.inl of))), (oD, .inl (G.2 6, 1, .inr (.inr (.inr (.inl og)))))] ++ (WD ++ (WM ++ []))) H → va_D A ([(o, .inl (G.2 5, 1, .inr (.inl of))), (oD, .inl (G.2 6, 1, .inr (.inr (.inr (.inl og)))))] ++ (WD ++ (WM ++ []))) → va_S A s.heap H locs → lv_has ls 10 [(0, .ref b), (1, .ref d), (2, .ref m0), (3, .ref o), (4, .ref oD), (5, .int (nI i9))] → DyW G d C WD → MdW G m0 M th WM → LawI C M (N + 1) → W p l e room_1 s m #[Value.ref b] below meth c H locs (cl + 20000) (sl + 45000) Q (F0 m 2788 ls [])) {ls : Array Slot} {H : Heap} {locs : List Loc} {C M : DS} {th : Nat} {WD WM : va_W} {of : Nat → Int64} {og : Nat → UInt64} (hP : va_P G.1 CL ([(o, .inl (G.2 5, 1, .inr (.inl of))), (oD, .inl (G.2 6, 1, .inr (.inr (.inr (.inl og)))))] ++ (WD ++ (WM ++ []))) H) (hD : va_D A ([(o, .inl (G.2 5, 1, .inr (.inl of))), (oD, .inl (G.2 6, 1, .inr (.inr (.inr (.inl og)))))] ++ (WD ++ (WM ++ [])))) (hS : va_S A s.heap H locs) (hl : lv_has ls 10 [(0, .ref b), (1, .ref d), (2, .ref m0), (3, .ref o), (4, .ref oD), (5, .int (nI i9))]) (hDy : DyW G d C WD) (hMd : MdW G m0 M th WM) (hLw : LawI C M N) : W p l e room_1 s m #[Value.ref b] below meth c H locs cl sl Q (F0 m 2744 ls []) := by
  obtain ⟨cf, hKB, hE, hA, hX9, hbl, hbA, hNc, hL96⟩ := F
  have hx := cf.1
  have hb := cf.2.1
  have hml := cf.2.2.1
  have hown : s.vm.findClass RX0 = some m.cls := cf.2.2.2.1
  have hts := cf.2.2.2.2
  have hK := hKB.1
  have hIc := hDy.inv.1
  have hIm : Inv (dC M) := Inv_sim hLw.1 hIc
  have hRk : RkOk (dC M) := RkOk_sim hLw.1 (RkOk_srt hDy.inv.2.2)
  have hl := hl
  refine lv_aload_n hx hb dL_law_2744 rfl (lv_at hl 1 rfl) ?_
  refine lv_aload_n hx hb dL_law_2745 rfl (lv_at hl 3 rfl) ?_
  have hpm_4696 : (([(o, .inl (G.2 5, 1, .inr (.inl of))), (oD, .inl (G.2 6, 1, .inr (.inr (.inr (.inl og)))))] ++ (WD ++ (WM ++ []))) : va_W).Perm (([(o, .inl (G.2 5, 1, .inr (.inl of)))] ++ (WD ++ [])) ++ ([(oD, .inl (G.2 6, 1, .inr (.inr (.inr (.inl og)))))] ++ (WM ++ []))) := segs_perm [[(o, .inl (G.2 5, 1, .inr (.inl of)))], [(oD, .inl (G.2 6, 1, .inr (.inr (.inr (.inl og)))))], WD, WM] [0, 2] [1, 3] rfl
  have hF := hF_ofP (wc := ([(o, .inl (G.2 5, 1, .inr (.inl of)))] ++ (WD ++ []))) hD hS hA hpm_4696
  refine go_ctP hS hP hD hpm_4696 hF
      (vx_runSW (As := [.ref d, .ref o]) (rest := []) cf (wX0_restore l G d C WD o of (hDy) hfl H.size) (vx_cwSW 2 hts (lw_SW q1574 q1575 q46 q1576) rfl rfl rfl (by decide +kernel) ⟨Nat.le_of_ble_eq_true rfl, Nat.le_of_ble_eq_true rfl⟩) (preS_ofW hNc hKB hE hS hF (P_left (P_perm hpm_4696 hP)) ((D_left (D_perm hpm_4696 hD)).weaken (fun _ _ _ _ => trivial)) trivial) rfl rfl hl.1 rfl (lv_room (Nat.le_of_ble_eq_true rfl)) dL_law_2746 ⟨show cl + 103 ≤ 1200144 from by first | decide | omega, show sl + 5800 ≤ 5495674 from by first | decide | omega⟩)
      (fun u_ H locs hq hph (hP : va_P G.1 CL (([(oD, .inl (G.2 6, 1, .inr (.inr (.inr (.inl og)))))] ++ (WM ++ [])) ++ ([(o, .inl (G.2 5, 1, .inr (.inl u_.1)))] ++ (u_.2.2 ++ []))) H) (hD : va_D A (([(oD, .inl (G.2 6, 1, .inr (.inr (.inr (.inl og)))))] ++ (WM ++ [])) ++ ([(o, .inl (G.2 5, 1, .inr (.inl u_.1)))] ++ (u_.2.2 ++ [])))) hS hfz hfk => ?_)
  obtain ⟨of2_4697, k_4698, W2_4699⟩ := u_
  obtain ⟨hq_4700, hq_4701⟩ : (∀ P, dS C = some P → k_4698 = 0 ∧ of2_4697 0 = (nI (sN P)).toInt64 ∧ DyW G d ((P, dS C, 0, dH C, dL C, dN C) : DS) W2_4699) ∧ (dS C = none → k_4698 = 1 ∧ DyW G d C W2_4699) := hq
  have hpm_4702 : (([(oD, .inl (G.2 6, 1, .inr (.inr (.inr (.inl og)))))] ++ (WM ++ [])) ++ ([(o, .inl (G.2 5, 1, .inr (.inl of2_4697)))] ++ (W2_4699 ++ [])) : va_W).Perm ([(oD, .inl (G.2 6, 1, .inr (.inr (.inr (.inl og))))), (o, .inl (G.2 5, 1, .inr (.inl of2_4697)))] ++ (WM ++ (W2_4699 ++ []))) := segs_perm2 [[(oD, .inl (G.2 6, 1, .inr (.inr (.inr (.inl og)))))], WM] [[(o, .inl (G.2 5, 1, .inr (.inl of2_4697)))], W2_4699] [0, 2, 1, 3] rfl
  have hP : va_P G.1 CL ([(oD, .inl (G.2 6, 1, .inr (.inr (.inr (.inl og))))), (o, .inl (G.2 5, 1, .inr (.inl of2_4697)))] ++ (WM ++ (W2_4699 ++ []))) H := P_perm hpm_4702 hP
  have hD : va_D A ([(oD, .inl (G.2 6, 1, .inr (.inr (.inr (.inl og))))), (o, .inl (G.2 5, 1, .inr (.inl of2_4697)))] ++ (WM ++ (W2_4699 ++ []))) := D_perm hpm_4702 hD
  refine W.eq (g2 := F0 m 2749 ls [.int (nI k_4698)]) rfl ?_
  refine lv_istore (lv' := [(6, .int (nI k_4698)), (0, .ref b), (1, .ref d), (2, .ref m0), (3, .ref o), (4, .ref oD), (5, .int (nI i9))]) hx hb dL_law_2749 hl (by decide) rfl (fun ls hl => ?_)
  refine lv_aload_n hx hb dL_law_2751 rfl (lv_at hl 3 rfl) ?_
  have hpm_4703 : (([(oD, .inl (G.2 6, 1, .inr (.inr (.inr (.inl og))))), (o, .inl (G.2 5, 1, .inr (.inl of2_4697)))] ++ (WM ++ (W2_4699 ++ []))) : va_W).Perm ((WM ++ []) ++ ([(oD, .inl (G.2 6, 1, .inr (.inr (.inr (.inl og))))), (o, .inl (G.2 5, 1, .inr (.inl of2_4697)))] ++ (W2_4699 ++ []))) := segs_perm [[(oD, .inl (G.2 6, 1, .inr (.inr (.inr (.inl og)))))], [(o, .inl (G.2 5, 1, .inr (.inl of2_4697)))], WM, W2_4699] [2] [0, 1, 3] rfl
  have hF := hF_ofP (wc := (WM ++ [])) hD hS hA hpm_4703
  refine go_ctP hS hP hD hpm_4703 hF
      (va_runV (As := []) (rest := []) cf (eX4_restore l G m0 M th WM (hMd) H.size) (cwV 0 hts (lw_V q1958 q1959 q1960 q58 q1961) rfl rfl rfl (by decide +kernel) ⟨Nat.le_of_ble_eq_true rfl, Nat.le_of_ble_eq_true rfl⟩) (preV_of hKB hE hS hF (MdW.recv hK hMd (seg_at [[(oD, .inl (G.2 6, 1, .inr (.inr (.inr (.inl og)))))], [(o, .inl (G.2 5, 1, .inr (.inl of2_4697)))], WM, W2_4699] 2 rfl hP)) (P_left (P_perm hpm_4703 hP)) ((D_left (D_perm hpm_4703 hD)).weaken (fun _ _ _ _ => trivial)) trivial) rfl rfl hl.1 rfl (lv_room (Nat.le_of_ble_eq_true rfl)) dL_law_2752 ⟨show cl + 103 + 0 ≤ 1200144 from by first | decide | omega, show sl + 5800 + 0 ≤ 5495674 from by first | decide | omega⟩)
      (fun u_ H locs hq hph (hP : va_P G.1 CL (([(oD, .inl (G.2 6, 1, .inr (.inr (.inr (.inl og))))), (o, .inl (G.2 5, 1, .inr (.inl of2_4697)))] ++ (W2_4699 ++ [])) ++ (u_.2 ++ [])) H) (hD : va_D A (([(oD, .inl (G.2 6, 1, .inr (.inr (.inr (.inl og))))), (o, .inl (G.2 5, 1, .inr (.inl of2_4697)))] ++ (W2_4699 ++ [])) ++ (u_.2 ++ []))) hS hfz hfk => ?_)
  obtain ⟨rr_4704, W2_4705⟩ := u_
  obtain ⟨hq_4706, hq_4707⟩ : (∀ P, dS M = some P → rr_4704 = nI (sN P) ∧ MdW G m0 ((P, dS M, 0, dH M, dL M, dN M) : DS) 0 W2_4705) ∧ (dS M = none → MdW G m0 M 1 W2_4705) := hq
  have hpm_4708 : (([(oD, .inl (G.2 6, 1, .inr (.inr (.inr (.inl og))))), (o, .inl (G.2 5, 1, .inr (.inl of2_4697)))] ++ (W2_4699 ++ [])) ++ (W2_4705 ++ []) : va_W).Perm ([(oD, .inl (G.2 6, 1, .inr (.inr (.inr (.inl og))))), (o, .inl (G.2 5, 1, .inr (.inl of2_4697)))] ++ (W2_4699 ++ (W2_4705 ++ []))) := segs_perm2 [[(oD, .inl (G.2 6, 1, .inr (.inr (.inr (.inl og)))))], [(o, .inl (G.2 5, 1, .inr (.inl of2_4697)))], W2_4699] [W2_4705] [0, 1, 2, 3] rfl
  have hP : va_P G.1 CL ([(oD, .inl (G.2 6, 1, .inr (.inr (.inr (.inl og))))), (o, .inl (G.2 5, 1, .inr (.inl of2_4697)))] ++ (W2_4699 ++ (W2_4705 ++ []))) H := P_perm hpm_4708 hP
  have hD : va_D A ([(oD, .inl (G.2 6, 1, .inr (.inr (.inr (.inl og))))), (o, .inl (G.2 5, 1, .inr (.inl of2_4697)))] ++ (W2_4699 ++ (W2_4705 ++ []))) := D_perm hpm_4708 hD
  refine W.eq (g2 := F0 m 2755 ls [.int rr_4704]) rfl ?_
  rcases hsn : dS C with _ | P_4709
  · obtain ⟨rfl, hDy2⟩ := hq_4701 hsn
    have hMd2 := hq_4707 (hLw.2.1.none_iff.mp hsn)
    refine W.eq (g2 := F0 m 2755 ls [.int rr_4704]) rfl ?_
    refine lv_istore (lv' := [(7, .int rr_4704), (6, .int (nI 1)), (0, .ref b), (1, .ref d), (2, .ref m0), (3, .ref o), (4, .ref oD), (5, .int (nI i9))]) hx hb dL_law_2755 hl (by decide) rfl (fun ls hl => ?_)
    refine lv_aload_n hx hb dL_law_2757 rfl (lv_at hl 4 rfl) ?_
    have hpm_4710 : (([(oD, .inl (G.2 6, 1, .inr (.inr (.inr (.inl og))))), (o, .inl (G.2 5, 1, .inr (.inl of2_4697)))] ++ (W2_4699 ++ (W2_4705 ++ []))) : va_W).Perm ([] ++ ([(oD, .inl (G.2 6, 1, .inr (.inr (.inr (.inl og))))), (o, .inl (G.2 5, 1, .inr (.inl of2_4697)))] ++ (W2_4699 ++ (W2_4705 ++ [])))) := segs_perm [[(oD, .inl (G.2 6, 1, .inr (.inr (.inr (.inl og)))))], [(o, .inl (G.2 5, 1, .inr (.inl of2_4697)))], W2_4699, W2_4705] [] [0, 1, 2, 3] rfl
    have hF := hF_ofP (wc := []) hD hS hA hpm_4710
    refine go_ctP hS hP hD hpm_4710 hF
        (va_runV (As := []) (rest := []) cf (eX4_thrown l G m0 M 1 W2_4705 (hMd2) H.size) (cwV 0 hts (lw_V q1639 q1640 q1641 q58 q1642) rfl rfl rfl (by decide +kernel) ⟨Nat.le_of_ble_eq_true rfl, Nat.le_of_ble_eq_true rfl⟩) (preV_of hKB hE hS hF (MdW.recv hK hMd2 (seg_at [[(oD, .inl (G.2 6, 1, .inr (.inr (.inr (.inl og)))))], [(o, .inl (G.2 5, 1, .inr (.inl of2_4697)))], W2_4699, W2_4705] 3 rfl hP)) (P_left (P_perm hpm_4710 hP)) ((D_left (D_perm hpm_4710 hD)).weaken (fun _ _ _ _ => trivial)) (roW.nil (seg_at [[(oD, .inl (G.2 6, 1, .inr (.inr (.inr (.inl og)))))], [(o, .inl (G.2 5, 1, .inr (.inl of2_4697)))], W2_4699, W2_4705] 3 rfl hP))) rfl rfl hl.1 rfl (lv_room (Nat.le_of_ble_eq_true rfl)) dL_law_2758 ⟨show cl + 103 + 0 ≤ 1200144 from by first | decide | omega, show sl + 5800 + 0 ≤ 5495674 from by first | decide | omega⟩)
        (fun u_ H locs hq hph (hP : va_P G.1 CL (([(oD, .inl (G.2 6, 1, .inr (.inr (.inr (.inl og))))), (o, .inl (G.2 5, 1, .inr (.inl of2_4697)))] ++ (W2_4699 ++ (W2_4705 ++ []))) ++ []) H) (hD : va_D A (([(oD, .inl (G.2 6, 1, .inr (.inr (.inr (.inl og))))), (o, .inl (G.2 5, 1, .inr (.inl of2_4697)))] ++ (W2_4699 ++ (W2_4705 ++ []))) ++ [])) hS hfz hfk => ?_)
    have hpm_4711 : (([(oD, .inl (G.2 6, 1, .inr (.inr (.inr (.inl og))))), (o, .inl (G.2 5, 1, .inr (.inl of2_4697)))] ++ (W2_4699 ++ (W2_4705 ++ []))) ++ [] : va_W).Perm ([(oD, .inl (G.2 6, 1, .inr (.inr (.inr (.inl og))))), (o, .inl (G.2 5, 1, .inr (.inl of2_4697)))] ++ (W2_4699 ++ (W2_4705 ++ []))) := segs_perm2 [[(oD, .inl (G.2 6, 1, .inr (.inr (.inr (.inl og)))))], [(o, .inl (G.2 5, 1, .inr (.inl of2_4697)))], W2_4699, W2_4705] [] [0, 1, 2, 3] rfl
    have hP : va_P G.1 CL ([(oD, .inl (G.2 6, 1, .inr (.inr (.inr (.inl og))))), (o, .inl (G.2 5, 1, .inr (.inl of2_4697)))] ++ (W2_4699 ++ (W2_4705 ++ []))) H := P_perm hpm_4711 hP
    have hD : va_D A ([(oD, .inl (G.2 6, 1, .inr (.inr (.inr (.inl og))))), (o, .inl (G.2 5, 1, .inr (.inl of2_4697)))] ++ (W2_4699 ++ (W2_4705 ++ []))) := D_perm hpm_4711 hD
    refine W.eq (g2 := F0 m 2761 ls [.int (nI 1)]) rfl ?_
    refine lv_iload hx hb dL_law_2761 (lv_at hl 1 rfl) ?_
    refine lv_icmp_eq (tgt := 2768) hx hb dL_law_2763 (by decide) (fun _ => ?_) (fun c9 => absurd rfl c9)
    refine lv_iload hx hb dL_law_2768 (lv_at hl 1 rfl) ?_
    refine n_if_ne (tgt := 2785) hx hb (by omega) dL_law_2770 (by decide) (fun c_4712 => ?_) (fun c_4712 => absurd c_4712 (by omega))
    refine lv_goto (tgt := 2788) hx hb dL_law_2785 (by decide) ?_
    have hpm_4713 : (([(oD, .inl (G.2 6, 1, .inr (.inr (.inr (.inl og))))), (o, .inl (G.2 5, 1, .inr (.inl of2_4697)))] ++ (W2_4699 ++ (W2_4705 ++ []))) : va_W).Perm (([(o, .inl (G.2 5, 1, .inr (.inl of2_4697))), (oD, .inl (G.2 6, 1, .inr (.inr (.inr (.inl og)))))] ++ (W2_4699 ++ (W2_4705 ++ []))) ++ []) := segs_perm [[(oD, .inl (G.2 6, 1, .inr (.inr (.inr (.inl og)))))], [(o, .inl (G.2 5, 1, .inr (.inl of2_4697)))], W2_4699, W2_4705] [1, 0, 2, 3] [] rfl
    have hP : va_P G.1 CL ([(o, .inl (G.2 5, 1, .inr (.inl of2_4697))), (oD, .inl (G.2 6, 1, .inr (.inr (.inr (.inl og)))))] ++ (W2_4699 ++ (W2_4705 ++ []))) H := P_left (P_perm hpm_4713 hP)
    have hD : va_D A ([(o, .inl (G.2 5, 1, .inr (.inl of2_4697))), (oD, .inl (G.2 6, 1, .inr (.inr (.inr (.inl og)))))] ++ (W2_4699 ++ (W2_4705 ++ []))) := D_left (D_perm hpm_4713 hD)
    have hl := lv_sub hl [2, 3, 4, 5, 6, 7] (l' := [(0, .ref b), (1, .ref d), (2, .ref m0), (3, .ref o), (4, .ref oD), (5, .int (nI i9))]) rfl
    exact W.widen (show cl + 103 ≤ cl + 20000 from by omega) (show sl + 5800 ≤ sl + 45000 from by omega) (kk ls H locs C M 1 W2_4699 W2_4705 of2_4697 og hP hD hS hl hDy2 hMd2 hLw.up)
  · obtain ⟨rfl, hof9, hDy2⟩ := hq_4700 P_4709 hsn
    obtain ⟨Q9, hsm, hPQ⟩ : ∃ Q, dS M = some Q ∧ Sim P_4709 Q := by have h9 := hLw.2.1; rw [hsn] at h9; exact h9.some
    obtain ⟨hrr9, hMd2⟩ := hq_4706 Q9 hsm
    refine lv_ton (n := (sN P_4709)) (hrr9.trans (congrArg nI hPQ.sN.symm)) ?_
    refine lv_istore (lv' := [(7, .int (nI (sN P_4709))), (6, .int (nI 0)), (0, .ref b), (1, .ref d), (2, .ref m0), (3, .ref o), (4, .ref oD), (5, .int (nI i9))]) hx hb dL_law_2755 hl (by decide) rfl (fun ls hl => ?_)
    refine lv_aload_n hx hb dL_law_2757 rfl (lv_at hl 4 rfl) ?_
    have hpm_4714 : (([(oD, .inl (G.2 6, 1, .inr (.inr (.inr (.inl og))))), (o, .inl (G.2 5, 1, .inr (.inl of2_4697)))] ++ (W2_4699 ++ (W2_4705 ++ []))) : va_W).Perm ([] ++ ([(oD, .inl (G.2 6, 1, .inr (.inr (.inr (.inl og))))), (o, .inl (G.2 5, 1, .inr (.inl of2_4697)))] ++ (W2_4699 ++ (W2_4705 ++ [])))) := segs_perm [[(oD, .inl (G.2 6, 1, .inr (.inr (.inr (.inl og)))))], [(o, .inl (G.2 5, 1, .inr (.inl of2_4697)))], W2_4699, W2_4705] [] [0, 1, 2, 3] rfl
    have hF := hF_ofP (wc := []) hD hS hA hpm_4714
    refine go_ctP hS hP hD hpm_4714 hF
        (va_runV (As := []) (rest := []) cf (eX4_thrown l G m0 ((Q9, dS M, 0, dH M, dL M, dN M) : DS) 0 W2_4705 (hMd2) H.size) (cwV 0 hts (lw_V q1639 q1640 q1641 q58 q1642) rfl rfl rfl (by decide +kernel) ⟨Nat.le_of_ble_eq_true rfl, Nat.le_of_ble_eq_true rfl⟩) (preV_of hKB hE hS hF (MdW.recv hK hMd2 (seg_at [[(oD, .inl (G.2 6, 1, .inr (.inr (.inr (.inl og)))))], [(o, .inl (G.2 5, 1, .inr (.inl of2_4697)))], W2_4699, W2_4705] 3 rfl hP)) (P_left (P_perm hpm_4714 hP)) ((D_left (D_perm hpm_4714 hD)).weaken (fun _ _ _ _ => trivial)) (roW.nil (seg_at [[(oD, .inl (G.2 6, 1, .inr (.inr (.inr (.inl og)))))], [(o, .inl (G.2 5, 1, .inr (.inl of2_4697)))], W2_4699, W2_4705] 3 rfl hP))) rfl rfl hl.1 rfl (lv_room (Nat.le_of_ble_eq_true rfl)) dL_law_2758 ⟨show cl + 103 + 0 ≤ 1200144 from by first | decide | omega, show sl + 5800 + 0 ≤ 5495674 from by first | decide | omega⟩)
        (fun u_ H locs hq hph (hP : va_P G.1 CL (([(oD, .inl (G.2 6, 1, .inr (.inr (.inr (.inl og))))), (o, .inl (G.2 5, 1, .inr (.inl of2_4697)))] ++ (W2_4699 ++ (W2_4705 ++ []))) ++ []) H) (hD : va_D A (([(oD, .inl (G.2 6, 1, .inr (.inr (.inr (.inl og))))), (o, .inl (G.2 5, 1, .inr (.inl of2_4697)))] ++ (W2_4699 ++ (W2_4705 ++ []))) ++ [])) hS hfz hfk => ?_)
    have hpm_4715 : (([(oD, .inl (G.2 6, 1, .inr (.inr (.inr (.inl og))))), (o, .inl (G.2 5, 1, .inr (.inl of2_4697)))] ++ (W2_4699 ++ (W2_4705 ++ []))) ++ [] : va_W).Perm ([(oD, .inl (G.2 6, 1, .inr (.inr (.inr (.inl og))))), (o, .inl (G.2 5, 1, .inr (.inl of2_4697)))] ++ (W2_4699 ++ (W2_4705 ++ []))) := segs_perm2 [[(oD, .inl (G.2 6, 1, .inr (.inr (.inr (.inl og)))))], [(o, .inl (G.2 5, 1, .inr (.inl of2_4697)))], W2_4699, W2_4705] [] [0, 1, 2, 3] rfl
    have hP : va_P G.1 CL ([(oD, .inl (G.2 6, 1, .inr (.inr (.inr (.inl og))))), (o, .inl (G.2 5, 1, .inr (.inl of2_4697)))] ++ (W2_4699 ++ (W2_4705 ++ []))) H := P_perm hpm_4715 hP
    have hD : va_D A ([(oD, .inl (G.2 6, 1, .inr (.inr (.inr (.inl og))))), (o, .inl (G.2 5, 1, .inr (.inl of2_4697)))] ++ (W2_4699 ++ (W2_4705 ++ []))) := D_perm hpm_4715 hD
    refine W.eq (g2 := F0 m 2761 ls [.int (nI 0)]) rfl ?_
    refine lv_iload hx hb dL_law_2761 (lv_at hl 1 rfl) ?_
    refine lv_icmp_eq (tgt := 2768) hx hb dL_law_2763 (by decide) (fun _ => ?_) (fun c9 => absurd rfl c9)
    refine lv_iload hx hb dL_law_2768 (lv_at hl 1 rfl) ?_
    refine n_if_ne (tgt := 2785) hx hb (by omega) dL_law_2770 (by decide) (fun c_4716 => absurd c_4716 (by omega)) (fun c_4716 => ?_)
    refine lv_aload_n hx hb dL_law_2773 rfl (lv_at hl 5 rfl) ?_
    refine lv_iconst (v := nI 0) hx hb dL_law_2774 (by decide) ?_
    refine r_lald (v := (nI (sN P_4709)).toInt64) hx hb hK hP 1 5 rfl rfl (i := 0) (by omega) (by omega) (hof9) dL_law_2775 ?_
    refine lv_iload hx hb dL_law_2776 (lv_at hl 0 rfl) ?_
    refine lv_i2l (v := (nI (sN P_4709)).toInt64) hx hb dL_law_2778 rfl ?_
    refine W.lcmp hx hb dL_law_2779 ?_
    refine lv_ton (n := 0) (lcmp0 _) ?_
    refine n_if_eq (tgt := 2785) hx hb (by omega) dL_law_2780 (by decide) (fun c_4717 => ?_) (fun c_4717 => absurd c_4717 (by omega))
    refine lv_goto (tgt := 2788) hx hb dL_law_2785 (by decide) ?_
    have hpm_4718 : (([(oD, .inl (G.2 6, 1, .inr (.inr (.inr (.inl og))))), (o, .inl (G.2 5, 1, .inr (.inl of2_4697)))] ++ (W2_4699 ++ (W2_4705 ++ []))) : va_W).Perm (([(o, .inl (G.2 5, 1, .inr (.inl of2_4697))), (oD, .inl (G.2 6, 1, .inr (.inr (.inr (.inl og)))))] ++ (W2_4699 ++ (W2_4705 ++ []))) ++ []) := segs_perm [[(oD, .inl (G.2 6, 1, .inr (.inr (.inr (.inl og)))))], [(o, .inl (G.2 5, 1, .inr (.inl of2_4697)))], W2_4699, W2_4705] [1, 0, 2, 3] [] rfl
    have hP : va_P G.1 CL ([(o, .inl (G.2 5, 1, .inr (.inl of2_4697))), (oD, .inl (G.2 6, 1, .inr (.inr (.inr (.inl og)))))] ++ (W2_4699 ++ (W2_4705 ++ []))) H := P_left (P_perm hpm_4718 hP)
    have hD : va_D A ([(o, .inl (G.2 5, 1, .inr (.inl of2_4697))), (oD, .inl (G.2 6, 1, .inr (.inr (.inr (.inl og)))))] ++ (W2_4699 ++ (W2_4705 ++ []))) := D_left (D_perm hpm_4718 hD)
    have hl := lv_sub hl [2, 3, 4, 5, 6, 7] (l' := [(0, .ref b), (1, .ref d), (2, .ref m0), (3, .ref o), (4, .ref oD), (5, .int (nI i9))]) rfl
    exact W.widen (show cl + 103 ≤ cl + 20000 from by omega) (show sl + 5800 ≤ sl + 45000 from by omega) (kk ls H locs ((P_4709, dS C, 0, dH C, dL C, dN C) : DS) ((Q9, dS M, 0, dH M, dL M, dN M) : DS) 0 W2_4699 W2_4705 of2_4697 og hP hD hS hl hDy2 hMd2 (hLw.restore hsn hsm))
