/-! the law: its cases -/
set_option maxRecDepth 100000
set_option maxHeartbeats 4000000 in
theorem lawK_0 {p : Program} {l : Launch} {e : Env} {s : State} {m : MethodId} {below : List Frame} {meth : Method} {c : Code} {G : Gt} {A : Nat → Prop} {b L : Nat} {xs : Nat → Int32} {Q : State → Prop} {d m0 o oD i9 N cl sl : Nat} (hfl : l.stackTraces = false) (F : LwF G A p s m c b L xs) (hi9 : i9 + 4 ≤ L) (hN24 : N ≤ 24) (hcl : cl + 20000 ≤ 1200144) (hsl : sl + 45000 ≤ 5495674) (kk : ∀ (ls : Array Slot) (H : Heap) (locs : List Loc) (C M : DS) (th : Nat) (WD WM : va_W) (of : Nat → Int64) (og : Nat → UInt64), va_P G.1 CL ([(o, .inl (G.2 5, 1, .inr (.inl of))), (oD, .inl (G.2 6, 1, .inr (.inr (.inr (.inl og)))))] ++ (WD ++ (WM ++ []))) H → va_D A ([(o, .inl (G.2 5, 1, .inr (.inl of))), (oD, .inl (G.2 6, 1, .inr (.inr (.inr (.inl og)))))] ++ (WD ++ (WM ++ []))) → va_S A s.heap H locs → lv_has ls 10 [(0, .ref b), (1, .ref d), (2, .ref m0), (3, .ref o), (4, .ref oD), (5, .int (nI i9))] → DyW G d C WD → MdW G m0 M th WM → LawI C M (N + 1) → W p l e room_1 s m #[Value.ref b] below meth c H locs (cl + 20000) (sl + 45000) Q (F0 m 2788 ls [])) {ls : Array Slot} {H : Heap} {locs : List Loc} {C M : DS} {th : Nat} {WD WM : va_W} {of : Nat → Int64} {og : Nat → UInt64} (hP : va_P G.1 CL ([(o, .inl (G.2 5, 1, .inr (.inl of))), (oD, .inl (G.2 6, 1, .inr (.inr (.inr (.inl og)))))] ++ (WD ++ (WM ++ []))) H) (hD : va_D A ([(o, .inl (G.2 5, 1, .inr (.inl of))), (oD, .inl (G.2 6, 1, .inr (.inr (.inr (.inl og)))))] ++ (WD ++ (WM ++ [])))) (hS : va_S A s.heap H locs) (hl : lv_has ls 10 [(0, .ref b), (1, .ref d), (2, .ref m0), (3, .ref o), (4, .ref oD), (5, .int (nI i9))]) (hDy : DyW G d C WD) (hMd : MdW G m0 M th WM) (hLw : LawI C M N) : W p l e room_1 s m #[Value.ref b] below meth c H locs cl sl Q (F0 m 264 ls []) := by
  obtain ⟨cf, hKB, hE, hA, hX9, hbl, hbA, hNc, hL96⟩ := F
  have hx := cf.1
  have hb := cf.2.1
  have hml := cf.2.2.1
  have hown : s.vm.findClass RX0 = some m.cls := cf.2.2.2.1
  have hts := cf.2.2.2.2
  have hK := hKB.1
  have hIc := hDy.inv.1
  have hIm : Inv (dC M) := Inv_sim hLw.1 hIc
  have hRk : RkOk (dC M) := RkOk_sim hLw.1 (RkOk_srt hDy.inv.2.2)
  have hl := hl
  refine lv_aload_n hx hb dL_law_264 rfl (lv_at hl 1 rfl) ?_
  refine lv_aload_n hx hb dL_law_265 rfl (lv_at hl 0 rfl) ?_
  refine lv_iload hx hb dL_law_266 (lv_at hl 5 rfl) ?_
  refine lv_iconst (v := nI 1) hx hb dL_law_268 (by decide) ?_
  refine lv_iadd hx hb dL_law_269 ?_
  refine lv_ton (n := i9 + 1) (nadd (by omega)) ?_
  refine va_sld hx hb hX9 hbl hbA hS (i := nI (i9 + 1)) (vp9 (by omega) hL96) dL_law_270 ?_
  refine W.eq (g2 := F0 m 271 ls [.int (sx9 xs (i9 + 1)), .ref d]) rfl ?_
  refine lv_aload_n hx hb dL_law_271 rfl (lv_at hl 3 rfl) ?_
  have hpm_3778 : (([(o, .inl (G.2 5, 1, .inr (.inl of))), (oD, .inl (G.2 6, 1, .inr (.inr (.inr (.inl og)))))] ++ (WD ++ (WM ++ []))) : va_W).Perm (([(o, .inl (G.2 5, 1, .inr (.inl of)))] ++ (WD ++ [])) ++ ([(oD, .inl (G.2 6, 1, .inr (.inr (.inr (.inl og)))))] ++ (WM ++ []))) := segs_perm [[(o, .inl (G.2 5, 1, .inr (.inl of)))], [(oD, .inl (G.2 6, 1, .inr (.inr (.inr (.inl og)))))], WD, WM] [0, 2] [1, 3] rfl
  have hF := hF_ofP (wc := ([(o, .inl (G.2 5, 1, .inr (.inl of)))] ++ (WD ++ []))) hD hS hA hpm_3778
  refine go_ctP hS hP hD hpm_3778 hF
      (vx_runSW (As := [.ref d, .int (sx9 xs (i9 + 1)), .ref o]) (rest := []) cf (wX0_pass l G d C WD o of (sx9 xs (i9 + 1)) (hDy) hfl H.size) (vx_cwSW 3 hts (lw_SW q677 q678 q46 q679) rfl rfl rfl (by decide +kernel) ⟨Nat.le_of_ble_eq_true rfl, Nat.le_of_ble_eq_true rfl⟩) (preS_ofW hNc hKB hE hS hF (P_left (P_perm hpm_3778 hP)) ((D_left (D_perm hpm_3778 hD)).weaken (fun _ _ _ _ => trivial)) trivial) rfl rfl hl.1 rfl (lv_room (Nat.le_of_ble_eq_true rfl)) dL_law_272 ⟨show cl + (1 + 101) ≤ 1200144 from by first | decide | omega, show sl + (6 + 5800) ≤ 5495674 from by first | decide | omega⟩)
      (fun u_ H locs hq hph (hP : va_P G.1 CL (([(oD, .inl (G.2 6, 1, .inr (.inr (.inr (.inl og)))))] ++ (WM ++ [])) ++ ([(o, .inl (G.2 5, 1, .inr (.inl u_.1)))] ++ (u_.2.2 ++ []))) H) (hD : va_D A (([(oD, .inl (G.2 6, 1, .inr (.inr (.inr (.inl og)))))] ++ (WM ++ [])) ++ ([(o, .inl (G.2 5, 1, .inr (.inl u_.1)))] ++ (u_.2.2 ++ [])))) hS hfz hfk => ?_)
  obtain ⟨of2_3779, S2_3780, W2_3781⟩ := u_
  obtain ⟨hq_3782, hq_3783, hq_3784, hq_3785⟩ : ((o_pass (dC C) (sx9 xs (i9 + 1))).1 = 0 → of2_3779 0 = ((o_pass (dC C) (sx9 xs (i9 + 1))).2.1).toInt64) ∧ NxS C (o_pass (dC C) (sx9 xs (i9 + 1))) S2_3780 ∧ (o_pass (dC C) (sx9 xs (i9 + 1))).1 < 10 ∧ DyW G d S2_3780 W2_3781 := hq
  have hpm_3786 : (([(oD, .inl (G.2 6, 1, .inr (.inr (.inr (.inl og)))))] ++ (WM ++ [])) ++ ([(o, .inl (G.2 5, 1, .inr (.inl of2_3779)))] ++ (W2_3781 ++ [])) : va_W).Perm ([(oD, .inl (G.2 6, 1, .inr (.inr (.inr (.inl og))))), (o, .inl (G.2 5, 1, .inr (.inl of2_3779)))] ++ (WM ++ (W2_3781 ++ []))) := segs_perm2 [[(oD, .inl (G.2 6, 1, .inr (.inr (.inr (.inl og)))))], WM] [[(o, .inl (G.2 5, 1, .inr (.inl of2_3779)))], W2_3781] [0, 2, 1, 3] rfl
  have hP : va_P G.1 CL ([(oD, .inl (G.2 6, 1, .inr (.inr (.inr (.inl og))))), (o, .inl (G.2 5, 1, .inr (.inl of2_3779)))] ++ (WM ++ (W2_3781 ++ []))) H := P_perm hpm_3786 hP
  have hD : va_D A ([(oD, .inl (G.2 6, 1, .inr (.inr (.inr (.inl og))))), (o, .inl (G.2 5, 1, .inr (.inl of2_3779)))] ++ (WM ++ (W2_3781 ++ []))) := D_perm hpm_3786 hD
  refine W.eq (g2 := F0 m 275 ls [.int (nI ((o_pass (dC C) (sx9 xs (i9 + 1))).1))]) rfl ?_
  have hqs : SimR (o_pass (dC C) (sx9 xs (i9 + 1))) (o_pass (dC M) (sx9 xs (i9 + 1))) := o_pass_sim hLw.1 hIc (sx9 xs (i9 + 1))
  refine lv_istore (lv' := [(6, .int (nI ((o_pass (dC C) (sx9 xs (i9 + 1))).1))), (0, .ref b), (1, .ref d), (2, .ref m0), (3, .ref o), (4, .ref oD), (5, .int (nI i9))]) hx hb dL_law_275 hl (by decide) rfl (fun ls hl => ?_)
  refine lv_aload_n hx hb dL_law_277 rfl (lv_at hl 3 rfl) ?_
  refine lv_aload_n hx hb dL_law_278 rfl (lv_at hl 1 rfl) ?_
  refine lv_iload hx hb dL_law_279 (lv_at hl 6 rfl) ?_
  refine lv_iconst (v := nI 1) hx hb dL_law_281 (by decide) ?_
  refine lv_iadd hx hb dL_law_282 ?_
  refine lv_ton (n := i9 + 1) (nadd (by omega)) ?_
  refine va_sld hx hb hX9 hbl hbA hS (i := nI (i9 + 1)) (vp9 (by omega) hL96) dL_law_283 ?_
  refine W.eq (g2 := F0 m 284 ls [.int (sx9 xs (i9 + 1)), .ref m0]) rfl ?_
  have hpm_3787 : (([(oD, .inl (G.2 6, 1, .inr (.inr (.inr (.inl og))))), (o, .inl (G.2 5, 1, .inr (.inl of2_3779)))] ++ (WM ++ (W2_3781 ++ []))) : va_W).Perm ((WM ++ []) ++ ([(oD, .inl (G.2 6, 1, .inr (.inr (.inr (.inl og))))), (o, .inl (G.2 5, 1, .inr (.inl of2_3779)))] ++ (W2_3781 ++ []))) := segs_perm [[(oD, .inl (G.2 6, 1, .inr (.inr (.inr (.inl og)))))], [(o, .inl (G.2 5, 1, .inr (.inl of2_3779)))], WM, W2_3781] [2] [0, 1, 3] rfl
  have hF := hF_ofP (wc := (WM ++ [])) hD hS hA hpm_3787
  refine go_ctP hS hP hD hpm_3787 hF
      (va_runV (As := [.int (sx9 xs (i9 + 1))]) (rest := []) cf (eX4_pass l G m0 M th WM (sx9 xs (i9 + 1)) (hMd) (hIm) H.size) (cwV 1 hts (lw_V q1643 q1644 q1645 q58 q1646) rfl rfl rfl (by decide +kernel) ⟨Nat.le_of_ble_eq_true rfl, Nat.le_of_ble_eq_true rfl⟩) (preV_of hKB hE hS hF (MdW.recv hK hMd (seg_at [[(oD, .inl (G.2 6, 1, .inr (.inr (.inr (.inl og)))))], [(o, .inl (G.2 5, 1, .inr (.inl of2_3779)))], WM, W2_3781] 2 rfl hP)) (P_left (P_perm hpm_3787 hP)) ((D_left (D_perm hpm_3787 hD)).weaken (fun _ _ _ _ => trivial)) trivial) rfl rfl hl.1 rfl (lv_room (Nat.le_of_ble_eq_true rfl)) dL_law_284 ⟨show cl + (1 + 101) + 0 ≤ 1200144 from by first | decide | omega, show sl + (6 + 5800) + 0 ≤ 5495674 from by first | decide | omega⟩)
      (fun u_ H locs hq hph (hP : va_P G.1 CL (([(oD, .inl (G.2 6, 1, .inr (.inr (.inr (.inl og))))), (o, .inl (G.2 5, 1, .inr (.inl of2_3779)))] ++ (W2_3781 ++ [])) ++ (u_.2 ++ [])) H) (hD : va_D A (([(oD, .inl (G.2 6, 1, .inr (.inr (.inr (.inl og))))), (o, .inl (G.2 5, 1, .inr (.inl of2_3779)))] ++ (W2_3781 ++ [])) ++ (u_.2 ++ []))) hS hfz hfk => ?_)
  obtain ⟨rr_3788, W2_3789⟩ := u_
  obtain ⟨hq_3790, hq_3791⟩ : ((o_pass (dC M) (sx9 xs (i9 + 1))).1 = 0 → rr_3788 = (o_pass (dC M) (sx9 xs (i9 + 1))).2.1) ∧ MdW G m0 (if (o_pass (dC M) (sx9 xs (i9 + 1))).1 = 0 then (((o_pass (dC M) (sx9 xs (i9 + 1))).2.2, dS M, min 6 (dK M + 1), hsR (dH M) (dK M) (dC M), dL M, dN M) : DS) else M) (o_pass (dC M) (sx9 xs (i9 + 1))).1 W2_3789 := hq
  have hpm_3792 : (([(oD, .inl (G.2 6, 1, .inr (.inr (.inr (.inl og))))), (o, .inl (G.2 5, 1, .inr (.inl of2_3779)))] ++ (W2_3781 ++ [])) ++ (W2_3789 ++ []) : va_W).Perm ([(oD, .inl (G.2 6, 1, .inr (.inr (.inr (.inl og))))), (o, .inl (G.2 5, 1, .inr (.inl of2_3779)))] ++ (W2_3781 ++ (W2_3789 ++ []))) := segs_perm2 [[(oD, .inl (G.2 6, 1, .inr (.inr (.inr (.inl og)))))], [(o, .inl (G.2 5, 1, .inr (.inl of2_3779)))], W2_3781] [W2_3789] [0, 1, 2, 3] rfl
  have hP : va_P G.1 CL ([(oD, .inl (G.2 6, 1, .inr (.inr (.inr (.inl og))))), (o, .inl (G.2 5, 1, .inr (.inl of2_3779)))] ++ (W2_3781 ++ (W2_3789 ++ []))) H := P_perm hpm_3792 hP
  have hD : va_D A ([(oD, .inl (G.2 6, 1, .inr (.inr (.inr (.inl og))))), (o, .inl (G.2 5, 1, .inr (.inl of2_3779)))] ++ (W2_3781 ++ (W2_3789 ++ []))) := D_perm hpm_3792 hD
  refine W.eq (g2 := F0 m 287 ls [.int rr_3788]) rfl ?_
  refine lv_istore (lv' := [(7, .int rr_3788), (6, .int (nI ((o_pass (dC C) (sx9 xs (i9 + 1))).1))), (0, .ref b), (1, .ref d), (2, .ref m0), (3, .ref o), (4, .ref oD), (5, .int (nI i9))]) hx hb dL_law_287 hl (by decide) rfl (fun ls hl => ?_)
  refine lv_aload_n hx hb dL_law_289 rfl (lv_at hl 4 rfl) ?_
  have hpm_3793 : (([(oD, .inl (G.2 6, 1, .inr (.inr (.inr (.inl og))))), (o, .inl (G.2 5, 1, .inr (.inl of2_3779)))] ++ (W2_3781 ++ (W2_3789 ++ []))) : va_W).Perm ([] ++ ([(oD, .inl (G.2 6, 1, .inr (.inr (.inr (.inl og))))), (o, .inl (G.2 5, 1, .inr (.inl of2_3779)))] ++ (W2_3781 ++ (W2_3789 ++ [])))) := segs_perm [[(oD, .inl (G.2 6, 1, .inr (.inr (.inr (.inl og)))))], [(o, .inl (G.2 5, 1, .inr (.inl of2_3779)))], W2_3781, W2_3789] [] [0, 1, 2, 3] rfl
  have hF := hF_ofP (wc := []) hD hS hA hpm_3793
  refine go_ctP hS hP hD hpm_3793 hF
      (va_runV (As := []) (rest := []) cf (eX4_thrown l G m0 (if ((o_pass (dC M) (sx9 xs (i9 + 1)))).1 = 0 then ((((o_pass (dC M) (sx9 xs (i9 + 1)))).2.2, dS M, min 6 (dK M + 1), hsR (dH M) (dK M) (dC M), dL M, dN M) : DS) else M) (((o_pass (dC M) (sx9 xs (i9 + 1)))).1) W2_3789 (hq_3791) H.size) (cwV 0 hts (lw_V q1639 q1640 q1641 q58 q1642) rfl rfl rfl (by decide +kernel) ⟨Nat.le_of_ble_eq_true rfl, Nat.le_of_ble_eq_true rfl⟩) (preV_of hKB hE hS hF (MdW.recv hK hq_3791 (seg_at [[(oD, .inl (G.2 6, 1, .inr (.inr (.inr (.inl og)))))], [(o, .inl (G.2 5, 1, .inr (.inl of2_3779)))], W2_3781, W2_3789] 3 rfl hP)) (P_left (P_perm hpm_3793 hP)) ((D_left (D_perm hpm_3793 hD)).weaken (fun _ _ _ _ => trivial)) (roW.nil (seg_at [[(oD, .inl (G.2 6, 1, .inr (.inr (.inr (.inl og)))))], [(o, .inl (G.2 5, 1, .inr (.inl of2_3779)))], W2_3781, W2_3789] 3 rfl hP))) rfl rfl hl.1 rfl (lv_room (Nat.le_of_ble_eq_true rfl)) dL_law_290 ⟨show cl + (1 + 101) + 0 ≤ 1200144 from by first | decide | omega, show sl + (6 + 5800) + 0 ≤ 5495674 from by first | decide | omega⟩)
      (fun u_ H locs hq hph (hP : va_P G.1 CL (([(oD, .inl (G.2 6, 1, .inr (.inr (.inr (.inl og))))), (o, .inl (G.2 5, 1, .inr (.inl of2_3779)))] ++ (W2_3781 ++ (W2_3789 ++ []))) ++ []) H) (hD : va_D A (([(oD, .inl (G.2 6, 1, .inr (.inr (.inr (.inl og))))), (o, .inl (G.2 5, 1, .inr (.inl of2_3779)))] ++ (W2_3781 ++ (W2_3789 ++ []))) ++ [])) hS hfz hfk => ?_)
  have hpm_3794 : (([(oD, .inl (G.2 6, 1, .inr (.inr (.inr (.inl og))))), (o, .inl (G.2 5, 1, .inr (.inl of2_3779)))] ++ (W2_3781 ++ (W2_3789 ++ []))) ++ [] : va_W).Perm ([(oD, .inl (G.2 6, 1, .inr (.inr (.inr (.inl og))))), (o, .inl (G.2 5, 1, .inr (.inl of2_3779)))] ++ (W2_3781 ++ (W2_3789 ++ []))) := segs_perm2 [[(oD, .inl (G.2 6, 1, .inr (.inr (.inr (.inl og)))))], [(o, .inl (G.2 5, 1, .inr (.inl of2_3779)))], W2_3781, W2_3789] [] [0, 1, 2, 3] rfl
  have hP : va_P G.1 CL ([(oD, .inl (G.2 6, 1, .inr (.inr (.inr (.inl og))))), (o, .inl (G.2 5, 1, .inr (.inl of2_3779)))] ++ (W2_3781 ++ (W2_3789 ++ []))) H := P_perm hpm_3794 hP
  have hD : va_D A ([(oD, .inl (G.2 6, 1, .inr (.inr (.inr (.inl og))))), (o, .inl (G.2 5, 1, .inr (.inl of2_3779)))] ++ (W2_3781 ++ (W2_3789 ++ []))) := D_perm hpm_3794 hD
  refine W.eq (g2 := F0 m 293 ls [.int (nI (((o_pass (dC M) (sx9 xs (i9 + 1)))).1))]) rfl ?_
  refine lv_ton (n := ((o_pass (dC C) (sx9 xs (i9 + 1))).1)) (congrArg nI hqs.1.symm) ?_
  refine lv_iload hx hb dL_law_293 (lv_at hl 1 rfl) ?_
  refine lv_icmp_eq (tgt := 300) hx hb dL_law_295 (by decide) (fun _ => ?_) (fun c9 => absurd rfl c9)
  refine lv_iload hx hb dL_law_300 (lv_at hl 1 rfl) ?_
  refine n_if_ne (tgt := 317) hx hb (by omega) dL_law_302 (by decide) (fun c_3795 => ?_) (fun c_3795 => ?_)
  · refine lv_goto (tgt := 2788) hx hb dL_law_317 (by decide) ?_
    have hpm_3796 : (([(oD, .inl (G.2 6, 1, .inr (.inr (.inr (.inl og))))), (o, .inl (G.2 5, 1, .inr (.inl of2_3779)))] ++ (W2_3781 ++ (W2_3789 ++ []))) : va_W).Perm (([(o, .inl (G.2 5, 1, .inr (.inl of2_3779))), (oD, .inl (G.2 6, 1, .inr (.inr (.inr (.inl og)))))] ++ (W2_3781 ++ (W2_3789 ++ []))) ++ []) := segs_perm [[(oD, .inl (G.2 6, 1, .inr (.inr (.inr (.inl og)))))], [(o, .inl (G.2 5, 1, .inr (.inl of2_3779)))], W2_3781, W2_3789] [1, 0, 2, 3] [] rfl
    have hP : va_P G.1 CL ([(o, .inl (G.2 5, 1, .inr (.inl of2_3779))), (oD, .inl (G.2 6, 1, .inr (.inr (.inr (.inl og)))))] ++ (W2_3781 ++ (W2_3789 ++ []))) H := P_left (P_perm hpm_3796 hP)
    have hD : va_D A ([(o, .inl (G.2 5, 1, .inr (.inl of2_3779))), (oD, .inl (G.2 6, 1, .inr (.inr (.inr (.inl og)))))] ++ (W2_3781 ++ (W2_3789 ++ []))) := D_left (D_perm hpm_3796 hD)
    have hl := lv_sub hl [2, 3, 4, 5, 6, 7] (l' := [(0, .ref b), (1, .ref d), (2, .ref m0), (3, .ref o), (4, .ref oD), (5, .int (nI i9))]) rfl
    exact W.widen (show cl + (1 + 101) ≤ cl + 20000 from by omega) (show sl + (6 + 5800) ≤ sl + 45000 from by omega) (kk ls H locs S2_3780 (if ((o_pass (dC M) (sx9 xs (i9 + 1)))).1 = 0 then ((((o_pass (dC M) (sx9 xs (i9 + 1)))).2.2, dS M, min 6 (dK M + 1), hsR (dH M) (dK M) (dC M), dL M, dN M) : DS) else M) (((o_pass (dC M) (sx9 xs (i9 + 1)))).1) W2_3781 W2_3789 of2_3779 og hP hD hS hl hq_3785 hq_3791 (hLw.mut hqs hq_3783 (o_pass_b (dC C) (sx9 xs (i9 + 1)))))
  · refine lv_aload_n hx hb dL_law_305 rfl (lv_at hl 5 rfl) ?_
    refine lv_iconst (v := nI 0) hx hb dL_law_306 (by decide) ?_
    refine r_lald (v := (((o_pass (dC C) (sx9 xs (i9 + 1)))).2.1).toInt64) hx hb hK hP 1 5 rfl rfl (i := 0) (by omega) (by omega) ((hq_3782 (by omega))) dL_law_307 ?_
    refine lv_iload hx hb dL_law_308 (lv_at hl 0 rfl) ?_
    refine lv_toi (y := ((o_pass (dC C) (sx9 xs (i9 + 1)))).2.1) ((hq_3790 (hqs.1.symm.trans (by omega))).trans hqs.2.1.symm) ?_
    refine lv_i2l (v := (((o_pass (dC C) (sx9 xs (i9 + 1)))).2.1).toInt64) hx hb dL_law_310 rfl ?_
    refine W.lcmp hx hb dL_law_311 ?_
    refine lv_ton (n := 0) (lcmp0 _) ?_
    refine n_if_eq (tgt := 317) hx hb (by omega) dL_law_312 (by decide) (fun c_3797 => ?_) (fun c_3797 => absurd c_3797 (by omega))
    refine lv_goto (tgt := 2788) hx hb dL_law_317 (by decide) ?_
    have hpm_3798 : (([(oD, .inl (G.2 6, 1, .inr (.inr (.inr (.inl og))))), (o, .inl (G.2 5, 1, .inr (.inl of2_3779)))] ++ (W2_3781 ++ (W2_3789 ++ []))) : va_W).Perm (([(o, .inl (G.2 5, 1, .inr (.inl of2_3779))), (oD, .inl (G.2 6, 1, .inr (.inr (.inr (.inl og)))))] ++ (W2_3781 ++ (W2_3789 ++ []))) ++ []) := segs_perm [[(oD, .inl (G.2 6, 1, .inr (.inr (.inr (.inl og)))))], [(o, .inl (G.2 5, 1, .inr (.inl of2_3779)))], W2_3781, W2_3789] [1, 0, 2, 3] [] rfl
    have hP : va_P G.1 CL ([(o, .inl (G.2 5, 1, .inr (.inl of2_3779))), (oD, .inl (G.2 6, 1, .inr (.inr (.inr (.inl og)))))] ++ (W2_3781 ++ (W2_3789 ++ []))) H := P_left (P_perm hpm_3798 hP)
    have hD : va_D A ([(o, .inl (G.2 5, 1, .inr (.inl of2_3779))), (oD, .inl (G.2 6, 1, .inr (.inr (.inr (.inl og)))))] ++ (W2_3781 ++ (W2_3789 ++ []))) := D_left (D_perm hpm_3798 hD)
    have hl := lv_sub hl [2, 3, 4, 5, 6, 7] (l' := [(0, .ref b), (1, .ref d), (2, .ref m0), (3, .ref o), (4, .ref oD), (5, .int (nI i9))]) rfl
    exact W.widen (show cl + (1 + 101) ≤ cl + 20000 from by omega) (show sl + (6 + 5800) ≤ sl + 45000 from by omega) (kk ls H locs S2_3780 (if ((o_pass (dC M) (sx9 xs (i9 + 1)))).1 = 0 then ((((o_pass (dC M) (sx9 xs (i9 + 1)))).2.2, dS M, min 6 (dK M + 1), hsR (dH M) (dK M) (dC M), dL M, dN M) : DS) else M) (((o_pass (dC M) (sx9 xs (i9 + 1)))).1) W2_3781 W2_3789 of2_3779 og hP hD hS hl hq_3785 hq_3791 (hLw.mut hqs hq_3783 (o_pass_b (dC C) (sx9 xs (i9 + 1)))))

set_option maxHeartbeats 4000000 in
theorem lawK_1 {p : Program} {l : Launch} {e : Env} {s : State} {m : MethodId} {below : List Frame} {meth : Method} {c : Code} {G : Gt} {A : Nat → Prop} {b L : Nat} {xs : Nat → Int32} {Q : State → Prop} {d m0 o oD i9 N cl sl : Nat} (hfl : l.stackTraces = false) (F : LwF G A p s m c b L xs) (hi9 : i9 + 4 ≤ L) (hN24 : N ≤ 24) (hcl : cl + 20000 ≤ 1200144) (hsl : sl + 45000 ≤ 5495674) (kk : ∀ (ls : Array Slot) (H : Heap) (locs : List Loc) (C M : DS) (th : Nat) (WD WM : va_W) (of : Nat → Int64) (og : Nat → UInt64), va_P G.1 CL ([(o, .inl (G.2 5, 1, .inr (.inl of))), (oD, .inl (G.2 6, 1, .inr (.inr (.inr (.inl og)))))] ++ (WD ++ (WM ++ []))) H → va_D A ([(o, .inl (G.2 5, 1, .inr (.inl of))), (oD, .inl (G.2 6, 1, .inr (.inr (.inr (.inl og)))))] ++ (WD ++ (WM ++ []))) → va_S A s.heap H locs → lv_has ls 10 [(0, .ref b), (1, .ref d), (2, .ref m0), (3, .ref o), (4, .ref oD), (5, .int (nI i9))] → DyW G d C WD → MdW G m0 M th WM → LawI C M (N + 1) → W p l e room_1 s m #[Value.ref b] below meth c H locs (cl + 20000) (sl + 45000) Q (F0 m 2788 ls [])) {ls : Array Slot} {H : Heap} {locs : List Loc} {C M : DS} {th : Nat} {WD WM : va_W} {of : Nat → Int64} {og : Nat → UInt64} (hP : va_P G.1 CL ([(o, .inl (G.2 5, 1, .inr (.inl of))), (oD, .inl (G.2 6, 1, .inr (.inr (.inr (.inl og)))))] ++ (WD ++ (WM ++ []))) H) (hD : va_D A ([(o, .inl (G.2 5, 1, .inr (.inl of))), (oD, .inl (G.2 6, 1, .inr (.inr (.inr (.inl og)))))] ++ (WD ++ (WM ++ [])))) (hS : va_S A s.heap H locs) (hl : lv_has ls 10 [(0, .ref b), (1, .ref d), (2, .ref m0), (3, .ref o), (4, .ref oD), (5, .int (nI i9))]) (hDy : DyW G d C WD) (hMd : MdW G m0 M th WM) (hLw : LawI C M N) : W p l e room_1 s m #[Value.ref b] below meth c H locs cl sl Q (F0 m 320 ls []) := by
  obtain ⟨cf, hKB, hE, hA, hX9, hbl, hbA, hNc, hL96⟩ := F
  have hx := cf.1
  have hb := cf.2.1
  have hml := cf.2.2.1
  have hown : s.vm.findClass RX0 = some m.cls := cf.2.2.2.1
  have hts := cf.2.2.2.2
  have hK := hKB.1
  have hIc := hDy.inv.1
  have hIm : Inv (dC M) := Inv_sim hLw.1 hIc
  have hRk : RkOk (dC M) := RkOk_sim hLw.1 (RkOk_srt hDy.inv.2.2)
  have hl := hl
  refine lv_aload_n hx hb dL_law_320 rfl (lv_at hl 1 rfl) ?_
  have hpm_3799 : (([(o, .inl (G.2 5, 1, .inr (.inl of))), (oD, .inl (G.2 6, 1, .inr (.inr (.inr (.inl og)))))] ++ (WD ++ (WM ++ []))) : va_W).Perm ((WD ++ []) ++ ([(o, .inl (G.2 5, 1, .inr (.inl of))), (oD, .inl (G.2 6, 1, .inr (.inr (.inr (.inl og)))))] ++ (WM ++ []))) := segs_perm [[(o, .inl (G.2 5, 1, .inr (.inl of)))], [(oD, .inl (G.2 6, 1, .inr (.inr (.inr (.inl og)))))], WD, WM] [2] [0, 1, 3] rfl
  have hF := hF_ofP (wc := (WD ++ [])) hD hS hA hpm_3799
  refine go_ctP hS hP hD hpm_3799 hF
      (va_runV (As := []) (rest := []) cf (dX1_today l G d C WD (hDy) H.size) (cwV 0 hts (lw_V q251 q252 q253 q47 q254) rfl rfl rfl (by decide +kernel) ⟨Nat.le_of_ble_eq_true rfl, Nat.le_of_ble_eq_true rfl⟩) (preV_of hKB hE hS hF (DyW.recv hK hDy (seg_at [[(o, .inl (G.2 5, 1, .inr (.inl of)))], [(oD, .inl (G.2 6, 1, .inr (.inr (.inr (.inl og)))))], WD, WM] 2 rfl hP)) (P_left (P_perm hpm_3799 hP)) ((D_left (D_perm hpm_3799 hD)).weaken (fun _ _ _ _ => trivial)) trivial) rfl rfl hl.1 rfl (lv_room (Nat.le_of_ble_eq_true rfl)) dL_law_321 ⟨show cl + 1 ≤ 1200144 from by first | decide | omega, show sl + 2 ≤ 5495674 from by first | decide | omega⟩)
      (fun u_ H locs hq hph (hP : va_P G.1 CL (([(o, .inl (G.2 5, 1, .inr (.inl of))), (oD, .inl (G.2 6, 1, .inr (.inr (.inr (.inl og)))))] ++ (WM ++ [])) ++ (u_.2 ++ [])) H) (hD : va_D A (([(o, .inl (G.2 5, 1, .inr (.inl of))), (oD, .inl (G.2 6, 1, .inr (.inr (.inr (.inl og)))))] ++ (WM ++ [])) ++ (u_.2 ++ []))) hS hfz hfk => ?_)
  obtain ⟨rr_3800, W2_3801⟩ := u_
  obtain ⟨hq_3802, hq_3803⟩ : q_today (dC C) = (0, rr_3800) ∧ DyW G d C W2_3801 := hq
  have hpm_3804 : (([(o, .inl (G.2 5, 1, .inr (.inl of))), (oD, .inl (G.2 6, 1, .inr (.inr (.inr (.inl og)))))] ++ (WM ++ [])) ++ (W2_3801 ++ []) : va_W).Perm ([(o, .inl (G.2 5, 1, .inr (.inl of))), (oD, .inl (G.2 6, 1, .inr (.inr (.inr (.inl og)))))] ++ (WM ++ (W2_3801 ++ []))) := segs_perm2 [[(o, .inl (G.2 5, 1, .inr (.inl of)))], [(oD, .inl (G.2 6, 1, .inr (.inr (.inr (.inl og)))))], WM] [W2_3801] [0, 1, 2, 3] rfl
  have hP : va_P G.1 CL ([(o, .inl (G.2 5, 1, .inr (.inl of))), (oD, .inl (G.2 6, 1, .inr (.inr (.inr (.inl og)))))] ++ (WM ++ (W2_3801 ++ []))) H := P_perm hpm_3804 hP
  have hD : va_D A ([(o, .inl (G.2 5, 1, .inr (.inl of))), (oD, .inl (G.2 6, 1, .inr (.inr (.inr (.inl og)))))] ++ (WM ++ (W2_3801 ++ []))) := D_perm hpm_3804 hD
  refine W.eq (g2 := F0 m 324 ls [.int rr_3800]) rfl ?_
  have hqs : (q_today (dC M)) = (q_today (dC C)) := q_today_sim hLw.1.symm hIm 
  refine lv_toi (y := ((q_today (dC C))).2) ((congrArg Prod.snd hq_3802).symm) ?_
  refine lv_aload_n hx hb dL_law_324 rfl (lv_at hl 2 rfl) ?_
  have hpm_3805 : (([(o, .inl (G.2 5, 1, .inr (.inl of))), (oD, .inl (G.2 6, 1, .inr (.inr (.inr (.inl og)))))] ++ (WM ++ (W2_3801 ++ []))) : va_W).Perm ((WM ++ []) ++ ([(o, .inl (G.2 5, 1, .inr (.inl of))), (oD, .inl (G.2 6, 1, .inr (.inr (.inr (.inl og)))))] ++ (W2_3801 ++ []))) := segs_perm [[(o, .inl (G.2 5, 1, .inr (.inl of)))], [(oD, .inl (G.2 6, 1, .inr (.inr (.inr (.inl og)))))], WM, W2_3801] [2] [0, 1, 3] rfl
  have hF := hF_ofP (wc := (WM ++ [])) hD hS hA hpm_3805
  refine go_ctP hS hP hD hpm_3805 hF
      (va_runV (As := []) (rest := [.int (((q_today (dC C))).2)]) cf (eX4_today l G m0 M th WM (hMd) (hIm) H.size) (cwV 0 hts (lw_V q1659 q1660 q1661 q58 q1662) rfl rfl rfl (by decide +kernel) ⟨Nat.le_of_ble_eq_true rfl, Nat.le_of_ble_eq_true rfl⟩) (preV_of hKB hE hS hF (MdW.recv hK hMd (seg_at [[(o, .inl (G.2 5, 1, .inr (.inl of)))], [(oD, .inl (G.2 6, 1, .inr (.inr (.inr (.inl og)))))], WM, W2_3801] 2 rfl hP)) (P_left (P_perm hpm_3805 hP)) ((D_left (D_perm hpm_3805 hD)).weaken (fun _ _ _ _ => trivial)) trivial) rfl rfl hl.1 rfl (lv_room (Nat.le_of_ble_eq_true rfl)) dL_law_325 ⟨show cl + 1 + 0 ≤ 1200144 from by first | decide | omega, show sl + 2 + 0 ≤ 5495674 from by first | decide | omega⟩)
      (fun u_ H locs hq hph (hP : va_P G.1 CL (([(o, .inl (G.2 5, 1, .inr (.inl of))), (oD, .inl (G.2 6, 1, .inr (.inr (.inr (.inl og)))))] ++ (W2_3801 ++ [])) ++ (u_.2 ++ [])) H) (hD : va_D A (([(o, .inl (G.2 5, 1, .inr (.inl of))), (oD, .inl (G.2 6, 1, .inr (.inr (.inr (.inl og)))))] ++ (W2_3801 ++ [])) ++ (u_.2 ++ []))) hS hfz hfk => ?_)
  obtain ⟨rr_3806, W2_3807⟩ := u_
  obtain ⟨hq_3808, hq_3809⟩ : ((q_today (dC M)).1 = 0 → rr_3806 = (q_today (dC M)).2) ∧ MdW G m0 M (q_today (dC M)).1 W2_3807 := hq
  have hpm_3810 : (([(o, .inl (G.2 5, 1, .inr (.inl of))), (oD, .inl (G.2 6, 1, .inr (.inr (.inr (.inl og)))))] ++ (W2_3801 ++ [])) ++ (W2_3807 ++ []) : va_W).Perm ([(o, .inl (G.2 5, 1, .inr (.inl of))), (oD, .inl (G.2 6, 1, .inr (.inr (.inr (.inl og)))))] ++ (W2_3801 ++ (W2_3807 ++ []))) := segs_perm2 [[(o, .inl (G.2 5, 1, .inr (.inl of)))], [(oD, .inl (G.2 6, 1, .inr (.inr (.inr (.inl og)))))], W2_3801] [W2_3807] [0, 1, 2, 3] rfl
  have hP : va_P G.1 CL ([(o, .inl (G.2 5, 1, .inr (.inl of))), (oD, .inl (G.2 6, 1, .inr (.inr (.inr (.inl og)))))] ++ (W2_3801 ++ (W2_3807 ++ []))) H := P_perm hpm_3810 hP
  have hD : va_D A ([(o, .inl (G.2 5, 1, .inr (.inl of))), (oD, .inl (G.2 6, 1, .inr (.inr (.inr (.inl og)))))] ++ (W2_3801 ++ (W2_3807 ++ []))) := D_perm hpm_3810 hD
  refine W.eq (g2 := F0 m 328 ls [.int rr_3806, .int (((q_today (dC C))).2)]) rfl ?_
  refine lv_toi (y := ((q_today (dC C))).2) ((hq_3808 (by rw [hqs, hq_3802])).trans (by rw [hqs])) ?_
  refine lv_icmp_eq (tgt := 2788) hx hb dL_law_328 (by decide) (fun _ => ?_) (fun c9 => absurd rfl c9)
  have hpm_3811 : (([(o, .inl (G.2 5, 1, .inr (.inl of))), (oD, .inl (G.2 6, 1, .inr (.inr (.inr (.inl og)))))] ++ (W2_3801 ++ (W2_3807 ++ []))) : va_W).Perm (([(o, .inl (G.2 5, 1, .inr (.inl of))), (oD, .inl (G.2 6, 1, .inr (.inr (.inr (.inl og)))))] ++ (W2_3801 ++ (W2_3807 ++ []))) ++ []) := segs_perm [[(o, .inl (G.2 5, 1, .inr (.inl of)))], [(oD, .inl (G.2 6, 1, .inr (.inr (.inr (.inl og)))))], W2_3801, W2_3807] [0, 1, 2, 3] [] rfl
  have hP : va_P G.1 CL ([(o, .inl (G.2 5, 1, .inr (.inl of))), (oD, .inl (G.2 6, 1, .inr (.inr (.inr (.inl og)))))] ++ (W2_3801 ++ (W2_3807 ++ []))) H := P_left (P_perm hpm_3811 hP)
  have hD : va_D A ([(o, .inl (G.2 5, 1, .inr (.inl of))), (oD, .inl (G.2 6, 1, .inr (.inr (.inr (.inl og)))))] ++ (W2_3801 ++ (W2_3807 ++ []))) := D_left (D_perm hpm_3811 hD)
  have hl := lv_sub hl [0, 1, 2, 3, 4, 5] (l' := [(0, .ref b), (1, .ref d), (2, .ref m0), (3, .ref o), (4, .ref oD), (5, .int (nI i9))]) rfl
  exact W.widen (show cl + 1 ≤ cl + 20000 from by omega) (show sl + 2 ≤ sl + 45000 from by omega) (kk ls H locs C M (((q_today (dC M))).1) W2_3801 W2_3807 of og hP hD hS hl hq_3803 hq_3809 hLw.up)

set_option maxHeartbeats 4000000 in
theorem lawK_2 {p : Program} {l : Launch} {e : Env} {s : State} {m : MethodId} {below : List Frame} {meth : Method} {c : Code} {G : Gt} {A : Nat → Prop} {b L : Nat} {xs : Nat → Int32} {Q : State → Prop} {d m0 o oD i9 N cl sl : Nat} (hfl : l.stackTraces = false) (F : LwF G A p s m c b L xs) (hi9 : i9 + 4 ≤ L) (hN24 : N ≤ 24) (hcl : cl + 20000 ≤ 1200144) (hsl : sl + 45000 ≤ 5495674) (kk : ∀ (ls : Array Slot) (H : Heap) (locs : List Loc) (C M : DS) (th : Nat) (WD WM : va_W) (of : Nat → Int64) (og : Nat → UInt64), va_P G.1 CL ([(o, .inl (G.2 5, 1, .inr (.inl of))), (oD, .inl (G.2 6, 1, .inr (.inr (.inr (.inl og)))))] ++ (WD ++ (WM ++ []))) H → va_D A ([(o, .inl (G.2 5, 1, .inr (.inl of))), (oD, .inl (G.2 6, 1, .inr (.inr (.inr (.inl og)))))] ++ (WD ++ (WM ++ []))) → va_S A s.heap H locs → lv_has ls 10 [(0, .ref b), (1, .ref d), (2, .ref m0), (3, .ref o), (4, .ref oD), (5, .int (nI i9))] → DyW G d C WD → MdW G m0 M th WM → LawI C M (N + 1) → W p l e room_1 s m #[Value.ref b] below meth c H locs (cl + 20000) (sl + 45000) Q (F0 m 2788 ls [])) {ls : Array Slot} {H : Heap} {locs : List Loc} {C M : DS} {th : Nat} {WD WM : va_W} {of : Nat → Int64} {og : Nat → UInt64} (hP : va_P G.1 CL ([(o, .inl (G.2 5, 1, .inr (.inl of))), (oD, .inl (G.2 6, 1, .inr (.inr (.inr (.inl og)))))] ++ (WD ++ (WM ++ []))) H) (hD : va_D A ([(o, .inl (G.2 5, 1, .inr (.inl of))), (oD, .inl (G.2 6, 1, .inr (.inr (.inr (.inl og)))))] ++ (WD ++ (WM ++ [])))) (hS : va_S A s.heap H locs) (hl : lv_has ls 10 [(0, .ref b), (1, .ref d), (2, .ref m0), (3, .ref o), (4, .ref oD), (5, .int (nI i9))]) (hDy : DyW G d C WD) (hMd : MdW G m0 M th WM) (hLw : LawI C M N) : W p l e room_1 s m #[Value.ref b] below meth c H locs cl sl Q (F0 m 333 ls []) := by
  obtain ⟨cf, hKB, hE, hA, hX9, hbl, hbA, hNc, hL96⟩ := F
  have hx := cf.1
  have hb := cf.2.1
  have hml := cf.2.2.1
  have hown : s.vm.findClass RX0 = some m.cls := cf.2.2.2.1
  have hts := cf.2.2.2.2
  have hK := hKB.1
  have hIc := hDy.inv.1
  have hIm : Inv (dC M) := Inv_sim hLw.1 hIc
  have hRk : RkOk (dC M) := RkOk_sim hLw.1 (RkOk_srt hDy.inv.2.2)
  have hl := hl
  refine lv_aload_n hx hb dL_law_333 rfl (lv_at hl 1 rfl) ?_
  refine lv_aload_n hx hb dL_law_334 rfl (lv_at hl 0 rfl) ?_
  refine lv_iload hx hb dL_law_335 (lv_at hl 5 rfl) ?_
  refine lv_iconst (v := nI 1) hx hb dL_law_337 (by decide) ?_
  refine lv_iadd hx hb dL_law_338 ?_
  refine lv_ton (n := i9 + 1) (nadd (by omega)) ?_
  refine va_sld hx hb hX9 hbl hbA hS (i := nI (i9 + 1)) (vp9 (by omega) hL96) dL_law_339 ?_
  refine W.eq (g2 := F0 m 340 ls [.int (sx9 xs (i9 + 1)), .ref d]) rfl ?_
  refine lv_aload_n hx hb dL_law_340 rfl (lv_at hl 0 rfl) ?_
  refine lv_iload hx hb dL_law_341 (lv_at hl 5 rfl) ?_
  refine lv_iconst (v := nI 2) hx hb dL_law_343 (by decide) ?_
  refine lv_iadd hx hb dL_law_344 ?_
  refine lv_ton (n := i9 + 2) (nadd (by omega)) ?_
  refine va_sld hx hb hX9 hbl hbA hS (i := nI (i9 + 2)) (vp9 (by omega) hL96) dL_law_345 ?_
  refine W.eq (g2 := F0 m 346 ls [.int (sx9 xs (i9 + 2)), .int (sx9 xs (i9 + 1)), .ref d]) rfl ?_
  refine lv_aload_n hx hb dL_law_346 rfl (lv_at hl 3 rfl) ?_
  have hpm_3812 : (([(o, .inl (G.2 5, 1, .inr (.inl of))), (oD, .inl (G.2 6, 1, .inr (.inr (.inr (.inl og)))))] ++ (WD ++ (WM ++ []))) : va_W).Perm (([(o, .inl (G.2 5, 1, .inr (.inl of)))] ++ (WD ++ [])) ++ ([(oD, .inl (G.2 6, 1, .inr (.inr (.inr (.inl og)))))] ++ (WM ++ []))) := segs_perm [[(o, .inl (G.2 5, 1, .inr (.inl of)))], [(oD, .inl (G.2 6, 1, .inr (.inr (.inr (.inl og)))))], WD, WM] [0, 2] [1, 3] rfl
  have hF := hF_ofP (wc := ([(o, .inl (G.2 5, 1, .inr (.inl of)))] ++ (WD ++ []))) hD hS hA hpm_3812
  refine go_ctP hS hP hD hpm_3812 hF
      (vx_runSW (As := [.ref d, .int (sx9 xs (i9 + 1)), .int (sx9 xs (i9 + 2)), .ref o]) (rest := []) cf (wX0_addTest l G d C WD o of (sx9 xs (i9 + 1)) (sx9 xs (i9 + 2)) (hDy) hfl H.size) (vx_cwSW 4 hts (lw_SW q718 q719 q46 q720) rfl rfl rfl (by decide +kernel) ⟨Nat.le_of_ble_eq_true rfl, Nat.le_of_ble_eq_true rfl⟩) (preS_ofW hNc hKB hE hS hF (P_left (P_perm hpm_3812 hP)) ((D_left (D_perm hpm_3812 hD)).weaken (fun _ _ _ _ => trivial)) trivial) rfl rfl hl.1 rfl (lv_room (Nat.le_of_ble_eq_true rfl)) dL_law_347 ⟨show cl + (95 + 101) ≤ 1200144 from by first | decide | omega, show sl + (300 + 5800) ≤ 5495674 from by first | decide | omega⟩)
      (fun u_ H locs hq hph (hP : va_P G.1 CL (([(oD, .inl (G.2 6, 1, .inr (.inr (.inr (.inl og)))))] ++ (WM ++ [])) ++ ([(o, .inl (G.2 5, 1, .inr (.inl u_.1)))] ++ (u_.2.2 ++ []))) H) (hD : va_D A (([(oD, .inl (G.2 6, 1, .inr (.inr (.inr (.inl og)))))] ++ (WM ++ [])) ++ ([(o, .inl (G.2 5, 1, .inr (.inl u_.1)))] ++ (u_.2.2 ++ [])))) hS hfz hfk => ?_)
  obtain ⟨of2_3813, S2_3814, W2_3815⟩ := u_
  obtain ⟨hq_3816, hq_3817, hq_3818, hq_3819⟩ : ((o_addTest (dC C) (sx9 xs (i9 + 1)) (sx9 xs (i9 + 2))).1 = 0 → of2_3813 0 = ((o_addTest (dC C) (sx9 xs (i9 + 1)) (sx9 xs (i9 + 2))).2.1).toInt64) ∧ NxS C (o_addTest (dC C) (sx9 xs (i9 + 1)) (sx9 xs (i9 + 2))) S2_3814 ∧ (o_addTest (dC C) (sx9 xs (i9 + 1)) (sx9 xs (i9 + 2))).1 < 10 ∧ DyW G d S2_3814 W2_3815 := hq
  have hpm_3820 : (([(oD, .inl (G.2 6, 1, .inr (.inr (.inr (.inl og)))))] ++ (WM ++ [])) ++ ([(o, .inl (G.2 5, 1, .inr (.inl of2_3813)))] ++ (W2_3815 ++ [])) : va_W).Perm ([(oD, .inl (G.2 6, 1, .inr (.inr (.inr (.inl og))))), (o, .inl (G.2 5, 1, .inr (.inl of2_3813)))] ++ (WM ++ (W2_3815 ++ []))) := segs_perm2 [[(oD, .inl (G.2 6, 1, .inr (.inr (.inr (.inl og)))))], WM] [[(o, .inl (G.2 5, 1, .inr (.inl of2_3813)))], W2_3815] [0, 2, 1, 3] rfl
  have hP : va_P G.1 CL ([(oD, .inl (G.2 6, 1, .inr (.inr (.inr (.inl og))))), (o, .inl (G.2 5, 1, .inr (.inl of2_3813)))] ++ (WM ++ (W2_3815 ++ []))) H := P_perm hpm_3820 hP
  have hD : va_D A ([(oD, .inl (G.2 6, 1, .inr (.inr (.inr (.inl og))))), (o, .inl (G.2 5, 1, .inr (.inl of2_3813)))] ++ (WM ++ (W2_3815 ++ []))) := D_perm hpm_3820 hD
  refine W.eq (g2 := F0 m 350 ls [.int (nI ((o_addTest (dC C) (sx9 xs (i9 + 1)) (sx9 xs (i9 + 2))).1))]) rfl ?_
  have hqs : SimR (o_addTest (dC C) (sx9 xs (i9 + 1)) (sx9 xs (i9 + 2))) (o_addTest (dC M) d (sx9 xs (i9 + 2))) := o_addTest_sim hLw.1 hIc (sx9 xs (i9 + 1)) (sx9 xs (i9 + 2))
  refine lv_istore (lv' := [(6, .int (nI ((o_addTest (dC C) (sx9 xs (i9 + 1)) (sx9 xs (i9 + 2))).1))), (0, .ref b), (1, .ref d), (2, .ref m0), (3, .ref o), (4, .ref oD), (5, .int (nI i9))]) hx hb dL_law_350 hl (by decide) rfl (fun ls hl => ?_)
  refine lv_aload_n hx hb dL_law_352 rfl (lv_at hl 3 rfl) ?_
  refine lv_aload_n hx hb dL_law_353 rfl (lv_at hl 1 rfl) ?_
  refine lv_iload hx hb dL_law_354 (lv_at hl 6 rfl) ?_
  refine lv_iconst (v := nI 1) hx hb dL_law_356 (by decide) ?_
  refine lv_iadd hx hb dL_law_357 ?_
  refine lv_ton (n := i9 + 1) (nadd (by omega)) ?_
  refine va_sld hx hb hX9 hbl hbA hS (i := nI (i9 + 1)) (vp9 (by omega) hL96) dL_law_358 ?_
  refine W.eq (g2 := F0 m 359 ls [.int (sx9 xs (i9 + 1)), .ref m0]) rfl ?_
  refine lv_aload_n hx hb dL_law_359 rfl (lv_at hl 1 rfl) ?_
  refine lv_iload hx hb dL_law_360 (lv_at hl 6 rfl) ?_
  refine lv_iconst (v := nI 2) hx hb dL_law_362 (by decide) ?_
  refine lv_iadd hx hb dL_law_363 ?_
  refine lv_ton (n := i9 + 2) (nadd (by omega)) ?_
  refine va_sld hx hb hX9 hbl hbA hS (i := nI (i9 + 2)) (vp9 (by omega) hL96) dL_law_364 ?_
  refine W.eq (g2 := F0 m 365 ls [.int (sx9 xs (i9 + 2)), .int (sx9 xs (i9 + 1)), .ref m0]) rfl ?_
  have hpm_3821 : (([(oD, .inl (G.2 6, 1, .inr (.inr (.inr (.inl og))))), (o, .inl (G.2 5, 1, .inr (.inl of2_3813)))] ++ (WM ++ (W2_3815 ++ []))) : va_W).Perm ((WM ++ []) ++ ([(oD, .inl (G.2 6, 1, .inr (.inr (.inr (.inl og))))), (o, .inl (G.2 5, 1, .inr (.inl of2_3813)))] ++ (W2_3815 ++ []))) := segs_perm [[(oD, .inl (G.2 6, 1, .inr (.inr (.inr (.inl og)))))], [(o, .inl (G.2 5, 1, .inr (.inl of2_3813)))], WM, W2_3815] [2] [0, 1, 3] rfl
  have hF := hF_ofP (wc := (WM ++ [])) hD hS hA hpm_3821
  refine go_ctP hS hP hD hpm_3821 hF
      (va_runV (As := [.int (sx9 xs (i9 + 1)), .int (sx9 xs (i9 + 2))]) (rest := []) cf (eX4_addTest l G m0 M th WM (sx9 xs (i9 + 1)) (sx9 xs (i9 + 2)) (hMd) (hIm) H.size) (cwV 2 hts (lw_V q1663 q1664 q1665 q58 q1666) rfl rfl rfl (by decide +kernel) ⟨Nat.le_of_ble_eq_true rfl, Nat.le_of_ble_eq_true rfl⟩) (preV_of hKB hE hS hF (MdW.recv hK hMd (seg_at [[(oD, .inl (G.2 6, 1, .inr (.inr (.inr (.inl og)))))], [(o, .inl (G.2 5, 1, .inr (.inl of2_3813)))], WM, W2_3815] 2 rfl hP)) (P_left (P_perm hpm_3821 hP)) ((D_left (D_perm hpm_3821 hD)).weaken (fun _ _ _ _ => trivial)) trivial) rfl rfl hl.1 rfl (lv_room (Nat.le_of_ble_eq_true rfl)) dL_law_365 ⟨show cl + (95 + 101) + 0 ≤ 1200144 from by first | decide | omega, show sl + (300 + 5800) + 0 ≤ 5495674 from by first | decide | omega⟩)
      (fun u_ H locs hq hph (hP : va_P G.1 CL (([(oD, .inl (G.2 6, 1, .inr (.inr (.inr (.inl og))))), (o, .inl (G.2 5, 1, .inr (.inl of2_3813)))] ++ (W2_3815 ++ [])) ++ (u_.2 ++ [])) H) (hD : va_D A (([(oD, .inl (G.2 6, 1, .inr (.inr (.inr (.inl og))))), (o, .inl (G.2 5, 1, .inr (.inl of2_3813)))] ++ (W2_3815 ++ [])) ++ (u_.2 ++ []))) hS hfz hfk => ?_)
  obtain ⟨rr_3822, W2_3823⟩ := u_
  obtain ⟨hq_3824, hq_3825⟩ : ((o_addTest (dC M) (sx9 xs (i9 + 1)) (sx9 xs (i9 + 2))).1 = 0 → rr_3822 = (o_addTest (dC M) (sx9 xs (i9 + 1)) (sx9 xs (i9 + 2))).2.1) ∧ MdW G m0 (if (o_addTest (dC M) (sx9 xs (i9 + 1)) (sx9 xs (i9 + 2))).1 = 0 then (((o_addTest (dC M) (sx9 xs (i9 + 1)) (sx9 xs (i9 + 2))).2.2, dS M, min 6 (dK M + 1), hsR (dH M) (dK M) (dC M), dL M, dN M) : DS) else M) (o_addTest (dC M) (sx9 xs (i9 + 1)) (sx9 xs (i9 + 2))).1 W2_3823 := hq
  have hpm_3826 : (([(oD, .inl (G.2 6, 1, .inr (.inr (.inr (.inl og))))), (o, .inl (G.2 5, 1, .inr (.inl of2_3813)))] ++ (W2_3815 ++ [])) ++ (W2_3823 ++ []) : va_W).Perm ([(oD, .inl (G.2 6, 1, .inr (.inr (.inr (.inl og))))), (o, .inl (G.2 5, 1, .inr (.inl of2_3813)))] ++ (W2_3815 ++ (W2_3823 ++ []))) := segs_perm2 [[(oD, .inl (G.2 6, 1, .inr (.inr (.inr (.inl og)))))], [(o, .inl (G.2 5, 1, .inr (.inl of2_3813)))], W2_3815] [W2_3823] [0, 1, 2, 3] rfl
  have hP : va_P G.1 CL ([(oD, .inl (G.2 6, 1, .inr (.inr (.inr (.inl og))))), (o, .inl (G.2 5, 1, .inr (.inl of2_3813)))] ++ (W2_3815 ++ (W2_3823 ++ []))) H := P_perm hpm_3826 hP
  have hD : va_D A ([(oD, .inl (G.2 6, 1, .inr (.inr (.inr (.inl og))))), (o, .inl (G.2 5, 1, .inr (.inl of2_3813)))] ++ (W2_3815 ++ (W2_3823 ++ []))) := D_perm hpm_3826 hD
  refine W.eq (g2 := F0 m 368 ls [.int rr_3822]) rfl ?_
  refine lv_istore (lv' := [(7, .int rr_3822), (6, .int (nI ((o_addTest (dC C) (sx9 xs (i9 + 1)) (sx9 xs (i9 + 2))).1))), (0, .ref b), (1, .ref d), (2, .ref m0), (3, .ref o), (4, .ref oD), (5, .int (nI i9))]) hx hb dL_law_368 hl (by decide) rfl (fun ls hl => ?_)
  refine lv_aload_n hx hb dL_law_370 rfl (lv_at hl 4 rfl) ?_
  have hpm_3827 : (([(oD, .inl (G.2 6, 1, .inr (.inr (.inr (.inl og))))), (o, .inl (G.2 5, 1, .inr (.inl of2_3813)))] ++ (W2_3815 ++ (W2_3823 ++ []))) : va_W).Perm ([] ++ ([(oD, .inl (G.2 6, 1, .inr (.inr (.inr (.inl og))))), (o, .inl (G.2 5, 1, .inr (.inl of2_3813)))] ++ (W2_3815 ++ (W2_3823 ++ [])))) := segs_perm [[(oD, .inl (G.2 6, 1, .inr (.inr (.inr (.inl og)))))], [(o, .inl (G.2 5, 1, .inr (.inl of2_3813)))], W2_3815, W2_3823] [] [0, 1, 2, 3] rfl
  have hF := hF_ofP (wc := []) hD hS hA hpm_3827
  refine go_ctP hS hP hD hpm_3827 hF
      (va_runV (As := []) (rest := []) cf (eX4_thrown l G m0 (if ((o_addTest (dC M) d (sx9 xs (i9 + 2)))).1 = 0 then ((((o_addTest (dC M) d (sx9 xs (i9 + 2)))).2.2, dS M, min 6 (dK M + 1), hsR (dH M) (dK M) (dC M), dL M, dN M) : DS) else M) (((o_addTest (dC M) d (sx9 xs (i9 + 2)))).1) W2_3823 (hq_3825) H.size) (cwV 0 hts (lw_V q1639 q1640 q1641 q58 q1642) rfl rfl rfl (by decide +kernel) ⟨Nat.le_of_ble_eq_true rfl, Nat.le_of_ble_eq_true rfl⟩) (preV_of hKB hE hS hF (MdW.recv hK hq_3825 (seg_at [[(oD, .inl (G.2 6, 1, .inr (.inr (.inr (.inl og)))))], [(o, .inl (G.2 5, 1, .inr (.inl of2_3813)))], W2_3815, W2_3823] 3 rfl hP)) (P_left (P_perm hpm_3827 hP)) ((D_left (D_perm hpm_3827 hD)).weaken (fun _ _ _ _ => trivial)) (roW.nil (seg_at [[(oD, .inl (G.2 6, 1, .inr (.inr (.inr (.inl og)))))], [(o, .inl (G.2 5, 1, .inr (.inl of2_3813)))], W2_3815, W2_3823] 3 rfl hP))) rfl rfl hl.1 rfl (lv_room (Nat.le_of_ble_eq_true rfl)) dL_law_371 ⟨show cl + (95 + 101) + 0 ≤ 1200144 from by first | decide | omega, show sl + (300 + 5800) + 0 ≤ 5495674 from by first | decide | omega⟩)
      (fun u_ H locs hq hph (hP : va_P G.1 CL (([(oD, .inl (G.2 6, 1, .inr (.inr (.inr (.inl og))))), (o, .inl (G.2 5, 1, .inr (.inl of2_3813)))] ++ (W2_3815 ++ (W2_3823 ++ []))) ++ []) H) (hD : va_D A (([(oD, .inl (G.2 6, 1, .inr (.inr (.inr (.inl og))))), (o, .inl (G.2 5, 1, .inr (.inl of2_3813)))] ++ (W2_3815 ++ (W2_3823 ++ []))) ++ [])) hS hfz hfk => ?_)
  have hpm_3828 : (([(oD, .inl (G.2 6, 1, .inr (.inr (.inr (.inl og))))), (o, .inl (G.2 5, 1, .inr (.inl of2_3813)))] ++ (W2_3815 ++ (W2_3823 ++ []))) ++ [] : va_W).Perm ([(oD, .inl (G.2 6, 1, .inr (.inr (.inr (.inl og))))), (o, .inl (G.2 5, 1, .inr (.inl of2_3813)))] ++ (W2_3815 ++ (W2_3823 ++ []))) := segs_perm2 [[(oD, .inl (G.2 6, 1, .inr (.inr (.inr (.inl og)))))], [(o, .inl (G.2 5, 1, .inr (.inl of2_3813)))], W2_3815, W2_3823] [] [0, 1, 2, 3] rfl
  have hP : va_P G.1 CL ([(oD, .inl (G.2 6, 1, .inr (.inr (.inr (.inl og))))), (o, .inl (G.2 5, 1, .inr (.inl of2_3813)))] ++ (W2_3815 ++ (W2_3823 ++ []))) H := P_perm hpm_3828 hP
  have hD : va_D A ([(oD, .inl (G.2 6, 1, .inr (.inr (.inr (.inl og))))), (o, .inl (G.2 5, 1, .inr (.inl of2_3813)))] ++ (W2_3815 ++ (W2_3823 ++ []))) := D_perm hpm_3828 hD
  refine W.eq (g2 := F0 m 374 ls [.int (nI (((o_addTest (dC M) d (sx9 xs (i9 + 2)))).1))]) rfl ?_
  refine lv_ton (n := ((o_addTest (dC C) (sx9 xs (i9 + 1)) (sx9 xs (i9 + 2))).1)) (congrArg nI hqs.1.symm) ?_
  refine lv_iload hx hb dL_law_374 (lv_at hl 1 rfl) ?_
  refine lv_icmp_eq (tgt := 381) hx hb dL_law_376 (by decide) (fun _ => ?_) (fun c9 => absurd rfl c9)
  refine lv_iload hx hb dL_law_381 (lv_at hl 1 rfl) ?_
  refine n_if_ne (tgt := 398) hx hb (by omega) dL_law_383 (by decide) (fun c_3829 => ?_) (fun c_3829 => ?_)
  · refine lv_goto (tgt := 2788) hx hb dL_law_398 (by decide) ?_
    have hpm_3830 : (([(oD, .inl (G.2 6, 1, .inr (.inr (.inr (.inl og))))), (o, .inl (G.2 5, 1, .inr (.inl of2_3813)))] ++ (W2_3815 ++ (W2_3823 ++ []))) : va_W).Perm (([(o, .inl (G.2 5, 1, .inr (.inl of2_3813))), (oD, .inl (G.2 6, 1, .inr (.inr (.inr (.inl og)))))] ++ (W2_3815 ++ (W2_3823 ++ []))) ++ []) := segs_perm [[(oD, .inl (G.2 6, 1, .inr (.inr (.inr (.inl og)))))], [(o, .inl (G.2 5, 1, .inr (.inl of2_3813)))], W2_3815, W2_3823] [1, 0, 2, 3] [] rfl
    have hP : va_P G.1 CL ([(o, .inl (G.2 5, 1, .inr (.inl of2_3813))), (oD, .inl (G.2 6, 1, .inr (.inr (.inr (.inl og)))))] ++ (W2_3815 ++ (W2_3823 ++ []))) H := P_left (P_perm hpm_3830 hP)
    have hD : va_D A ([(o, .inl (G.2 5, 1, .inr (.inl of2_3813))), (oD, .inl (G.2 6, 1, .inr (.inr (.inr (.inl og)))))] ++ (W2_3815 ++ (W2_3823 ++ []))) := D_left (D_perm hpm_3830 hD)
    have hl := lv_sub hl [2, 3, 4, 5, 6, 7] (l' := [(0, .ref b), (1, .ref d), (2, .ref m0), (3, .ref o), (4, .ref oD), (5, .int (nI i9))]) rfl
    exact W.widen (show cl + (95 + 101) ≤ cl + 20000 from by omega) (show sl + (300 + 5800) ≤ sl + 45000 from by omega) (kk ls H locs S2_3814 (if ((o_addTest (dC M) d (sx9 xs (i9 + 2)))).1 = 0 then ((((o_addTest (dC M) d (sx9 xs (i9 + 2)))).2.2, dS M, min 6 (dK M + 1), hsR (dH M) (dK M) (dC M), dL M, dN M) : DS) else M) (((o_addTest (dC M) d (sx9 xs (i9 + 2)))).1) W2_3815 W2_3823 of2_3813 og hP hD hS hl hq_3819 hq_3825 (hLw.mut hqs hq_3817 (o_addTest_b (dC C) (sx9 xs (i9 + 1)) (sx9 xs (i9 + 2)))))
  · refine lv_aload_n hx hb dL_law_386 rfl (lv_at hl 5 rfl) ?_
    refine lv_iconst (v := nI 0) hx hb dL_law_387 (by decide) ?_
    refine r_lald (v := (((o_addTest (dC C) (sx9 xs (i9 + 1)) (sx9 xs (i9 + 2)))).2.1).toInt64) hx hb hK hP 1 5 rfl rfl (i := 0) (by omega) (by omega) ((hq_3816 (by omega))) dL_law_388 ?_
    refine lv_iload hx hb dL_law_389 (lv_at hl 0 rfl) ?_
    refine lv_toi (y := ((o_addTest (dC C) (sx9 xs (i9 + 1)) (sx9 xs (i9 + 2)))).2.1) ((hq_3824 (hqs.1.symm.trans (by omega))).trans hqs.2.1.symm) ?_
    refine lv_i2l (v := (((o_addTest (dC C) (sx9 xs (i9 + 1)) (sx9 xs (i9 + 2)))).2.1).toInt64) hx hb dL_law_391 rfl ?_
    refine W.lcmp hx hb dL_law_392 ?_
    refine lv_ton (n := 0) (lcmp0 _) ?_
    refine n_if_eq (tgt := 398) hx hb (by omega) dL_law_393 (by decide) (fun c_3831 => ?_) (fun c_3831 => absurd c_3831 (by omega))
    refine lv_goto (tgt := 2788) hx hb dL_law_398 (by decide) ?_
    have hpm_3832 : (([(oD, .inl (G.2 6, 1, .inr (.inr (.inr (.inl og))))), (o, .inl (G.2 5, 1, .inr (.inl of2_3813)))] ++ (W2_3815 ++ (W2_3823 ++ []))) : va_W).Perm (([(o, .inl (G.2 5, 1, .inr (.inl of2_3813))), (oD, .inl (G.2 6, 1, .inr (.inr (.inr (.inl og)))))] ++ (W2_3815 ++ (W2_3823 ++ []))) ++ []) := segs_perm [[(oD, .inl (G.2 6, 1, .inr (.inr (.inr (.inl og)))))], [(o, .inl (G.2 5, 1, .inr (.inl of2_3813)))], W2_3815, W2_3823] [1, 0, 2, 3] [] rfl
    have hP : va_P G.1 CL ([(o, .inl (G.2 5, 1, .inr (.inl of2_3813))), (oD, .inl (G.2 6, 1, .inr (.inr (.inr (.inl og)))))] ++ (W2_3815 ++ (W2_3823 ++ []))) H := P_left (P_perm hpm_3832 hP)
    have hD : va_D A ([(o, .inl (G.2 5, 1, .inr (.inl of2_3813))), (oD, .inl (G.2 6, 1, .inr (.inr (.inr (.inl og)))))] ++ (W2_3815 ++ (W2_3823 ++ []))) := D_left (D_perm hpm_3832 hD)
    have hl := lv_sub hl [2, 3, 4, 5, 6, 7] (l' := [(0, .ref b), (1, .ref d), (2, .ref m0), (3, .ref o), (4, .ref oD), (5, .int (nI i9))]) rfl
    exact W.widen (show cl + (95 + 101) ≤ cl + 20000 from by omega) (show sl + (300 + 5800) ≤ sl + 45000 from by omega) (kk ls H locs S2_3814 (if ((o_addTest (dC M) d (sx9 xs (i9 + 2)))).1 = 0 then ((((o_addTest (dC M) d (sx9 xs (i9 + 2)))).2.2, dS M, min 6 (dK M + 1), hsR (dH M) (dK M) (dC M), dL M, dN M) : DS) else M) (((o_addTest (dC M) d (sx9 xs (i9 + 2)))).1) W2_3815 W2_3823 of2_3813 og hP hD hS hl hq_3819 hq_3825 (hLw.mut hqs hq_3817 (o_addTest_b (dC C) (sx9 xs (i9 + 1)) (sx9 xs (i9 + 2)))))

set_option maxHeartbeats 4000000 in
theorem lawK_3 {p : Program} {l : Launch} {e : Env} {s : State} {m : MethodId} {below : List Frame} {meth : Method} {c : Code} {G : Gt} {A : Nat → Prop} {b L : Nat} {xs : Nat → Int32} {Q : State → Prop} {d m0 o oD i9 N cl sl : Nat} (hfl : l.stackTraces = false) (F : LwF G A p s m c b L xs) (hi9 : i9 + 4 ≤ L) (hN24 : N ≤ 24) (hcl : cl + 20000 ≤ 1200144) (hsl : sl + 45000 ≤ 5495674) (kk : ∀ (ls : Array Slot) (H : Heap) (locs : List Loc) (C M : DS) (th : Nat) (WD WM : va_W) (of : Nat → Int64) (og : Nat → UInt64), va_P G.1 CL ([(o, .inl (G.2 5, 1, .inr (.inl of))), (oD, .inl (G.2 6, 1, .inr (.inr (.inr (.inl og)))))] ++ (WD ++ (WM ++ []))) H → va_D A ([(o, .inl (G.2 5, 1, .inr (.inl of))), (oD, .inl (G.2 6, 1, .inr (.inr (.inr (.inl og)))))] ++ (WD ++ (WM ++ []))) → va_S A s.heap H locs → lv_has ls 10 [(0, .ref b), (1, .ref d), (2, .ref m0), (3, .ref o), (4, .ref oD), (5, .int (nI i9))] → DyW G d C WD → MdW G m0 M th WM → LawI C M (N + 1) → W p l e room_1 s m #[Value.ref b] below meth c H locs (cl + 20000) (sl + 45000) Q (F0 m 2788 ls [])) {ls : Array Slot} {H : Heap} {locs : List Loc} {C M : DS} {th : Nat} {WD WM : va_W} {of : Nat → Int64} {og : Nat → UInt64} (hP : va_P G.1 CL ([(o, .inl (G.2 5, 1, .inr (.inl of))), (oD, .inl (G.2 6, 1, .inr (.inr (.inr (.inl og)))))] ++ (WD ++ (WM ++ []))) H) (hD : va_D A ([(o, .inl (G.2 5, 1, .inr (.inl of))), (oD, .inl (G.2 6, 1, .inr (.inr (.inr (.inl og)))))] ++ (WD ++ (WM ++ [])))) (hS : va_S A s.heap H locs) (hl : lv_has ls 10 [(0, .ref b), (1, .ref d), (2, .ref m0), (3, .ref o), (4, .ref oD), (5, .int (nI i9))]) (hDy : DyW G d C WD) (hMd : MdW G m0 M th WM) (hLw : LawI C M N) : W p l e room_1 s m #[Value.ref b] below meth c H locs cl sl Q (F0 m 401 ls []) := by
  obtain ⟨cf, hKB, hE, hA, hX9, hbl, hbA, hNc, hL96⟩ := F
  have hx := cf.1
  have hb := cf.2.1
  have hml := cf.2.2.1
  have hown : s.vm.findClass RX0 = some m.cls := cf.2.2.2.1
  have hts := cf.2.2.2.2
  have hK := hKB.1
  have hIc := hDy.inv.1
  have hIm : Inv (dC M) := Inv_sim hLw.1 hIc
  have hRk : RkOk (dC M) := RkOk_sim hLw.1 (RkOk_srt hDy.inv.2.2)
  have hl := hl
  refine lv_aload_n hx hb dL_law_401 rfl (lv_at hl 1 rfl) ?_
  refine lv_aload_n hx hb dL_law_402 rfl (lv_at hl 0 rfl) ?_
  refine lv_iload hx hb dL_law_403 (lv_at hl 5 rfl) ?_
  refine lv_iconst (v := nI 1) hx hb dL_law_405 (by decide) ?_
  refine lv_iadd hx hb dL_law_406 ?_
  refine lv_ton (n := i9 + 1) (nadd (by omega)) ?_
  refine va_sld hx hb hX9 hbl hbA hS (i := nI (i9 + 1)) (vp9 (by omega) hL96) dL_law_407 ?_
  refine W.eq (g2 := F0 m 408 ls [.int (sx9 xs (i9 + 1)), .ref d]) rfl ?_
  refine lv_aload_n hx hb dL_law_408 rfl (lv_at hl 3 rfl) ?_
  have hpm_3833 : (([(o, .inl (G.2 5, 1, .inr (.inl of))), (oD, .inl (G.2 6, 1, .inr (.inr (.inr (.inl og)))))] ++ (WD ++ (WM ++ []))) : va_W).Perm (([(o, .inl (G.2 5, 1, .inr (.inl of)))] ++ (WD ++ [])) ++ ([(oD, .inl (G.2 6, 1, .inr (.inr (.inr (.inl og)))))] ++ (WM ++ []))) := segs_perm [[(o, .inl (G.2 5, 1, .inr (.inl of)))], [(oD, .inl (G.2 6, 1, .inr (.inr (.inr (.inl og)))))], WD, WM] [0, 2] [1, 3] rfl
  have hF := hF_ofP (wc := ([(o, .inl (G.2 5, 1, .inr (.inl of)))] ++ (WD ++ []))) hD hS hA hpm_3833
  refine go_ctP hS hP hD hpm_3833 hF
      (vx_runSW (As := [.ref d, .int (sx9 xs (i9 + 1)), .ref o]) (rest := []) cf (wX0_removeTest l G d C WD o of (sx9 xs (i9 + 1)) (hDy) hfl H.size) (vx_cwSW 3 hts (lw_SW q1010 q1011 q46 q1012) rfl rfl rfl (by decide +kernel) ⟨Nat.le_of_ble_eq_true rfl, Nat.le_of_ble_eq_true rfl⟩) (preS_ofW hNc hKB hE hS hF (P_left (P_perm hpm_3833 hP)) ((D_left (D_perm hpm_3833 hD)).weaken (fun _ _ _ _ => trivial)) trivial) rfl rfl hl.1 rfl (lv_room (Nat.le_of_ble_eq_true rfl)) dL_law_409 ⟨show cl + (3 + 101) ≤ 1200144 from by first | decide | omega, show sl + (12 + 5800) ≤ 5495674 from by first | decide | omega⟩)
      (fun u_ H locs hq hph (hP : va_P G.1 CL (([(oD, .inl (G.2 6, 1, .inr (.inr (.inr (.inl og)))))] ++ (WM ++ [])) ++ ([(o, .inl (G.2 5, 1, .inr (.inl u_.1)))] ++ (u_.2.2 ++ []))) H) (hD : va_D A (([(oD, .inl (G.2 6, 1, .inr (.inr (.inr (.inl og)))))] ++ (WM ++ [])) ++ ([(o, .inl (G.2 5, 1, .inr (.inl u_.1)))] ++ (u_.2.2 ++ [])))) hS hfz hfk => ?_)
  obtain ⟨of2_3834, S2_3835, W2_3836⟩ := u_
  obtain ⟨hq_3837, hq_3838, hq_3839, hq_3840⟩ : ((o_remTest (dC C) (sx9 xs (i9 + 1))).1 = 0 → of2_3834 0 = ((o_remTest (dC C) (sx9 xs (i9 + 1))).2.1).toInt64) ∧ NxS C (o_remTest (dC C) (sx9 xs (i9 + 1))) S2_3835 ∧ (o_remTest (dC C) (sx9 xs (i9 + 1))).1 < 10 ∧ DyW G d S2_3835 W2_3836 := hq
  have hpm_3841 : (([(oD, .inl (G.2 6, 1, .inr (.inr (.inr (.inl og)))))] ++ (WM ++ [])) ++ ([(o, .inl (G.2 5, 1, .inr (.inl of2_3834)))] ++ (W2_3836 ++ [])) : va_W).Perm ([(oD, .inl (G.2 6, 1, .inr (.inr (.inr (.inl og))))), (o, .inl (G.2 5, 1, .inr (.inl of2_3834)))] ++ (WM ++ (W2_3836 ++ []))) := segs_perm2 [[(oD, .inl (G.2 6, 1, .inr (.inr (.inr (.inl og)))))], WM] [[(o, .inl (G.2 5, 1, .inr (.inl of2_3834)))], W2_3836] [0, 2, 1, 3] rfl
  have hP : va_P G.1 CL ([(oD, .inl (G.2 6, 1, .inr (.inr (.inr (.inl og))))), (o, .inl (G.2 5, 1, .inr (.inl of2_3834)))] ++ (WM ++ (W2_3836 ++ []))) H := P_perm hpm_3841 hP
  have hD : va_D A ([(oD, .inl (G.2 6, 1, .inr (.inr (.inr (.inl og))))), (o, .inl (G.2 5, 1, .inr (.inl of2_3834)))] ++ (WM ++ (W2_3836 ++ []))) := D_perm hpm_3841 hD
  refine W.eq (g2 := F0 m 412 ls [.int (nI ((o_remTest (dC C) (sx9 xs (i9 + 1))).1))]) rfl ?_
  have hqs : SimR (o_remTest (dC C) (sx9 xs (i9 + 1))) (o_remTest (dC M) d) := o_remTest_sim hLw.1 hIc (sx9 xs (i9 + 1))
  refine lv_istore (lv' := [(6, .int (nI ((o_remTest (dC C) (sx9 xs (i9 + 1))).1))), (0, .ref b), (1, .ref d), (2, .ref m0), (3, .ref o), (4, .ref oD), (5, .int (nI i9))]) hx hb dL_law_412 hl (by decide) rfl (fun ls hl => ?_)
  refine lv_aload_n hx hb dL_law_414 rfl (lv_at hl 3 rfl) ?_
  refine lv_aload_n hx hb dL_law_415 rfl (lv_at hl 1 rfl) ?_
  refine lv_iload hx hb dL_law_416 (lv_at hl 6 rfl) ?_
  refine lv_iconst (v := nI 1) hx hb dL_law_418 (by decide) ?_
  refine lv_iadd hx hb dL_law_419 ?_
  refine lv_ton (n := i9 + 1) (nadd (by omega)) ?_
  refine va_sld hx hb hX9 hbl hbA hS (i := nI (i9 + 1)) (vp9 (by omega) hL96) dL_law_420 ?_
  refine W.eq (g2 := F0 m 421 ls [.int (sx9 xs (i9 + 1)), .ref m0]) rfl ?_
  have hpm_3842 : (([(oD, .inl (G.2 6, 1, .inr (.inr (.inr (.inl og))))), (o, .inl (G.2 5, 1, .inr (.inl of2_3834)))] ++ (WM ++ (W2_3836 ++ []))) : va_W).Perm ((WM ++ []) ++ ([(oD, .inl (G.2 6, 1, .inr (.inr (.inr (.inl og))))), (o, .inl (G.2 5, 1, .inr (.inl of2_3834)))] ++ (W2_3836 ++ []))) := segs_perm [[(oD, .inl (G.2 6, 1, .inr (.inr (.inr (.inl og)))))], [(o, .inl (G.2 5, 1, .inr (.inl of2_3834)))], WM, W2_3836] [2] [0, 1, 3] rfl
  have hF := hF_ofP (wc := (WM ++ [])) hD hS hA hpm_3842
  refine go_ctP hS hP hD hpm_3842 hF
      (va_runV (As := [.int (sx9 xs (i9 + 1))]) (rest := []) cf (eX4_removeTest l G m0 M th WM (sx9 xs (i9 + 1)) (hMd) (hIm) H.size) (cwV 1 hts (lw_V q1699 q1700 q1701 q58 q1702) rfl rfl rfl (by decide +kernel) ⟨Nat.le_of_ble_eq_true rfl, Nat.le_of_ble_eq_true rfl⟩) (preV_of hKB hE hS hF (MdW.recv hK hMd (seg_at [[(oD, .inl (G.2 6, 1, .inr (.inr (.inr (.inl og)))))], [(o, .inl (G.2 5, 1, .inr (.inl of2_3834)))], WM, W2_3836] 2 rfl hP)) (P_left (P_perm hpm_3842 hP)) ((D_left (D_perm hpm_3842 hD)).weaken (fun _ _ _ _ => trivial)) trivial) rfl rfl hl.1 rfl (lv_room (Nat.le_of_ble_eq_true rfl)) dL_law_421 ⟨show cl + (3 + 101) + 0 ≤ 1200144 from by first | decide | omega, show sl + (12 + 5800) + 0 ≤ 5495674 from by first | decide | omega⟩)
      (fun u_ H locs hq hph (hP : va_P G.1 CL (([(oD, .inl (G.2 6, 1, .inr (.inr (.inr (.inl og))))), (o, .inl (G.2 5, 1, .inr (.inl of2_3834)))] ++ (W2_3836 ++ [])) ++ (u_.2 ++ [])) H) (hD : va_D A (([(oD, .inl (G.2 6, 1, .inr (.inr (.inr (.inl og))))), (o, .inl (G.2 5, 1, .inr (.inl of2_3834)))] ++ (W2_3836 ++ [])) ++ (u_.2 ++ []))) hS hfz hfk => ?_)
  obtain ⟨rr_3843, W2_3844⟩ := u_
  obtain ⟨hq_3845, hq_3846⟩ : ((o_remTest (dC M) (sx9 xs (i9 + 1))).1 = 0 → rr_3843 = (o_remTest (dC M) (sx9 xs (i9 + 1))).2.1) ∧ MdW G m0 (if (o_remTest (dC M) (sx9 xs (i9 + 1))).1 = 0 then (((o_remTest (dC M) (sx9 xs (i9 + 1))).2.2, dS M, min 6 (dK M + 1), hsR (dH M) (dK M) (dC M), dL M, dN M) : DS) else M) (o_remTest (dC M) (sx9 xs (i9 + 1))).1 W2_3844 := hq
  have hpm_3847 : (([(oD, .inl (G.2 6, 1, .inr (.inr (.inr (.inl og))))), (o, .inl (G.2 5, 1, .inr (.inl of2_3834)))] ++ (W2_3836 ++ [])) ++ (W2_3844 ++ []) : va_W).Perm ([(oD, .inl (G.2 6, 1, .inr (.inr (.inr (.inl og))))), (o, .inl (G.2 5, 1, .inr (.inl of2_3834)))] ++ (W2_3836 ++ (W2_3844 ++ []))) := segs_perm2 [[(oD, .inl (G.2 6, 1, .inr (.inr (.inr (.inl og)))))], [(o, .inl (G.2 5, 1, .inr (.inl of2_3834)))], W2_3836] [W2_3844] [0, 1, 2, 3] rfl
  have hP : va_P G.1 CL ([(oD, .inl (G.2 6, 1, .inr (.inr (.inr (.inl og))))), (o, .inl (G.2 5, 1, .inr (.inl of2_3834)))] ++ (W2_3836 ++ (W2_3844 ++ []))) H := P_perm hpm_3847 hP
  have hD : va_D A ([(oD, .inl (G.2 6, 1, .inr (.inr (.inr (.inl og))))), (o, .inl (G.2 5, 1, .inr (.inl of2_3834)))] ++ (W2_3836 ++ (W2_3844 ++ []))) := D_perm hpm_3847 hD
  refine W.eq (g2 := F0 m 424 ls [.int rr_3843]) rfl ?_
  refine lv_istore (lv' := [(7, .int rr_3843), (6, .int (nI ((o_remTest (dC C) (sx9 xs (i9 + 1))).1))), (0, .ref b), (1, .ref d), (2, .ref m0), (3, .ref o), (4, .ref oD), (5, .int (nI i9))]) hx hb dL_law_424 hl (by decide) rfl (fun ls hl => ?_)
  refine lv_aload_n hx hb dL_law_426 rfl (lv_at hl 4 rfl) ?_
  have hpm_3848 : (([(oD, .inl (G.2 6, 1, .inr (.inr (.inr (.inl og))))), (o, .inl (G.2 5, 1, .inr (.inl of2_3834)))] ++ (W2_3836 ++ (W2_3844 ++ []))) : va_W).Perm ([] ++ ([(oD, .inl (G.2 6, 1, .inr (.inr (.inr (.inl og))))), (o, .inl (G.2 5, 1, .inr (.inl of2_3834)))] ++ (W2_3836 ++ (W2_3844 ++ [])))) := segs_perm [[(oD, .inl (G.2 6, 1, .inr (.inr (.inr (.inl og)))))], [(o, .inl (G.2 5, 1, .inr (.inl of2_3834)))], W2_3836, W2_3844] [] [0, 1, 2, 3] rfl
  have hF := hF_ofP (wc := []) hD hS hA hpm_3848
  refine go_ctP hS hP hD hpm_3848 hF
      (va_runV (As := []) (rest := []) cf (eX4_thrown l G m0 (if ((o_remTest (dC M) d)).1 = 0 then ((((o_remTest (dC M) d)).2.2, dS M, min 6 (dK M + 1), hsR (dH M) (dK M) (dC M), dL M, dN M) : DS) else M) (((o_remTest (dC M) d)).1) W2_3844 (hq_3846) H.size) (cwV 0 hts (lw_V q1639 q1640 q1641 q58 q1642) rfl rfl rfl (by decide +kernel) ⟨Nat.le_of_ble_eq_true rfl, Nat.le_of_ble_eq_true rfl⟩) (preV_of hKB hE hS hF (MdW.recv hK hq_3846 (seg_at [[(oD, .inl (G.2 6, 1, .inr (.inr (.inr (.inl og)))))], [(o, .inl (G.2 5, 1, .inr (.inl of2_3834)))], W2_3836, W2_3844] 3 rfl hP)) (P_left (P_perm hpm_3848 hP)) ((D_left (D_perm hpm_3848 hD)).weaken (fun _ _ _ _ => trivial)) (roW.nil (seg_at [[(oD, .inl (G.2 6, 1, .inr (.inr (.inr (.inl og)))))], [(o, .inl (G.2 5, 1, .inr (.inl of2_3834)))], W2_3836, W2_3844] 3 rfl hP))) rfl rfl hl.1 rfl (lv_room (Nat.le_of_ble_eq_true rfl)) dL_law_427 ⟨show cl + (3 + 101) + 0 ≤ 1200144 from by first | decide | omega, show sl + (12 + 5800) + 0 ≤ 5495674 from by first | decide | omega⟩)
      (fun u_ H locs hq hph (hP : va_P G.1 CL (([(oD, .inl (G.2 6, 1, .inr (.inr (.inr (.inl og))))), (o, .inl (G.2 5, 1, .inr (.inl of2_3834)))] ++ (W2_3836 ++ (W2_3844 ++ []))) ++ []) H) (hD : va_D A (([(oD, .inl (G.2 6, 1, .inr (.inr (.inr (.inl og))))), (o, .inl (G.2 5, 1, .inr (.inl of2_3834)))] ++ (W2_3836 ++ (W2_3844 ++ []))) ++ [])) hS hfz hfk => ?_)
  have hpm_3849 : (([(oD, .inl (G.2 6, 1, .inr (.inr (.inr (.inl og))))), (o, .inl (G.2 5, 1, .inr (.inl of2_3834)))] ++ (W2_3836 ++ (W2_3844 ++ []))) ++ [] : va_W).Perm ([(oD, .inl (G.2 6, 1, .inr (.inr (.inr (.inl og))))), (o, .inl (G.2 5, 1, .inr (.inl of2_3834)))] ++ (W2_3836 ++ (W2_3844 ++ []))) := segs_perm2 [[(oD, .inl (G.2 6, 1, .inr (.inr (.inr (.inl og)))))], [(o, .inl (G.2 5, 1, .inr (.inl of2_3834)))], W2_3836, W2_3844] [] [0, 1, 2, 3] rfl
  have hP : va_P G.1 CL ([(oD, .inl (G.2 6, 1, .inr (.inr (.inr (.inl og))))), (o, .inl (G.2 5, 1, .inr (.inl of2_3834)))] ++ (W2_3836 ++ (W2_3844 ++ []))) H := P_perm hpm_3849 hP
  have hD : va_D A ([(oD, .inl (G.2 6, 1, .inr (.inr (.inr (.inl og))))), (o, .inl (G.2 5, 1, .inr (.inl of2_3834)))] ++ (W2_3836 ++ (W2_3844 ++ []))) := D_perm hpm_3849 hD
  refine W.eq (g2 := F0 m 430 ls [.int (nI (((o_remTest (dC M) d)).1))]) rfl ?_
  refine lv_ton (n := ((o_remTest (dC C) (sx9 xs (i9 + 1))).1)) (congrArg nI hqs.1.symm) ?_
  refine lv_iload hx hb dL_law_430 (lv_at hl 1 rfl) ?_
  refine lv_icmp_eq (tgt := 437) hx hb dL_law_432 (by decide) (fun _ => ?_) (fun c9 => absurd rfl c9)
  refine lv_iload hx hb dL_law_437 (lv_at hl 1 rfl) ?_
  refine n_if_ne (tgt := 454) hx hb (by omega) dL_law_439 (by decide) (fun c_3850 => ?_) (fun c_3850 => ?_)
  · refine lv_goto (tgt := 2788) hx hb dL_law_454 (by decide) ?_
    have hpm_3851 : (([(oD, .inl (G.2 6, 1, .inr (.inr (.inr (.inl og))))), (o, .inl (G.2 5, 1, .inr (.inl of2_3834)))] ++ (W2_3836 ++ (W2_3844 ++ []))) : va_W).Perm (([(o, .inl (G.2 5, 1, .inr (.inl of2_3834))), (oD, .inl (G.2 6, 1, .inr (.inr (.inr (.inl og)))))] ++ (W2_3836 ++ (W2_3844 ++ []))) ++ []) := segs_perm [[(oD, .inl (G.2 6, 1, .inr (.inr (.inr (.inl og)))))], [(o, .inl (G.2 5, 1, .inr (.inl of2_3834)))], W2_3836, W2_3844] [1, 0, 2, 3] [] rfl
    have hP : va_P G.1 CL ([(o, .inl (G.2 5, 1, .inr (.inl of2_3834))), (oD, .inl (G.2 6, 1, .inr (.inr (.inr (.inl og)))))] ++ (W2_3836 ++ (W2_3844 ++ []))) H := P_left (P_perm hpm_3851 hP)
    have hD : va_D A ([(o, .inl (G.2 5, 1, .inr (.inl of2_3834))), (oD, .inl (G.2 6, 1, .inr (.inr (.inr (.inl og)))))] ++ (W2_3836 ++ (W2_3844 ++ []))) := D_left (D_perm hpm_3851 hD)
    have hl := lv_sub hl [2, 3, 4, 5, 6, 7] (l' := [(0, .ref b), (1, .ref d), (2, .ref m0), (3, .ref o), (4, .ref oD), (5, .int (nI i9))]) rfl
    exact W.widen (show cl + (3 + 101) ≤ cl + 20000 from by omega) (show sl + (12 + 5800) ≤ sl + 45000 from by omega) (kk ls H locs S2_3835 (if ((o_remTest (dC M) d)).1 = 0 then ((((o_remTest (dC M) d)).2.2, dS M, min 6 (dK M + 1), hsR (dH M) (dK M) (dC M), dL M, dN M) : DS) else M) (((o_remTest (dC M) d)).1) W2_3836 W2_3844 of2_3834 og hP hD hS hl hq_3840 hq_3846 (hLw.mut hqs hq_3838 (o_remTest_b (dC C) (sx9 xs (i9 + 1)))))
  · refine lv_aload_n hx hb dL_law_442 rfl (lv_at hl 5 rfl) ?_
    refine lv_iconst (v := nI 0) hx hb dL_law_443 (by decide) ?_
    refine r_lald (v := (((o_remTest (dC C) (sx9 xs (i9 + 1)))).2.1).toInt64) hx hb hK hP 1 5 rfl rfl (i := 0) (by omega) (by omega) ((hq_3837 (by omega))) dL_law_444 ?_
    refine lv_iload hx hb dL_law_445 (lv_at hl 0 rfl) ?_
    refine lv_toi (y := ((o_remTest (dC C) (sx9 xs (i9 + 1)))).2.1) ((hq_3845 (hqs.1.symm.trans (by omega))).trans hqs.2.1.symm) ?_
    refine lv_i2l (v := (((o_remTest (dC C) (sx9 xs (i9 + 1)))).2.1).toInt64) hx hb dL_law_447 rfl ?_
    refine W.lcmp hx hb dL_law_448 ?_
    refine lv_ton (n := 0) (lcmp0 _) ?_
    refine n_if_eq (tgt := 454) hx hb (by omega) dL_law_449 (by decide) (fun c_3852 => ?_) (fun c_3852 => absurd c_3852 (by omega))
    refine lv_goto (tgt := 2788) hx hb dL_law_454 (by decide) ?_
    have hpm_3853 : (([(oD, .inl (G.2 6, 1, .inr (.inr (.inr (.inl og))))), (o, .inl (G.2 5, 1, .inr (.inl of2_3834)))] ++ (W2_3836 ++ (W2_3844 ++ []))) : va_W).Perm (([(o, .inl (G.2 5, 1, .inr (.inl of2_3834))), (oD, .inl (G.2 6, 1, .inr (.inr (.inr (.inl og)))))] ++ (W2_3836 ++ (W2_3844 ++ []))) ++ []) := segs_perm [[(oD, .inl (G.2 6, 1, .inr (.inr (.inr (.inl og)))))], [(o, .inl (G.2 5, 1, .inr (.inl of2_3834)))], W2_3836, W2_3844] [1, 0, 2, 3] [] rfl
    have hP : va_P G.1 CL ([(o, .inl (G.2 5, 1, .inr (.inl of2_3834))), (oD, .inl (G.2 6, 1, .inr (.inr (.inr (.inl og)))))] ++ (W2_3836 ++ (W2_3844 ++ []))) H := P_left (P_perm hpm_3853 hP)
    have hD : va_D A ([(o, .inl (G.2 5, 1, .inr (.inl of2_3834))), (oD, .inl (G.2 6, 1, .inr (.inr (.inr (.inl og)))))] ++ (W2_3836 ++ (W2_3844 ++ []))) := D_left (D_perm hpm_3853 hD)
    have hl := lv_sub hl [2, 3, 4, 5, 6, 7] (l' := [(0, .ref b), (1, .ref d), (2, .ref m0), (3, .ref o), (4, .ref oD), (5, .int (nI i9))]) rfl
    exact W.widen (show cl + (3 + 101) ≤ cl + 20000 from by omega) (show sl + (12 + 5800) ≤ sl + 45000 from by omega) (kk ls H locs S2_3835 (if ((o_remTest (dC M) d)).1 = 0 then ((((o_remTest (dC M) d)).2.2, dS M, min 6 (dK M + 1), hsR (dH M) (dK M) (dC M), dL M, dN M) : DS) else M) (((o_remTest (dC M) d)).1) W2_3836 W2_3844 of2_3834 og hP hD hS hl hq_3840 hq_3846 (hLw.mut hqs hq_3838 (o_remTest_b (dC C) (sx9 xs (i9 + 1)))))

set_option maxHeartbeats 4000000 in
theorem lawK_4 {p : Program} {l : Launch} {e : Env} {s : State} {m : MethodId} {below : List Frame} {meth : Method} {c : Code} {G : Gt} {A : Nat → Prop} {b L : Nat} {xs : Nat → Int32} {Q : State → Prop} {d m0 o oD i9 N cl sl : Nat} (hfl : l.stackTraces = false) (F : LwF G A p s m c b L xs) (hi9 : i9 + 4 ≤ L) (hN24 : N ≤ 24) (hcl : cl + 20000 ≤ 1200144) (hsl : sl + 45000 ≤ 5495674) (kk : ∀ (ls : Array Slot) (H : Heap) (locs : List Loc) (C M : DS) (th : Nat) (WD WM : va_W) (of : Nat → Int64) (og : Nat → UInt64), va_P G.1 CL ([(o, .inl (G.2 5, 1, .inr (.inl of))), (oD, .inl (G.2 6, 1, .inr (.inr (.inr (.inl og)))))] ++ (WD ++ (WM ++ []))) H → va_D A ([(o, .inl (G.2 5, 1, .inr (.inl of))), (oD, .inl (G.2 6, 1, .inr (.inr (.inr (.inl og)))))] ++ (WD ++ (WM ++ []))) → va_S A s.heap H locs → lv_has ls 10 [(0, .ref b), (1, .ref d), (2, .ref m0), (3, .ref o), (4, .ref oD), (5, .int (nI i9))] → DyW G d C WD → MdW G m0 M th WM → LawI C M (N + 1) → W p l e room_1 s m #[Value.ref b] below meth c H locs (cl + 20000) (sl + 45000) Q (F0 m 2788 ls [])) {ls : Array Slot} {H : Heap} {locs : List Loc} {C M : DS} {th : Nat} {WD WM : va_W} {of : Nat → Int64} {og : Nat → UInt64} (hP : va_P G.1 CL ([(o, .inl (G.2 5, 1, .inr (.inl of))), (oD, .inl (G.2 6, 1, .inr (.inr (.inr (.inl og)))))] ++ (WD ++ (WM ++ []))) H) (hD : va_D A ([(o, .inl (G.2 5, 1, .inr (.inl of))), (oD, .inl (G.2 6, 1, .inr (.inr (.inr (.inl og)))))] ++ (WD ++ (WM ++ [])))) (hS : va_S A s.heap H locs) (hl : lv_has ls 10 [(0, .ref b), (1, .ref d), (2, .ref m0), (3, .ref o), (4, .ref oD), (5, .int (nI i9))]) (hDy : DyW G d C WD) (hMd : MdW G m0 M th WM) (hLw : LawI C M N) : W p l e room_1 s m #[Value.ref b] below meth c H locs cl sl Q (F0 m 457 ls []) := by
  obtain ⟨cf, hKB, hE, hA, hX9, hbl, hbA, hNc, hL96⟩ := F
  have hx := cf.1
  have hb := cf.2.1
  have hml := cf.2.2.1
  have hown : s.vm.findClass RX0 = some m.cls := cf.2.2.2.1
  have hts := cf.2.2.2.2
  have hK := hKB.1
  have hIc := hDy.inv.1
  have hIm : Inv (dC M) := Inv_sim hLw.1 hIc
  have hRk : RkOk (dC M) := RkOk_sim hLw.1 (RkOk_srt hDy.inv.2.2)
  have hl := hl
  refine lv_aload_n hx hb dL_law_457 rfl (lv_at hl 1 rfl) ?_
  have hpm_3854 : (([(o, .inl (G.2 5, 1, .inr (.inl of))), (oD, .inl (G.2 6, 1, .inr (.inr (.inr (.inl og)))))] ++ (WD ++ (WM ++ []))) : va_W).Perm ((WD ++ []) ++ ([(o, .inl (G.2 5, 1, .inr (.inl of))), (oD, .inl (G.2 6, 1, .inr (.inr (.inr (.inl og)))))] ++ (WM ++ []))) := segs_perm [[(o, .inl (G.2 5, 1, .inr (.inl of)))], [(oD, .inl (G.2 6, 1, .inr (.inr (.inr (.inl og)))))], WD, WM] [2] [0, 1, 3] rfl
  have hF := hF_ofP (wc := (WD ++ [])) hD hS hA hpm_3854
  refine go_ctP hS hP hD hpm_3854 hF
      (va_runV (As := []) (rest := []) cf (dX1_testCount l G d C WD (hDy) H.size) (cwV 0 hts (lw_V q255 q256 q257 q47 q258) rfl rfl rfl (by decide +kernel) ⟨Nat.le_of_ble_eq_true rfl, Nat.le_of_ble_eq_true rfl⟩) (preV_of hKB hE hS hF (DyW.recv hK hDy (seg_at [[(o, .inl (G.2 5, 1, .inr (.inl of)))], [(oD, .inl (G.2 6, 1, .inr (.inr (.inr (.inl og)))))], WD, WM] 2 rfl hP)) (P_left (P_perm hpm_3854 hP)) ((D_left (D_perm hpm_3854 hD)).weaken (fun _ _ _ _ => trivial)) trivial) rfl rfl hl.1 rfl (lv_room (Nat.le_of_ble_eq_true rfl)) dL_law_458 ⟨show cl + 1 ≤ 1200144 from by first | decide | omega, show sl + 2 ≤ 5495674 from by first | decide | omega⟩)
      (fun u_ H locs hq hph (hP : va_P G.1 CL (([(o, .inl (G.2 5, 1, .inr (.inl of))), (oD, .inl (G.2 6, 1, .inr (.inr (.inr (.inl og)))))] ++ (WM ++ [])) ++ (u_.2 ++ [])) H) (hD : va_D A (([(o, .inl (G.2 5, 1, .inr (.inl of))), (oD, .inl (G.2 6, 1, .inr (.inr (.inr (.inl og)))))] ++ (WM ++ [])) ++ (u_.2 ++ []))) hS hfz hfk => ?_)
  obtain ⟨rr_3855, W2_3856⟩ := u_
  obtain ⟨hq_3857, hq_3858⟩ : q_testCount (dC C) = (0, rr_3855) ∧ DyW G d C W2_3856 := hq
  have hpm_3859 : (([(o, .inl (G.2 5, 1, .inr (.inl of))), (oD, .inl (G.2 6, 1, .inr (.inr (.inr (.inl og)))))] ++ (WM ++ [])) ++ (W2_3856 ++ []) : va_W).Perm ([(o, .inl (G.2 5, 1, .inr (.inl of))), (oD, .inl (G.2 6, 1, .inr (.inr (.inr (.inl og)))))] ++ (WM ++ (W2_3856 ++ []))) := segs_perm2 [[(o, .inl (G.2 5, 1, .inr (.inl of)))], [(oD, .inl (G.2 6, 1, .inr (.inr (.inr (.inl og)))))], WM] [W2_3856] [0, 1, 2, 3] rfl
  have hP : va_P G.1 CL ([(o, .inl (G.2 5, 1, .inr (.inl of))), (oD, .inl (G.2 6, 1, .inr (.inr (.inr (.inl og)))))] ++ (WM ++ (W2_3856 ++ []))) H := P_perm hpm_3859 hP
  have hD : va_D A ([(o, .inl (G.2 5, 1, .inr (.inl of))), (oD, .inl (G.2 6, 1, .inr (.inr (.inr (.inl og)))))] ++ (WM ++ (W2_3856 ++ []))) := D_perm hpm_3859 hD
  refine W.eq (g2 := F0 m 461 ls [.int rr_3855]) rfl ?_
  have hqs : (q_testCount (dC M)) = (q_testCount (dC C)) := q_testCount_sim hLw.1.symm hIm 
  refine lv_toi (y := ((q_testCount (dC C))).2) ((congrArg Prod.snd hq_3857).symm) ?_
  refine lv_aload_n hx hb dL_law_461 rfl (lv_at hl 2 rfl) ?_
  have hpm_3860 : (([(o, .inl (G.2 5, 1, .inr (.inl of))), (oD, .inl (G.2 6, 1, .inr (.inr (.inr (.inl og)))))] ++ (WM ++ (W2_3856 ++ []))) : va_W).Perm ((WM ++ []) ++ ([(o, .inl (G.2 5, 1, .inr (.inl of))), (oD, .inl (G.2 6, 1, .inr (.inr (.inr (.inl og)))))] ++ (W2_3856 ++ []))) := segs_perm [[(o, .inl (G.2 5, 1, .inr (.inl of)))], [(oD, .inl (G.2 6, 1, .inr (.inr (.inr (.inl og)))))], WM, W2_3856] [2] [0, 1, 3] rfl
  have hF := hF_ofP (wc := (WM ++ [])) hD hS hA hpm_3860
  refine go_ctP hS hP hD hpm_3860 hF
      (va_runV (As := []) (rest := [.int (((q_testCount (dC C))).2)]) cf (eX4_testCount l G m0 M th WM (hMd) (hIm) H.size) (cwV 0 hts (lw_V q1703 q1704 q1705 q58 q1706) rfl rfl rfl (by decide +kernel) ⟨Nat.le_of_ble_eq_true rfl, Nat.le_of_ble_eq_true rfl⟩) (preV_of hKB hE hS hF (MdW.recv hK hMd (seg_at [[(o, .inl (G.2 5, 1, .inr (.inl of)))], [(oD, .inl (G.2 6, 1, .inr (.inr (.inr (.inl og)))))], WM, W2_3856] 2 rfl hP)) (P_left (P_perm hpm_3860 hP)) ((D_left (D_perm hpm_3860 hD)).weaken (fun _ _ _ _ => trivial)) trivial) rfl rfl hl.1 rfl (lv_room (Nat.le_of_ble_eq_true rfl)) dL_law_462 ⟨show cl + 1 + 0 ≤ 1200144 from by first | decide | omega, show sl + 2 + 0 ≤ 5495674 from by first | decide | omega⟩)
      (fun u_ H locs hq hph (hP : va_P G.1 CL (([(o, .inl (G.2 5, 1, .inr (.inl of))), (oD, .inl (G.2 6, 1, .inr (.inr (.inr (.inl og)))))] ++ (W2_3856 ++ [])) ++ (u_.2 ++ [])) H) (hD : va_D A (([(o, .inl (G.2 5, 1, .inr (.inl of))), (oD, .inl (G.2 6, 1, .inr (.inr (.inr (.inl og)))))] ++ (W2_3856 ++ [])) ++ (u_.2 ++ []))) hS hfz hfk => ?_)
  obtain ⟨rr_3861, W2_3862⟩ := u_
  obtain ⟨hq_3863, hq_3864⟩ : ((q_testCount (dC M)).1 = 0 → rr_3861 = (q_testCount (dC M)).2) ∧ MdW G m0 M (q_testCount (dC M)).1 W2_3862 := hq
  have hpm_3865 : (([(o, .inl (G.2 5, 1, .inr (.inl of))), (oD, .inl (G.2 6, 1, .inr (.inr (.inr (.inl og)))))] ++ (W2_3856 ++ [])) ++ (W2_3862 ++ []) : va_W).Perm ([(o, .inl (G.2 5, 1, .inr (.inl of))), (oD, .inl (G.2 6, 1, .inr (.inr (.inr (.inl og)))))] ++ (W2_3856 ++ (W2_3862 ++ []))) := segs_perm2 [[(o, .inl (G.2 5, 1, .inr (.inl of)))], [(oD, .inl (G.2 6, 1, .inr (.inr (.inr (.inl og)))))], W2_3856] [W2_3862] [0, 1, 2, 3] rfl
  have hP : va_P G.1 CL ([(o, .inl (G.2 5, 1, .inr (.inl of))), (oD, .inl (G.2 6, 1, .inr (.inr (.inr (.inl og)))))] ++ (W2_3856 ++ (W2_3862 ++ []))) H := P_perm hpm_3865 hP
  have hD : va_D A ([(o, .inl (G.2 5, 1, .inr (.inl of))), (oD, .inl (G.2 6, 1, .inr (.inr (.inr (.inl og)))))] ++ (W2_3856 ++ (W2_3862 ++ []))) := D_perm hpm_3865 hD
  refine W.eq (g2 := F0 m 465 ls [.int rr_3861, .int (((q_testCount (dC C))).2)]) rfl ?_
  refine lv_toi (y := ((q_testCount (dC C))).2) ((hq_3863 (by rw [hqs, hq_3857])).trans (by rw [hqs])) ?_
  refine lv_icmp_eq (tgt := 2788) hx hb dL_law_465 (by decide) (fun _ => ?_) (fun c9 => absurd rfl c9)
  have hpm_3866 : (([(o, .inl (G.2 5, 1, .inr (.inl of))), (oD, .inl (G.2 6, 1, .inr (.inr (.inr (.inl og)))))] ++ (W2_3856 ++ (W2_3862 ++ []))) : va_W).Perm (([(o, .inl (G.2 5, 1, .inr (.inl of))), (oD, .inl (G.2 6, 1, .inr (.inr (.inr (.inl og)))))] ++ (W2_3856 ++ (W2_3862 ++ []))) ++ []) := segs_perm [[(o, .inl (G.2 5, 1, .inr (.inl of)))], [(oD, .inl (G.2 6, 1, .inr (.inr (.inr (.inl og)))))], W2_3856, W2_3862] [0, 1, 2, 3] [] rfl
  have hP : va_P G.1 CL ([(o, .inl (G.2 5, 1, .inr (.inl of))), (oD, .inl (G.2 6, 1, .inr (.inr (.inr (.inl og)))))] ++ (W2_3856 ++ (W2_3862 ++ []))) H := P_left (P_perm hpm_3866 hP)
  have hD : va_D A ([(o, .inl (G.2 5, 1, .inr (.inl of))), (oD, .inl (G.2 6, 1, .inr (.inr (.inr (.inl og)))))] ++ (W2_3856 ++ (W2_3862 ++ []))) := D_left (D_perm hpm_3866 hD)
  have hl := lv_sub hl [0, 1, 2, 3, 4, 5] (l' := [(0, .ref b), (1, .ref d), (2, .ref m0), (3, .ref o), (4, .ref oD), (5, .int (nI i9))]) rfl
  exact W.widen (show cl + 1 ≤ cl + 20000 from by omega) (show sl + 2 ≤ sl + 45000 from by omega) (kk ls H locs C M (((q_testCount (dC M))).1) W2_3856 W2_3862 of og hP hD hS hl hq_3858 hq_3864 hLw.up)

set_option maxHeartbeats 4000000 in
theorem lawK_5 {p : Program} {l : Launch} {e : Env} {s : State} {m : MethodId} {below : List Frame} {meth : Method} {c : Code} {G : Gt} {A : Nat → Prop} {b L : Nat} {xs : Nat → Int32} {Q : State → Prop} {d m0 o oD i9 N cl sl : Nat} (hfl : l.stackTraces = false) (F : LwF G A p s m c b L xs) (hi9 : i9 + 4 ≤ L) (hN24 : N ≤ 24) (hcl : cl + 20000 ≤ 1200144) (hsl : sl + 45000 ≤ 5495674) (kk : ∀ (ls : Array Slot) (H : Heap) (locs : List Loc) (C M : DS) (th : Nat) (WD WM : va_W) (of : Nat → Int64) (og : Nat → UInt64), va_P G.1 CL ([(o, .inl (G.2 5, 1, .inr (.inl of))), (oD, .inl (G.2 6, 1, .inr (.inr (.inr (.inl og)))))] ++ (WD ++ (WM ++ []))) H → va_D A ([(o, .inl (G.2 5, 1, .inr (.inl of))), (oD, .inl (G.2 6, 1, .inr (.inr (.inr (.inl og)))))] ++ (WD ++ (WM ++ []))) → va_S A s.heap H locs → lv_has ls 10 [(0, .ref b), (1, .ref d), (2, .ref m0), (3, .ref o), (4, .ref oD), (5, .int (nI i9))] → DyW G d C WD → MdW G m0 M th WM → LawI C M (N + 1) → W p l e room_1 s m #[Value.ref b] below meth c H locs (cl + 20000) (sl + 45000) Q (F0 m 2788 ls [])) {ls : Array Slot} {H : Heap} {locs : List Loc} {C M : DS} {th : Nat} {WD WM : va_W} {of : Nat → Int64} {og : Nat → UInt64} (hP : va_P G.1 CL ([(o, .inl (G.2 5, 1, .inr (.inl of))), (oD, .inl (G.2 6, 1, .inr (.inr (.inr (.inl og)))))] ++ (WD ++ (WM ++ []))) H) (hD : va_D A ([(o, .inl (G.2 5, 1, .inr (.inl of))), (oD, .inl (G.2 6, 1, .inr (.inr (.inr (.inl og)))))] ++ (WD ++ (WM ++ [])))) (hS : va_S A s.heap H locs) (hl : lv_has ls 10 [(0, .ref b), (1, .ref d), (2, .ref m0), (3, .ref o), (4, .ref oD), (5, .int (nI i9))]) (hDy : DyW G d C WD) (hMd : MdW G m0 M th WM) (hLw : LawI C M N) : W p l e room_1 s m #[Value.ref b] below meth c H locs cl sl Q (F0 m 470 ls []) := by
  obtain ⟨cf, hKB, hE, hA, hX9, hbl, hbA, hNc, hL96⟩ := F
  have hx := cf.1
  have hb := cf.2.1
  have hml := cf.2.2.1
  have hown : s.vm.findClass RX0 = some m.cls := cf.2.2.2.1
  have hts := cf.2.2.2.2
  have hK := hKB.1
  have hIc := hDy.inv.1
  have hIm : Inv (dC M) := Inv_sim hLw.1 hIc
  have hRk : RkOk (dC M) := RkOk_sim hLw.1 (RkOk_srt hDy.inv.2.2)
  have hl := hl
  refine lv_aload_n hx hb dL_law_470 rfl (lv_at hl 1 rfl) ?_
  refine lv_aload_n hx hb dL_law_471 rfl (lv_at hl 0 rfl) ?_
  refine lv_iload hx hb dL_law_472 (lv_at hl 5 rfl) ?_
  refine lv_iconst (v := nI 1) hx hb dL_law_474 (by decide) ?_
  refine lv_iadd hx hb dL_law_475 ?_
  refine lv_ton (n := i9 + 1) (nadd (by omega)) ?_
  refine va_sld hx hb hX9 hbl hbA hS (i := nI (i9 + 1)) (vp9 (by omega) hL96) dL_law_476 ?_
  refine W.eq (g2 := F0 m 477 ls [.int (sx9 xs (i9 + 1)), .ref d]) rfl ?_
  refine lv_aload_n hx hb dL_law_477 rfl (lv_at hl 3 rfl) ?_
  have hpm_3867 : (([(o, .inl (G.2 5, 1, .inr (.inl of))), (oD, .inl (G.2 6, 1, .inr (.inr (.inr (.inl og)))))] ++ (WD ++ (WM ++ []))) : va_W).Perm (([(o, .inl (G.2 5, 1, .inr (.inl of)))] ++ (WD ++ [])) ++ ([(oD, .inl (G.2 6, 1, .inr (.inr (.inr (.inl og)))))] ++ (WM ++ []))) := segs_perm [[(o, .inl (G.2 5, 1, .inr (.inl of)))], [(oD, .inl (G.2 6, 1, .inr (.inr (.inr (.inl og)))))], WD, WM] [0, 2] [1, 3] rfl
  have hF := hF_ofP (wc := ([(o, .inl (G.2 5, 1, .inr (.inl of)))] ++ (WD ++ []))) hD hS hA hpm_3867
  refine go_ctP hS hP hD hpm_3867 hF
      (vx_runSW (As := [.ref d, .int (sx9 xs (i9 + 1)), .ref o]) (rest := []) cf (wX0_thresholdOn l G d C WD o of (sx9 xs (i9 + 1)) (hDy) hfl H.size) (vx_cwSW 3 hts (lw_SW q1035 q1036 q46 q1037) rfl rfl rfl (by decide +kernel) ⟨Nat.le_of_ble_eq_true rfl, Nat.le_of_ble_eq_true rfl⟩) (preS_ofW hNc hKB hE hS hF (P_left (P_perm hpm_3867 hP)) ((D_left (D_perm hpm_3867 hD)).weaken (fun _ _ _ _ => trivial)) trivial) rfl rfl hl.1 rfl (lv_room (Nat.le_of_ble_eq_true rfl)) dL_law_478 ⟨show cl + 2 ≤ 1200144 from by first | decide | omega, show sl + 8 ≤ 5495674 from by first | decide | omega⟩)
      (fun u_ H locs hq hph (hP : va_P G.1 CL (([(oD, .inl (G.2 6, 1, .inr (.inr (.inr (.inl og)))))] ++ (WM ++ [])) ++ ([(o, .inl (G.2 5, 1, .inr (.inl u_.1)))] ++ (u_.2 ++ []))) H) (hD : va_D A (([(oD, .inl (G.2 6, 1, .inr (.inr (.inr (.inl og)))))] ++ (WM ++ [])) ++ ([(o, .inl (G.2 5, 1, .inr (.inl u_.1)))] ++ (u_.2 ++ [])))) hS hfz hfk => ?_)
  obtain ⟨of2_3868, W2_3869⟩ := u_
  obtain ⟨hq_3870, hq_3871, hq_3872⟩ : ((q_thr (dC C) (sx9 xs (i9 + 1))).1 = 0 → of2_3868 0 = ((q_thr (dC C) (sx9 xs (i9 + 1))).2).toInt64) ∧ (q_thr (dC C) (sx9 xs (i9 + 1))).1 < 10 ∧ DyW G d C W2_3869 := hq
  have hpm_3873 : (([(oD, .inl (G.2 6, 1, .inr (.inr (.inr (.inl og)))))] ++ (WM ++ [])) ++ ([(o, .inl (G.2 5, 1, .inr (.inl of2_3868)))] ++ (W2_3869 ++ [])) : va_W).Perm ([(oD, .inl (G.2 6, 1, .inr (.inr (.inr (.inl og))))), (o, .inl (G.2 5, 1, .inr (.inl of2_3868)))] ++ (WM ++ (W2_3869 ++ []))) := segs_perm2 [[(oD, .inl (G.2 6, 1, .inr (.inr (.inr (.inl og)))))], WM] [[(o, .inl (G.2 5, 1, .inr (.inl of2_3868)))], W2_3869] [0, 2, 1, 3] rfl
  have hP : va_P G.1 CL ([(oD, .inl (G.2 6, 1, .inr (.inr (.inr (.inl og))))), (o, .inl (G.2 5, 1, .inr (.inl of2_3868)))] ++ (WM ++ (W2_3869 ++ []))) H := P_perm hpm_3873 hP
  have hD : va_D A ([(oD, .inl (G.2 6, 1, .inr (.inr (.inr (.inl og))))), (o, .inl (G.2 5, 1, .inr (.inl of2_3868)))] ++ (WM ++ (W2_3869 ++ []))) := D_perm hpm_3873 hD
  refine W.eq (g2 := F0 m 481 ls [.int (nI ((q_thr (dC C) (sx9 xs (i9 + 1))).1))]) rfl ?_
  have hqs : (q_thr (dC M) (sx9 xs (i9 + 1))) = (q_thr (dC C) (sx9 xs (i9 + 1))) := q_thr_sim hLw.1.symm hIm (sx9 xs (i9 + 1))
  refine lv_istore (lv' := [(6, .int (nI ((q_thr (dC C) (sx9 xs (i9 + 1))).1))), (0, .ref b), (1, .ref d), (2, .ref m0), (3, .ref o), (4, .ref oD), (5, .int (nI i9))]) hx hb dL_law_481 hl (by decide) rfl (fun ls hl => ?_)
  refine lv_aload_n hx hb dL_law_483 rfl (lv_at hl 3 rfl) ?_
  refine lv_aload_n hx hb dL_law_484 rfl (lv_at hl 1 rfl) ?_
  refine lv_iload hx hb dL_law_485 (lv_at hl 6 rfl) ?_
  refine lv_iconst (v := nI 1) hx hb dL_law_487 (by decide) ?_
  refine lv_iadd hx hb dL_law_488 ?_
  refine lv_ton (n := i9 + 1) (nadd (by omega)) ?_
  refine va_sld hx hb hX9 hbl hbA hS (i := nI (i9 + 1)) (vp9 (by omega) hL96) dL_law_489 ?_
  refine W.eq (g2 := F0 m 490 ls [.int (sx9 xs (i9 + 1)), .ref m0]) rfl ?_
  have hpm_3874 : (([(oD, .inl (G.2 6, 1, .inr (.inr (.inr (.inl og))))), (o, .inl (G.2 5, 1, .inr (.inl of2_3868)))] ++ (WM ++ (W2_3869 ++ []))) : va_W).Perm ((WM ++ []) ++ ([(oD, .inl (G.2 6, 1, .inr (.inr (.inr (.inl og))))), (o, .inl (G.2 5, 1, .inr (.inl of2_3868)))] ++ (W2_3869 ++ []))) := segs_perm [[(oD, .inl (G.2 6, 1, .inr (.inr (.inr (.inl og)))))], [(o, .inl (G.2 5, 1, .inr (.inl of2_3868)))], WM, W2_3869] [2] [0, 1, 3] rfl
  have hF := hF_ofP (wc := (WM ++ [])) hD hS hA hpm_3874
  refine go_ctP hS hP hD hpm_3874 hF
      (va_runV (As := [.int (sx9 xs (i9 + 1))]) (rest := []) cf (eX4_thresholdOn l G m0 M th WM (sx9 xs (i9 + 1)) (hMd) (hIm) H.size) (cwV 1 hts (lw_V q1707 q1708 q1709 q58 q1710) rfl rfl rfl (by decide +kernel) ⟨Nat.le_of_ble_eq_true rfl, Nat.le_of_ble_eq_true rfl⟩) (preV_of hKB hE hS hF (MdW.recv hK hMd (seg_at [[(oD, .inl (G.2 6, 1, .inr (.inr (.inr (.inl og)))))], [(o, .inl (G.2 5, 1, .inr (.inl of2_3868)))], WM, W2_3869] 2 rfl hP)) (P_left (P_perm hpm_3874 hP)) ((D_left (D_perm hpm_3874 hD)).weaken (fun _ _ _ _ => trivial)) trivial) rfl rfl hl.1 rfl (lv_room (Nat.le_of_ble_eq_true rfl)) dL_law_490 ⟨show cl + 2 + 0 ≤ 1200144 from by first | decide | omega, show sl + 8 + 0 ≤ 5495674 from by first | decide | omega⟩)
      (fun u_ H locs hq hph (hP : va_P G.1 CL (([(oD, .inl (G.2 6, 1, .inr (.inr (.inr (.inl og))))), (o, .inl (G.2 5, 1, .inr (.inl of2_3868)))] ++ (W2_3869 ++ [])) ++ (u_.2 ++ [])) H) (hD : va_D A (([(oD, .inl (G.2 6, 1, .inr (.inr (.inr (.inl og))))), (o, .inl (G.2 5, 1, .inr (.inl of2_3868)))] ++ (W2_3869 ++ [])) ++ (u_.2 ++ []))) hS hfz hfk => ?_)
  obtain ⟨rr_3875, W2_3876⟩ := u_
  obtain ⟨hq_3877, hq_3878⟩ : ((q_thr (dC M) (sx9 xs (i9 + 1))).1 = 0 → rr_3875 = (q_thr (dC M) (sx9 xs (i9 + 1))).2) ∧ MdW G m0 M (q_thr (dC M) (sx9 xs (i9 + 1))).1 W2_3876 := hq
  have hpm_3879 : (([(oD, .inl (G.2 6, 1, .inr (.inr (.inr (.inl og))))), (o, .inl (G.2 5, 1, .inr (.inl of2_3868)))] ++ (W2_3869 ++ [])) ++ (W2_3876 ++ []) : va_W).Perm ([(oD, .inl (G.2 6, 1, .inr (.inr (.inr (.inl og))))), (o, .inl (G.2 5, 1, .inr (.inl of2_3868)))] ++ (W2_3869 ++ (W2_3876 ++ []))) := segs_perm2 [[(oD, .inl (G.2 6, 1, .inr (.inr (.inr (.inl og)))))], [(o, .inl (G.2 5, 1, .inr (.inl of2_3868)))], W2_3869] [W2_3876] [0, 1, 2, 3] rfl
  have hP : va_P G.1 CL ([(oD, .inl (G.2 6, 1, .inr (.inr (.inr (.inl og))))), (o, .inl (G.2 5, 1, .inr (.inl of2_3868)))] ++ (W2_3869 ++ (W2_3876 ++ []))) H := P_perm hpm_3879 hP
  have hD : va_D A ([(oD, .inl (G.2 6, 1, .inr (.inr (.inr (.inl og))))), (o, .inl (G.2 5, 1, .inr (.inl of2_3868)))] ++ (W2_3869 ++ (W2_3876 ++ []))) := D_perm hpm_3879 hD
  refine W.eq (g2 := F0 m 493 ls [.int rr_3875]) rfl ?_
  refine lv_istore (lv' := [(7, .int rr_3875), (6, .int (nI ((q_thr (dC C) (sx9 xs (i9 + 1))).1))), (0, .ref b), (1, .ref d), (2, .ref m0), (3, .ref o), (4, .ref oD), (5, .int (nI i9))]) hx hb dL_law_493 hl (by decide) rfl (fun ls hl => ?_)
  refine lv_aload_n hx hb dL_law_495 rfl (lv_at hl 4 rfl) ?_
  have hpm_3880 : (([(oD, .inl (G.2 6, 1, .inr (.inr (.inr (.inl og))))), (o, .inl (G.2 5, 1, .inr (.inl of2_3868)))] ++ (W2_3869 ++ (W2_3876 ++ []))) : va_W).Perm ([] ++ ([(oD, .inl (G.2 6, 1, .inr (.inr (.inr (.inl og))))), (o, .inl (G.2 5, 1, .inr (.inl of2_3868)))] ++ (W2_3869 ++ (W2_3876 ++ [])))) := segs_perm [[(oD, .inl (G.2 6, 1, .inr (.inr (.inr (.inl og)))))], [(o, .inl (G.2 5, 1, .inr (.inl of2_3868)))], W2_3869, W2_3876] [] [0, 1, 2, 3] rfl
  have hF := hF_ofP (wc := []) hD hS hA hpm_3880
  refine go_ctP hS hP hD hpm_3880 hF
      (va_runV (As := []) (rest := []) cf (eX4_thrown l G m0 M (((q_thr (dC M) (sx9 xs (i9 + 1)))).1) W2_3876 (hq_3878) H.size) (cwV 0 hts (lw_V q1639 q1640 q1641 q58 q1642) rfl rfl rfl (by decide +kernel) ⟨Nat.le_of_ble_eq_true rfl, Nat.le_of_ble_eq_true rfl⟩) (preV_of hKB hE hS hF (MdW.recv hK hq_3878 (seg_at [[(oD, .inl (G.2 6, 1, .inr (.inr (.inr (.inl og)))))], [(o, .inl (G.2 5, 1, .inr (.inl of2_3868)))], W2_3869, W2_3876] 3 rfl hP)) (P_left (P_perm hpm_3880 hP)) ((D_left (D_perm hpm_3880 hD)).weaken (fun _ _ _ _ => trivial)) (roW.nil (seg_at [[(oD, .inl (G.2 6, 1, .inr (.inr (.inr (.inl og)))))], [(o, .inl (G.2 5, 1, .inr (.inl of2_3868)))], W2_3869, W2_3876] 3 rfl hP))) rfl rfl hl.1 rfl (lv_room (Nat.le_of_ble_eq_true rfl)) dL_law_496 ⟨show cl + 2 + 0 ≤ 1200144 from by first | decide | omega, show sl + 8 + 0 ≤ 5495674 from by first | decide | omega⟩)
      (fun u_ H locs hq hph (hP : va_P G.1 CL (([(oD, .inl (G.2 6, 1, .inr (.inr (.inr (.inl og))))), (o, .inl (G.2 5, 1, .inr (.inl of2_3868)))] ++ (W2_3869 ++ (W2_3876 ++ []))) ++ []) H) (hD : va_D A (([(oD, .inl (G.2 6, 1, .inr (.inr (.inr (.inl og))))), (o, .inl (G.2 5, 1, .inr (.inl of2_3868)))] ++ (W2_3869 ++ (W2_3876 ++ []))) ++ [])) hS hfz hfk => ?_)
  have hpm_3881 : (([(oD, .inl (G.2 6, 1, .inr (.inr (.inr (.inl og))))), (o, .inl (G.2 5, 1, .inr (.inl of2_3868)))] ++ (W2_3869 ++ (W2_3876 ++ []))) ++ [] : va_W).Perm ([(oD, .inl (G.2 6, 1, .inr (.inr (.inr (.inl og))))), (o, .inl (G.2 5, 1, .inr (.inl of2_3868)))] ++ (W2_3869 ++ (W2_3876 ++ []))) := segs_perm2 [[(oD, .inl (G.2 6, 1, .inr (.inr (.inr (.inl og)))))], [(o, .inl (G.2 5, 1, .inr (.inl of2_3868)))], W2_3869, W2_3876] [] [0, 1, 2, 3] rfl
  have hP : va_P G.1 CL ([(oD, .inl (G.2 6, 1, .inr (.inr (.inr (.inl og))))), (o, .inl (G.2 5, 1, .inr (.inl of2_3868)))] ++ (W2_3869 ++ (W2_3876 ++ []))) H := P_perm hpm_3881 hP
  have hD : va_D A ([(oD, .inl (G.2 6, 1, .inr (.inr (.inr (.inl og))))), (o, .inl (G.2 5, 1, .inr (.inl of2_3868)))] ++ (W2_3869 ++ (W2_3876 ++ []))) := D_perm hpm_3881 hD
  refine W.eq (g2 := F0 m 499 ls [.int (nI (((q_thr (dC M) (sx9 xs (i9 + 1)))).1))]) rfl ?_
  refine lv_ton (n := ((q_thr (dC C) (sx9 xs (i9 + 1))).1)) (congrArg nI (by rw [hqs])) ?_
  refine lv_iload hx hb dL_law_499 (lv_at hl 1 rfl) ?_
  refine lv_icmp_eq (tgt := 506) hx hb dL_law_501 (by decide) (fun _ => ?_) (fun c9 => absurd rfl c9)
  refine lv_iload hx hb dL_law_506 (lv_at hl 1 rfl) ?_
  refine n_if_ne (tgt := 523) hx hb (by omega) dL_law_508 (by decide) (fun c_3882 => ?_) (fun c_3882 => ?_)
  · refine lv_goto (tgt := 2788) hx hb dL_law_523 (by decide) ?_
    have hpm_3883 : (([(oD, .inl (G.2 6, 1, .inr (.inr (.inr (.inl og))))), (o, .inl (G.2 5, 1, .inr (.inl of2_3868)))] ++ (W2_3869 ++ (W2_3876 ++ []))) : va_W).Perm (([(o, .inl (G.2 5, 1, .inr (.inl of2_3868))), (oD, .inl (G.2 6, 1, .inr (.inr (.inr (.inl og)))))] ++ (W2_3869 ++ (W2_3876 ++ []))) ++ []) := segs_perm [[(oD, .inl (G.2 6, 1, .inr (.inr (.inr (.inl og)))))], [(o, .inl (G.2 5, 1, .inr (.inl of2_3868)))], W2_3869, W2_3876] [1, 0, 2, 3] [] rfl
    have hP : va_P G.1 CL ([(o, .inl (G.2 5, 1, .inr (.inl of2_3868))), (oD, .inl (G.2 6, 1, .inr (.inr (.inr (.inl og)))))] ++ (W2_3869 ++ (W2_3876 ++ []))) H := P_left (P_perm hpm_3883 hP)
    have hD : va_D A ([(o, .inl (G.2 5, 1, .inr (.inl of2_3868))), (oD, .inl (G.2 6, 1, .inr (.inr (.inr (.inl og)))))] ++ (W2_3869 ++ (W2_3876 ++ []))) := D_left (D_perm hpm_3883 hD)
    have hl := lv_sub hl [2, 3, 4, 5, 6, 7] (l' := [(0, .ref b), (1, .ref d), (2, .ref m0), (3, .ref o), (4, .ref oD), (5, .int (nI i9))]) rfl
    exact W.widen (show cl + 2 ≤ cl + 20000 from by omega) (show sl + 8 ≤ sl + 45000 from by omega) (kk ls H locs C M (((q_thr (dC M) (sx9 xs (i9 + 1)))).1) W2_3869 W2_3876 of2_3868 og hP hD hS hl hq_3872 hq_3878 hLw.up)
  · refine lv_aload_n hx hb dL_law_511 rfl (lv_at hl 5 rfl) ?_
    refine lv_iconst (v := nI 0) hx hb dL_law_512 (by decide) ?_
    refine r_lald (v := (((q_thr (dC C) (sx9 xs (i9 + 1)))).2).toInt64) hx hb hK hP 1 5 rfl rfl (i := 0) (by omega) (by omega) ((hq_3870 (by omega))) dL_law_513 ?_
    refine lv_iload hx hb dL_law_514 (lv_at hl 0 rfl) ?_
    refine lv_toi (y := ((q_thr (dC C) (sx9 xs (i9 + 1)))).2) ((hq_3877 (by rw [hqs]; omega)).trans (by rw [hqs])) ?_
    refine lv_i2l (v := (((q_thr (dC C) (sx9 xs (i9 + 1)))).2).toInt64) hx hb dL_law_516 rfl ?_
    refine W.lcmp hx hb dL_law_517 ?_
    refine lv_ton (n := 0) (lcmp0 _) ?_
    refine n_if_eq (tgt := 523) hx hb (by omega) dL_law_518 (by decide) (fun c_3884 => ?_) (fun c_3884 => absurd c_3884 (by omega))
    refine lv_goto (tgt := 2788) hx hb dL_law_523 (by decide) ?_
    have hpm_3885 : (([(oD, .inl (G.2 6, 1, .inr (.inr (.inr (.inl og))))), (o, .inl (G.2 5, 1, .inr (.inl of2_3868)))] ++ (W2_3869 ++ (W2_3876 ++ []))) : va_W).Perm (([(o, .inl (G.2 5, 1, .inr (.inl of2_3868))), (oD, .inl (G.2 6, 1, .inr (.inr (.inr (.inl og)))))] ++ (W2_3869 ++ (W2_3876 ++ []))) ++ []) := segs_perm [[(oD, .inl (G.2 6, 1, .inr (.inr (.inr (.inl og)))))], [(o, .inl (G.2 5, 1, .inr (.inl of2_3868)))], W2_3869, W2_3876] [1, 0, 2, 3] [] rfl
    have hP : va_P G.1 CL ([(o, .inl (G.2 5, 1, .inr (.inl of2_3868))), (oD, .inl (G.2 6, 1, .inr (.inr (.inr (.inl og)))))] ++ (W2_3869 ++ (W2_3876 ++ []))) H := P_left (P_perm hpm_3885 hP)
    have hD : va_D A ([(o, .inl (G.2 5, 1, .inr (.inl of2_3868))), (oD, .inl (G.2 6, 1, .inr (.inr (.inr (.inl og)))))] ++ (W2_3869 ++ (W2_3876 ++ []))) := D_left (D_perm hpm_3885 hD)
    have hl := lv_sub hl [2, 3, 4, 5, 6, 7] (l' := [(0, .ref b), (1, .ref d), (2, .ref m0), (3, .ref o), (4, .ref oD), (5, .int (nI i9))]) rfl
    exact W.widen (show cl + 2 ≤ cl + 20000 from by omega) (show sl + 8 ≤ sl + 45000 from by omega) (kk ls H locs C M (((q_thr (dC M) (sx9 xs (i9 + 1)))).1) W2_3869 W2_3876 of2_3868 og hP hD hS hl hq_3872 hq_3878 hLw.up)

set_option maxHeartbeats 4000000 in
theorem lawK_6 {p : Program} {l : Launch} {e : Env} {s : State} {m : MethodId} {below : List Frame} {meth : Method} {c : Code} {G : Gt} {A : Nat → Prop} {b L : Nat} {xs : Nat → Int32} {Q : State → Prop} {d m0 o oD i9 N cl sl : Nat} (hfl : l.stackTraces = false) (F : LwF G A p s m c b L xs) (hi9 : i9 + 4 ≤ L) (hN24 : N ≤ 24) (hcl : cl + 20000 ≤ 1200144) (hsl : sl + 45000 ≤ 5495674) (kk : ∀ (ls : Array Slot) (H : Heap) (locs : List Loc) (C M : DS) (th : Nat) (WD WM : va_W) (of : Nat → Int64) (og : Nat → UInt64), va_P G.1 CL ([(o, .inl (G.2 5, 1, .inr (.inl of))), (oD, .inl (G.2 6, 1, .inr (.inr (.inr (.inl og)))))] ++ (WD ++ (WM ++ []))) H → va_D A ([(o, .inl (G.2 5, 1, .inr (.inl of))), (oD, .inl (G.2 6, 1, .inr (.inr (.inr (.inl og)))))] ++ (WD ++ (WM ++ []))) → va_S A s.heap H locs → lv_has ls 10 [(0, .ref b), (1, .ref d), (2, .ref m0), (3, .ref o), (4, .ref oD), (5, .int (nI i9))] → DyW G d C WD → MdW G m0 M th WM → LawI C M (N + 1) → W p l e room_1 s m #[Value.ref b] below meth c H locs (cl + 20000) (sl + 45000) Q (F0 m 2788 ls [])) {ls : Array Slot} {H : Heap} {locs : List Loc} {C M : DS} {th : Nat} {WD WM : va_W} {of : Nat → Int64} {og : Nat → UInt64} (hP : va_P G.1 CL ([(o, .inl (G.2 5, 1, .inr (.inl of))), (oD, .inl (G.2 6, 1, .inr (.inr (.inr (.inl og)))))] ++ (WD ++ (WM ++ []))) H) (hD : va_D A ([(o, .inl (G.2 5, 1, .inr (.inl of))), (oD, .inl (G.2 6, 1, .inr (.inr (.inr (.inl og)))))] ++ (WD ++ (WM ++ [])))) (hS : va_S A s.heap H locs) (hl : lv_has ls 10 [(0, .ref b), (1, .ref d), (2, .ref m0), (3, .ref o), (4, .ref oD), (5, .int (nI i9))]) (hDy : DyW G d C WD) (hMd : MdW G m0 M th WM) (hLw : LawI C M N) : W p l e room_1 s m #[Value.ref b] below meth c H locs cl sl Q (F0 m 526 ls []) := by
  obtain ⟨cf, hKB, hE, hA, hX9, hbl, hbA, hNc, hL96⟩ := F
  have hx := cf.1
  have hb := cf.2.1
  have hml := cf.2.2.1
  have hown : s.vm.findClass RX0 = some m.cls := cf.2.2.2.1
  have hts := cf.2.2.2.2
  have hK := hKB.1
  have hIc := hDy.inv.1
  have hIm : Inv (dC M) := Inv_sim hLw.1 hIc
  have hRk : RkOk (dC M) := RkOk_sim hLw.1 (RkOk_srt hDy.inv.2.2)
  have hl := hl
  refine lv_aload_n hx hb dL_law_526 rfl (lv_at hl 1 rfl) ?_
  refine lv_aload_n hx hb dL_law_527 rfl (lv_at hl 0 rfl) ?_
  refine lv_iload hx hb dL_law_528 (lv_at hl 5 rfl) ?_
  refine lv_iconst (v := nI 1) hx hb dL_law_530 (by decide) ?_
  refine lv_iadd hx hb dL_law_531 ?_
  refine lv_ton (n := i9 + 1) (nadd (by omega)) ?_
  refine va_sld hx hb hX9 hbl hbA hS (i := nI (i9 + 1)) (vp9 (by omega) hL96) dL_law_532 ?_
  refine W.eq (g2 := F0 m 533 ls [.int (sx9 xs (i9 + 1)), .ref d]) rfl ?_
  refine lv_aload_n hx hb dL_law_533 rfl (lv_at hl 0 rfl) ?_
  refine lv_iload hx hb dL_law_534 (lv_at hl 5 rfl) ?_
  refine lv_iconst (v := nI 2) hx hb dL_law_536 (by decide) ?_
  refine lv_iadd hx hb dL_law_537 ?_
  refine lv_ton (n := i9 + 2) (nadd (by omega)) ?_
  refine va_sld hx hb hX9 hbl hbA hS (i := nI (i9 + 2)) (vp9 (by omega) hL96) dL_law_538 ?_
  refine W.eq (g2 := F0 m 539 ls [.int (sx9 xs (i9 + 2)), .int (sx9 xs (i9 + 1)), .ref d]) rfl ?_
  refine lv_aload_n hx hb dL_law_539 rfl (lv_at hl 3 rfl) ?_
  have hpm_3886 : (([(o, .inl (G.2 5, 1, .inr (.inl of))), (oD, .inl (G.2 6, 1, .inr (.inr (.inr (.inl og)))))] ++ (WD ++ (WM ++ []))) : va_W).Perm (([(o, .inl (G.2 5, 1, .inr (.inl of)))] ++ (WD ++ [])) ++ ([(oD, .inl (G.2 6, 1, .inr (.inr (.inr (.inl og)))))] ++ (WM ++ []))) := segs_perm [[(o, .inl (G.2 5, 1, .inr (.inl of)))], [(oD, .inl (G.2 6, 1, .inr (.inr (.inr (.inl og)))))], WD, WM] [0, 2] [1, 3] rfl
  have hF := hF_ofP (wc := ([(o, .inl (G.2 5, 1, .inr (.inl of)))] ++ (WD ++ []))) hD hS hA hpm_3886
  refine go_ctP hS hP hD hpm_3886 hF
      (vx_runSW (As := [.ref d, .int (sx9 xs (i9 + 1)), .int (sx9 xs (i9 + 2)), .ref o]) (rest := []) cf (wX0_setBound l G d C WD o of (sx9 xs (i9 + 1)) (sx9 xs (i9 + 2)) (hDy) hfl H.size) (vx_cwSW 4 hts (lw_SW q1045 q1046 q46 q1047) rfl rfl rfl (by decide +kernel) ⟨Nat.le_of_ble_eq_true rfl, Nat.le_of_ble_eq_true rfl⟩) (preS_ofW hNc hKB hE hS hF (P_left (P_perm hpm_3886 hP)) ((D_left (D_perm hpm_3886 hD)).weaken (fun _ _ _ _ => trivial)) trivial) rfl rfl hl.1 rfl (lv_room (Nat.le_of_ble_eq_true rfl)) dL_law_540 ⟨show cl + (1 + 101) ≤ 1200144 from by first | decide | omega, show sl + (6 + 5800) ≤ 5495674 from by first | decide | omega⟩)
      (fun u_ H locs hq hph (hP : va_P G.1 CL (([(oD, .inl (G.2 6, 1, .inr (.inr (.inr (.inl og)))))] ++ (WM ++ [])) ++ ([(o, .inl (G.2 5, 1, .inr (.inl u_.1)))] ++ (u_.2.2 ++ []))) H) (hD : va_D A (([(oD, .inl (G.2 6, 1, .inr (.inr (.inr (.inl og)))))] ++ (WM ++ [])) ++ ([(o, .inl (G.2 5, 1, .inr (.inl u_.1)))] ++ (u_.2.2 ++ [])))) hS hfz hfk => ?_)
  obtain ⟨of2_3887, S2_3888, W2_3889⟩ := u_
  obtain ⟨hq_3890, hq_3891, hq_3892, hq_3893⟩ : ((o_setBound (dC C) (sx9 xs (i9 + 1)) (sx9 xs (i9 + 2))).1 = 0 → of2_3887 0 = ((o_setBound (dC C) (sx9 xs (i9 + 1)) (sx9 xs (i9 + 2))).2.1).toInt64) ∧ NxS C (o_setBound (dC C) (sx9 xs (i9 + 1)) (sx9 xs (i9 + 2))) S2_3888 ∧ (o_setBound (dC C) (sx9 xs (i9 + 1)) (sx9 xs (i9 + 2))).1 < 10 ∧ DyW G d S2_3888 W2_3889 := hq
  have hpm_3894 : (([(oD, .inl (G.2 6, 1, .inr (.inr (.inr (.inl og)))))] ++ (WM ++ [])) ++ ([(o, .inl (G.2 5, 1, .inr (.inl of2_3887)))] ++ (W2_3889 ++ [])) : va_W).Perm ([(oD, .inl (G.2 6, 1, .inr (.inr (.inr (.inl og))))), (o, .inl (G.2 5, 1, .inr (.inl of2_3887)))] ++ (WM ++ (W2_3889 ++ []))) := segs_perm2 [[(oD, .inl (G.2 6, 1, .inr (.inr (.inr (.inl og)))))], WM] [[(o, .inl (G.2 5, 1, .inr (.inl of2_3887)))], W2_3889] [0, 2, 1, 3] rfl
  have hP : va_P G.1 CL ([(oD, .inl (G.2 6, 1, .inr (.inr (.inr (.inl og))))), (o, .inl (G.2 5, 1, .inr (.inl of2_3887)))] ++ (WM ++ (W2_3889 ++ []))) H := P_perm hpm_3894 hP
  have hD : va_D A ([(oD, .inl (G.2 6, 1, .inr (.inr (.inr (.inl og))))), (o, .inl (G.2 5, 1, .inr (.inl of2_3887)))] ++ (WM ++ (W2_3889 ++ []))) := D_perm hpm_3894 hD
  refine W.eq (g2 := F0 m 543 ls [.int (nI ((o_setBound (dC C) (sx9 xs (i9 + 1)) (sx9 xs (i9 + 2))).1))]) rfl ?_
  have hqs : SimR (o_setBound (dC C) (sx9 xs (i9 + 1)) (sx9 xs (i9 + 2))) (o_setBound (dC M) (sx9 xs (i9 + 1)) (sx9 xs (i9 + 2))) := o_setBound_sim hLw.1 hIc (sx9 xs (i9 + 1)) (sx9 xs (i9 + 2))
  refine lv_istore (lv' := [(6, .int (nI ((o_setBound (dC C) (sx9 xs (i9 + 1)) (sx9 xs (i9 + 2))).1))), (0, .ref b), (1, .ref d), (2, .ref m0), (3, .ref o), (4, .ref oD), (5, .int (nI i9))]) hx hb dL_law_543 hl (by decide) rfl (fun ls hl => ?_)
  refine lv_aload_n hx hb dL_law_545 rfl (lv_at hl 3 rfl) ?_
  refine lv_aload_n hx hb dL_law_546 rfl (lv_at hl 1 rfl) ?_
  refine lv_iload hx hb dL_law_547 (lv_at hl 6 rfl) ?_
  refine lv_iconst (v := nI 1) hx hb dL_law_549 (by decide) ?_
  refine lv_iadd hx hb dL_law_550 ?_
  refine lv_ton (n := i9 + 1) (nadd (by omega)) ?_
  refine va_sld hx hb hX9 hbl hbA hS (i := nI (i9 + 1)) (vp9 (by omega) hL96) dL_law_551 ?_
  refine W.eq (g2 := F0 m 552 ls [.int (sx9 xs (i9 + 1)), .ref m0]) rfl ?_
  refine lv_aload_n hx hb dL_law_552 rfl (lv_at hl 1 rfl) ?_
  refine lv_iload hx hb dL_law_553 (lv_at hl 6 rfl) ?_
  refine lv_iconst (v := nI 2) hx hb dL_law_555 (by decide) ?_
  refine lv_iadd hx hb dL_law_556 ?_
  refine lv_ton (n := i9 + 2) (nadd (by omega)) ?_
  refine va_sld hx hb hX9 hbl hbA hS (i := nI (i9 + 2)) (vp9 (by omega) hL96) dL_law_557 ?_
  refine W.eq (g2 := F0 m 558 ls [.int (sx9 xs (i9 + 2)), .int (sx9 xs (i9 + 1)), .ref m0]) rfl ?_
  have hpm_3895 : (([(oD, .inl (G.2 6, 1, .inr (.inr (.inr (.inl og))))), (o, .inl (G.2 5, 1, .inr (.inl of2_3887)))] ++ (WM ++ (W2_3889 ++ []))) : va_W).Perm ((WM ++ []) ++ ([(oD, .inl (G.2 6, 1, .inr (.inr (.inr (.inl og))))), (o, .inl (G.2 5, 1, .inr (.inl of2_3887)))] ++ (W2_3889 ++ []))) := segs_perm [[(oD, .inl (G.2 6, 1, .inr (.inr (.inr (.inl og)))))], [(o, .inl (G.2 5, 1, .inr (.inl of2_3887)))], WM, W2_3889] [2] [0, 1, 3] rfl
  have hF := hF_ofP (wc := (WM ++ [])) hD hS hA hpm_3895
  refine go_ctP hS hP hD hpm_3895 hF
      (va_runV (As := [.int (sx9 xs (i9 + 1)), .int (sx9 xs (i9 + 2))]) (rest := []) cf (eX4_setBound l G m0 M th WM (sx9 xs (i9 + 1)) (sx9 xs (i9 + 2)) (hMd) (hIm) H.size) (cwV 2 hts (lw_V q1711 q1712 q1713 q58 q1714) rfl rfl rfl (by decide +kernel) ⟨Nat.le_of_ble_eq_true rfl, Nat.le_of_ble_eq_true rfl⟩) (preV_of hKB hE hS hF (MdW.recv hK hMd (seg_at [[(oD, .inl (G.2 6, 1, .inr (.inr (.inr (.inl og)))))], [(o, .inl (G.2 5, 1, .inr (.inl of2_3887)))], WM, W2_3889] 2 rfl hP)) (P_left (P_perm hpm_3895 hP)) ((D_left (D_perm hpm_3895 hD)).weaken (fun _ _ _ _ => trivial)) trivial) rfl rfl hl.1 rfl (lv_room (Nat.le_of_ble_eq_true rfl)) dL_law_558 ⟨show cl + (1 + 101) + 0 ≤ 1200144 from by first | decide | omega, show sl + (6 + 5800) + 0 ≤ 5495674 from by first | decide | omega⟩)
      (fun u_ H locs hq hph (hP : va_P G.1 CL (([(oD, .inl (G.2 6, 1, .inr (.inr (.inr (.inl og))))), (o, .inl (G.2 5, 1, .inr (.inl of2_3887)))] ++ (W2_3889 ++ [])) ++ (u_.2 ++ [])) H) (hD : va_D A (([(oD, .inl (G.2 6, 1, .inr (.inr (.inr (.inl og))))), (o, .inl (G.2 5, 1, .inr (.inl of2_3887)))] ++ (W2_3889 ++ [])) ++ (u_.2 ++ []))) hS hfz hfk => ?_)
  obtain ⟨rr_3896, W2_3897⟩ := u_
  obtain ⟨hq_3898, hq_3899⟩ : ((o_setBound (dC M) (sx9 xs (i9 + 1)) (sx9 xs (i9 + 2))).1 = 0 → rr_3896 = (o_setBound (dC M) (sx9 xs (i9 + 1)) (sx9 xs (i9 + 2))).2.1) ∧ MdW G m0 (if (o_setBound (dC M) (sx9 xs (i9 + 1)) (sx9 xs (i9 + 2))).1 = 0 then (((o_setBound (dC M) (sx9 xs (i9 + 1)) (sx9 xs (i9 + 2))).2.2, dS M, min 6 (dK M + 1), hsR (dH M) (dK M) (dC M), dL M, dN M) : DS) else M) (o_setBound (dC M) (sx9 xs (i9 + 1)) (sx9 xs (i9 + 2))).1 W2_3897 := hq
  have hpm_3900 : (([(oD, .inl (G.2 6, 1, .inr (.inr (.inr (.inl og))))), (o, .inl (G.2 5, 1, .inr (.inl of2_3887)))] ++ (W2_3889 ++ [])) ++ (W2_3897 ++ []) : va_W).Perm ([(oD, .inl (G.2 6, 1, .inr (.inr (.inr (.inl og))))), (o, .inl (G.2 5, 1, .inr (.inl of2_3887)))] ++ (W2_3889 ++ (W2_3897 ++ []))) := segs_perm2 [[(oD, .inl (G.2 6, 1, .inr (.inr (.inr (.inl og)))))], [(o, .inl (G.2 5, 1, .inr (.inl of2_3887)))], W2_3889] [W2_3897] [0, 1, 2, 3] rfl
  have hP : va_P G.1 CL ([(oD, .inl (G.2 6, 1, .inr (.inr (.inr (.inl og))))), (o, .inl (G.2 5, 1, .inr (.inl of2_3887)))] ++ (W2_3889 ++ (W2_3897 ++ []))) H := P_perm hpm_3900 hP
  have hD : va_D A ([(oD, .inl (G.2 6, 1, .inr (.inr (.inr (.inl og))))), (o, .inl (G.2 5, 1, .inr (.inl of2_3887)))] ++ (W2_3889 ++ (W2_3897 ++ []))) := D_perm hpm_3900 hD
  refine W.eq (g2 := F0 m 561 ls [.int rr_3896]) rfl ?_
  refine lv_istore (lv' := [(7, .int rr_3896), (6, .int (nI ((o_setBound (dC C) (sx9 xs (i9 + 1)) (sx9 xs (i9 + 2))).1))), (0, .ref b), (1, .ref d), (2, .ref m0), (3, .ref o), (4, .ref oD), (5, .int (nI i9))]) hx hb dL_law_561 hl (by decide) rfl (fun ls hl => ?_)
  refine lv_aload_n hx hb dL_law_563 rfl (lv_at hl 4 rfl) ?_
  have hpm_3901 : (([(oD, .inl (G.2 6, 1, .inr (.inr (.inr (.inl og))))), (o, .inl (G.2 5, 1, .inr (.inl of2_3887)))] ++ (W2_3889 ++ (W2_3897 ++ []))) : va_W).Perm ([] ++ ([(oD, .inl (G.2 6, 1, .inr (.inr (.inr (.inl og))))), (o, .inl (G.2 5, 1, .inr (.inl of2_3887)))] ++ (W2_3889 ++ (W2_3897 ++ [])))) := segs_perm [[(oD, .inl (G.2 6, 1, .inr (.inr (.inr (.inl og)))))], [(o, .inl (G.2 5, 1, .inr (.inl of2_3887)))], W2_3889, W2_3897] [] [0, 1, 2, 3] rfl
  have hF := hF_ofP (wc := []) hD hS hA hpm_3901
  refine go_ctP hS hP hD hpm_3901 hF
      (va_runV (As := []) (rest := []) cf (eX4_thrown l G m0 (if ((o_setBound (dC M) (sx9 xs (i9 + 1)) (sx9 xs (i9 + 2)))).1 = 0 then ((((o_setBound (dC M) (sx9 xs (i9 + 1)) (sx9 xs (i9 + 2)))).2.2, dS M, min 6 (dK M + 1), hsR (dH M) (dK M) (dC M), dL M, dN M) : DS) else M) (((o_setBound (dC M) (sx9 xs (i9 + 1)) (sx9 xs (i9 + 2)))).1) W2_3897 (hq_3899) H.size) (cwV 0 hts (lw_V q1639 q1640 q1641 q58 q1642) rfl rfl rfl (by decide +kernel) ⟨Nat.le_of_ble_eq_true rfl, Nat.le_of_ble_eq_true rfl⟩) (preV_of hKB hE hS hF (MdW.recv hK hq_3899 (seg_at [[(oD, .inl (G.2 6, 1, .inr (.inr (.inr (.inl og)))))], [(o, .inl (G.2 5, 1, .inr (.inl of2_3887)))], W2_3889, W2_3897] 3 rfl hP)) (P_left (P_perm hpm_3901 hP)) ((D_left (D_perm hpm_3901 hD)).weaken (fun _ _ _ _ => trivial)) (roW.nil (seg_at [[(oD, .inl (G.2 6, 1, .inr (.inr (.inr (.inl og)))))], [(o, .inl (G.2 5, 1, .inr (.inl of2_3887)))], W2_3889, W2_3897] 3 rfl hP))) rfl rfl hl.1 rfl (lv_room (Nat.le_of_ble_eq_true rfl)) dL_law_564 ⟨show cl + (1 + 101) + 0 ≤ 1200144 from by first | decide | omega, show sl + (6 + 5800) + 0 ≤ 5495674 from by first | decide | omega⟩)
      (fun u_ H locs hq hph (hP : va_P G.1 CL (([(oD, .inl (G.2 6, 1, .inr (.inr (.inr (.inl og))))), (o, .inl (G.2 5, 1, .inr (.inl of2_3887)))] ++ (W2_3889 ++ (W2_3897 ++ []))) ++ []) H) (hD : va_D A (([(oD, .inl (G.2 6, 1, .inr (.inr (.inr (.inl og))))), (o, .inl (G.2 5, 1, .inr (.inl of2_3887)))] ++ (W2_3889 ++ (W2_3897 ++ []))) ++ [])) hS hfz hfk => ?_)
  have hpm_3902 : (([(oD, .inl (G.2 6, 1, .inr (.inr (.inr (.inl og))))), (o, .inl (G.2 5, 1, .inr (.inl of2_3887)))] ++ (W2_3889 ++ (W2_3897 ++ []))) ++ [] : va_W).Perm ([(oD, .inl (G.2 6, 1, .inr (.inr (.inr (.inl og))))), (o, .inl (G.2 5, 1, .inr (.inl of2_3887)))] ++ (W2_3889 ++ (W2_3897 ++ []))) := segs_perm2 [[(oD, .inl (G.2 6, 1, .inr (.inr (.inr (.inl og)))))], [(o, .inl (G.2 5, 1, .inr (.inl of2_3887)))], W2_3889, W2_3897] [] [0, 1, 2, 3] rfl
  have hP : va_P G.1 CL ([(oD, .inl (G.2 6, 1, .inr (.inr (.inr (.inl og))))), (o, .inl (G.2 5, 1, .inr (.inl of2_3887)))] ++ (W2_3889 ++ (W2_3897 ++ []))) H := P_perm hpm_3902 hP
  have hD : va_D A ([(oD, .inl (G.2 6, 1, .inr (.inr (.inr (.inl og))))), (o, .inl (G.2 5, 1, .inr (.inl of2_3887)))] ++ (W2_3889 ++ (W2_3897 ++ []))) := D_perm hpm_3902 hD
  refine W.eq (g2 := F0 m 567 ls [.int (nI (((o_setBound (dC M) (sx9 xs (i9 + 1)) (sx9 xs (i9 + 2)))).1))]) rfl ?_
  refine lv_ton (n := ((o_setBound (dC C) (sx9 xs (i9 + 1)) (sx9 xs (i9 + 2))).1)) (congrArg nI hqs.1.symm) ?_
  refine lv_iload hx hb dL_law_567 (lv_at hl 1 rfl) ?_
  refine lv_icmp_eq (tgt := 574) hx hb dL_law_569 (by decide) (fun _ => ?_) (fun c9 => absurd rfl c9)
  refine lv_iload hx hb dL_law_574 (lv_at hl 1 rfl) ?_
  refine n_if_ne (tgt := 591) hx hb (by omega) dL_law_576 (by decide) (fun c_3903 => ?_) (fun c_3903 => ?_)
  · refine lv_goto (tgt := 2788) hx hb dL_law_591 (by decide) ?_
    have hpm_3904 : (([(oD, .inl (G.2 6, 1, .inr (.inr (.inr (.inl og))))), (o, .inl (G.2 5, 1, .inr (.inl of2_3887)))] ++ (W2_3889 ++ (W2_3897 ++ []))) : va_W).Perm (([(o, .inl (G.2 5, 1, .inr (.inl of2_3887))), (oD, .inl (G.2 6, 1, .inr (.inr (.inr (.inl og)))))] ++ (W2_3889 ++ (W2_3897 ++ []))) ++ []) := segs_perm [[(oD, .inl (G.2 6, 1, .inr (.inr (.inr (.inl og)))))], [(o, .inl (G.2 5, 1, .inr (.inl of2_3887)))], W2_3889, W2_3897] [1, 0, 2, 3] [] rfl
    have hP : va_P G.1 CL ([(o, .inl (G.2 5, 1, .inr (.inl of2_3887))), (oD, .inl (G.2 6, 1, .inr (.inr (.inr (.inl og)))))] ++ (W2_3889 ++ (W2_3897 ++ []))) H := P_left (P_perm hpm_3904 hP)
    have hD : va_D A ([(o, .inl (G.2 5, 1, .inr (.inl of2_3887))), (oD, .inl (G.2 6, 1, .inr (.inr (.inr (.inl og)))))] ++ (W2_3889 ++ (W2_3897 ++ []))) := D_left (D_perm hpm_3904 hD)
    have hl := lv_sub hl [2, 3, 4, 5, 6, 7] (l' := [(0, .ref b), (1, .ref d), (2, .ref m0), (3, .ref o), (4, .ref oD), (5, .int (nI i9))]) rfl
    exact W.widen (show cl + (1 + 101) ≤ cl + 20000 from by omega) (show sl + (6 + 5800) ≤ sl + 45000 from by omega) (kk ls H locs S2_3888 (if ((o_setBound (dC M) (sx9 xs (i9 + 1)) (sx9 xs (i9 + 2)))).1 = 0 then ((((o_setBound (dC M) (sx9 xs (i9 + 1)) (sx9 xs (i9 + 2)))).2.2, dS M, min 6 (dK M + 1), hsR (dH M) (dK M) (dC M), dL M, dN M) : DS) else M) (((o_setBound (dC M) (sx9 xs (i9 + 1)) (sx9 xs (i9 + 2)))).1) W2_3889 W2_3897 of2_3887 og hP hD hS hl hq_3893 hq_3899 (hLw.mut hqs hq_3891 (o_setBound_b (dC C) (sx9 xs (i9 + 1)) (sx9 xs (i9 + 2)))))
  · refine lv_aload_n hx hb dL_law_579 rfl (lv_at hl 5 rfl) ?_
    refine lv_iconst (v := nI 0) hx hb dL_law_580 (by decide) ?_
    refine r_lald (v := (((o_setBound (dC C) (sx9 xs (i9 + 1)) (sx9 xs (i9 + 2)))).2.1).toInt64) hx hb hK hP 1 5 rfl rfl (i := 0) (by omega) (by omega) ((hq_3890 (by omega))) dL_law_581 ?_
    refine lv_iload hx hb dL_law_582 (lv_at hl 0 rfl) ?_
    refine lv_toi (y := ((o_setBound (dC C) (sx9 xs (i9 + 1)) (sx9 xs (i9 + 2)))).2.1) ((hq_3898 (hqs.1.symm.trans (by omega))).trans hqs.2.1.symm) ?_
    refine lv_i2l (v := (((o_setBound (dC C) (sx9 xs (i9 + 1)) (sx9 xs (i9 + 2)))).2.1).toInt64) hx hb dL_law_584 rfl ?_
    refine W.lcmp hx hb dL_law_585 ?_
    refine lv_ton (n := 0) (lcmp0 _) ?_
    refine n_if_eq (tgt := 591) hx hb (by omega) dL_law_586 (by decide) (fun c_3905 => ?_) (fun c_3905 => absurd c_3905 (by omega))
    refine lv_goto (tgt := 2788) hx hb dL_law_591 (by decide) ?_
    have hpm_3906 : (([(oD, .inl (G.2 6, 1, .inr (.inr (.inr (.inl og))))), (o, .inl (G.2 5, 1, .inr (.inl of2_3887)))] ++ (W2_3889 ++ (W2_3897 ++ []))) : va_W).Perm (([(o, .inl (G.2 5, 1, .inr (.inl of2_3887))), (oD, .inl (G.2 6, 1, .inr (.inr (.inr (.inl og)))))] ++ (W2_3889 ++ (W2_3897 ++ []))) ++ []) := segs_perm [[(oD, .inl (G.2 6, 1, .inr (.inr (.inr (.inl og)))))], [(o, .inl (G.2 5, 1, .inr (.inl of2_3887)))], W2_3889, W2_3897] [1, 0, 2, 3] [] rfl
    have hP : va_P G.1 CL ([(o, .inl (G.2 5, 1, .inr (.inl of2_3887))), (oD, .inl (G.2 6, 1, .inr (.inr (.inr (.inl og)))))] ++ (W2_3889 ++ (W2_3897 ++ []))) H := P_left (P_perm hpm_3906 hP)
    have hD : va_D A ([(o, .inl (G.2 5, 1, .inr (.inl of2_3887))), (oD, .inl (G.2 6, 1, .inr (.inr (.inr (.inl og)))))] ++ (W2_3889 ++ (W2_3897 ++ []))) := D_left (D_perm hpm_3906 hD)
    have hl := lv_sub hl [2, 3, 4, 5, 6, 7] (l' := [(0, .ref b), (1, .ref d), (2, .ref m0), (3, .ref o), (4, .ref oD), (5, .int (nI i9))]) rfl
    exact W.widen (show cl + (1 + 101) ≤ cl + 20000 from by omega) (show sl + (6 + 5800) ≤ sl + 45000 from by omega) (kk ls H locs S2_3888 (if ((o_setBound (dC M) (sx9 xs (i9 + 1)) (sx9 xs (i9 + 2)))).1 = 0 then ((((o_setBound (dC M) (sx9 xs (i9 + 1)) (sx9 xs (i9 + 2)))).2.2, dS M, min 6 (dK M + 1), hsR (dH M) (dK M) (dC M), dL M, dN M) : DS) else M) (((o_setBound (dC M) (sx9 xs (i9 + 1)) (sx9 xs (i9 + 2)))).1) W2_3889 W2_3897 of2_3887 og hP hD hS hl hq_3893 hq_3899 (hLw.mut hqs hq_3891 (o_setBound_b (dC C) (sx9 xs (i9 + 1)) (sx9 xs (i9 + 2)))))

set_option maxHeartbeats 4000000 in
theorem lawK_7 {p : Program} {l : Launch} {e : Env} {s : State} {m : MethodId} {below : List Frame} {meth : Method} {c : Code} {G : Gt} {A : Nat → Prop} {b L : Nat} {xs : Nat → Int32} {Q : State → Prop} {d m0 o oD i9 N cl sl : Nat} (hfl : l.stackTraces = false) (F : LwF G A p s m c b L xs) (hi9 : i9 + 4 ≤ L) (hN24 : N ≤ 24) (hcl : cl + 20000 ≤ 1200144) (hsl : sl + 45000 ≤ 5495674) (kk : ∀ (ls : Array Slot) (H : Heap) (locs : List Loc) (C M : DS) (th : Nat) (WD WM : va_W) (of : Nat → Int64) (og : Nat → UInt64), va_P G.1 CL ([(o, .inl (G.2 5, 1, .inr (.inl of))), (oD, .inl (G.2 6, 1, .inr (.inr (.inr (.inl og)))))] ++ (WD ++ (WM ++ []))) H → va_D A ([(o, .inl (G.2 5, 1, .inr (.inl of))), (oD, .inl (G.2 6, 1, .inr (.inr (.inr (.inl og)))))] ++ (WD ++ (WM ++ []))) → va_S A s.heap H locs → lv_has ls 10 [(0, .ref b), (1, .ref d), (2, .ref m0), (3, .ref o), (4, .ref oD), (5, .int (nI i9))] → DyW G d C WD → MdW G m0 M th WM → LawI C M (N + 1) → W p l e room_1 s m #[Value.ref b] below meth c H locs (cl + 20000) (sl + 45000) Q (F0 m 2788 ls [])) {ls : Array Slot} {H : Heap} {locs : List Loc} {C M : DS} {th : Nat} {WD WM : va_W} {of : Nat → Int64} {og : Nat → UInt64} (hP : va_P G.1 CL ([(o, .inl (G.2 5, 1, .inr (.inl of))), (oD, .inl (G.2 6, 1, .inr (.inr (.inr (.inl og)))))] ++ (WD ++ (WM ++ []))) H) (hD : va_D A ([(o, .inl (G.2 5, 1, .inr (.inl of))), (oD, .inl (G.2 6, 1, .inr (.inr (.inr (.inl og)))))] ++ (WD ++ (WM ++ [])))) (hS : va_S A s.heap H locs) (hl : lv_has ls 10 [(0, .ref b), (1, .ref d), (2, .ref m0), (3, .ref o), (4, .ref oD), (5, .int (nI i9))]) (hDy : DyW G d C WD) (hMd : MdW G m0 M th WM) (hLw : LawI C M N) : W p l e room_1 s m #[Value.ref b] below meth c H locs cl sl Q (F0 m 594 ls []) := by
  obtain ⟨cf, hKB, hE, hA, hX9, hbl, hbA, hNc, hL96⟩ := F
  have hx := cf.1
  have hb := cf.2.1
  have hml := cf.2.2.1
  have hown : s.vm.findClass RX0 = some m.cls := cf.2.2.2.1
  have hts := cf.2.2.2.2
  have hK := hKB.1
  have hIc := hDy.inv.1
  have hIm : Inv (dC M) := Inv_sim hLw.1 hIc
  have hRk : RkOk (dC M) := RkOk_sim hLw.1 (RkOk_srt hDy.inv.2.2)
  have hl := hl
  refine lv_aload_n hx hb dL_law_594 rfl (lv_at hl 1 rfl) ?_
  refine lv_aload_n hx hb dL_law_595 rfl (lv_at hl 0 rfl) ?_
  refine lv_iload hx hb dL_law_596 (lv_at hl 5 rfl) ?_
  refine lv_iconst (v := nI 1) hx hb dL_law_598 (by decide) ?_
  refine lv_iadd hx hb dL_law_599 ?_
  refine lv_ton (n := i9 + 1) (nadd (by omega)) ?_
  refine va_sld hx hb hX9 hbl hbA hS (i := nI (i9 + 1)) (vp9 (by omega) hL96) dL_law_600 ?_
  refine W.eq (g2 := F0 m 601 ls [.int (sx9 xs (i9 + 1)), .ref d]) rfl ?_
  refine lv_aload_n hx hb dL_law_601 rfl (lv_at hl 3 rfl) ?_
  have hpm_3907 : (([(o, .inl (G.2 5, 1, .inr (.inl of))), (oD, .inl (G.2 6, 1, .inr (.inr (.inr (.inl og)))))] ++ (WD ++ (WM ++ []))) : va_W).Perm (([(o, .inl (G.2 5, 1, .inr (.inl of)))] ++ (WD ++ [])) ++ ([(oD, .inl (G.2 6, 1, .inr (.inr (.inr (.inl og)))))] ++ (WM ++ []))) := segs_perm [[(o, .inl (G.2 5, 1, .inr (.inl of)))], [(oD, .inl (G.2 6, 1, .inr (.inr (.inr (.inl og)))))], WD, WM] [0, 2] [1, 3] rfl
  have hF := hF_ofP (wc := ([(o, .inl (G.2 5, 1, .inr (.inl of)))] ++ (WD ++ []))) hD hS hA hpm_3907
  refine go_ctP hS hP hD hpm_3907 hF
      (vx_runSW (As := [.ref d, .int (sx9 xs (i9 + 1)), .ref o]) (rest := []) cf (wX0_boundOf l G d C WD o of (sx9 xs (i9 + 1)) (hDy) hfl H.size) (vx_cwSW 3 hts (lw_SW q1056 q1057 q46 q1058) rfl rfl rfl (by decide +kernel) ⟨Nat.le_of_ble_eq_true rfl, Nat.le_of_ble_eq_true rfl⟩) (preS_ofW hNc hKB hE hS hF (P_left (P_perm hpm_3907 hP)) ((D_left (D_perm hpm_3907 hD)).weaken (fun _ _ _ _ => trivial)) trivial) rfl rfl hl.1 rfl (lv_room (Nat.le_of_ble_eq_true rfl)) dL_law_602 ⟨show cl + 2 ≤ 1200144 from by first | decide | omega, show sl + 8 ≤ 5495674 from by first | decide | omega⟩)
      (fun u_ H locs hq hph (hP : va_P G.1 CL (([(oD, .inl (G.2 6, 1, .inr (.inr (.inr (.inl og)))))] ++ (WM ++ [])) ++ ([(o, .inl (G.2 5, 1, .inr (.inl u_.1)))] ++ (u_.2 ++ []))) H) (hD : va_D A (([(oD, .inl (G.2 6, 1, .inr (.inr (.inr (.inl og)))))] ++ (WM ++ [])) ++ ([(o, .inl (G.2 5, 1, .inr (.inl u_.1)))] ++ (u_.2 ++ [])))) hS hfz hfk => ?_)
  obtain ⟨of2_3908, W2_3909⟩ := u_
  obtain ⟨hq_3910, hq_3911, hq_3912⟩ : ((q_bound (dC C) (sx9 xs (i9 + 1))).1 = 0 → of2_3908 0 = ((q_bound (dC C) (sx9 xs (i9 + 1))).2).toInt64) ∧ (q_bound (dC C) (sx9 xs (i9 + 1))).1 < 10 ∧ DyW G d C W2_3909 := hq
  have hpm_3913 : (([(oD, .inl (G.2 6, 1, .inr (.inr (.inr (.inl og)))))] ++ (WM ++ [])) ++ ([(o, .inl (G.2 5, 1, .inr (.inl of2_3908)))] ++ (W2_3909 ++ [])) : va_W).Perm ([(oD, .inl (G.2 6, 1, .inr (.inr (.inr (.inl og))))), (o, .inl (G.2 5, 1, .inr (.inl of2_3908)))] ++ (WM ++ (W2_3909 ++ []))) := segs_perm2 [[(oD, .inl (G.2 6, 1, .inr (.inr (.inr (.inl og)))))], WM] [[(o, .inl (G.2 5, 1, .inr (.inl of2_3908)))], W2_3909] [0, 2, 1, 3] rfl
  have hP : va_P G.1 CL ([(oD, .inl (G.2 6, 1, .inr (.inr (.inr (.inl og))))), (o, .inl (G.2 5, 1, .inr (.inl of2_3908)))] ++ (WM ++ (W2_3909 ++ []))) H := P_perm hpm_3913 hP
  have hD : va_D A ([(oD, .inl (G.2 6, 1, .inr (.inr (.inr (.inl og))))), (o, .inl (G.2 5, 1, .inr (.inl of2_3908)))] ++ (WM ++ (W2_3909 ++ []))) := D_perm hpm_3913 hD
  refine W.eq (g2 := F0 m 605 ls [.int (nI ((q_bound (dC C) (sx9 xs (i9 + 1))).1))]) rfl ?_
  have hqs : (q_bound (dC M) (sx9 xs (i9 + 1))) = (q_bound (dC C) (sx9 xs (i9 + 1))) := q_bound_sim hLw.1.symm hIm (sx9 xs (i9 + 1))
  refine lv_istore (lv' := [(6, .int (nI ((q_bound (dC C) (sx9 xs (i9 + 1))).1))), (0, .ref b), (1, .ref d), (2, .ref m0), (3, .ref o), (4, .ref oD), (5, .int (nI i9))]) hx hb dL_law_605 hl (by decide) rfl (fun ls hl => ?_)
  refine lv_aload_n hx hb dL_law_607 rfl (lv_at hl 3 rfl) ?_
  refine lv_aload_n hx hb dL_law_608 rfl (lv_at hl 1 rfl) ?_
  refine lv_iload hx hb dL_law_609 (lv_at hl 6 rfl) ?_
  refine lv_iconst (v := nI 1) hx hb dL_law_611 (by decide) ?_
  refine lv_iadd hx hb dL_law_612 ?_
  refine lv_ton (n := i9 + 1) (nadd (by omega)) ?_
  refine va_sld hx hb hX9 hbl hbA hS (i := nI (i9 + 1)) (vp9 (by omega) hL96) dL_law_613 ?_
  refine W.eq (g2 := F0 m 614 ls [.int (sx9 xs (i9 + 1)), .ref m0]) rfl ?_
  have hpm_3914 : (([(oD, .inl (G.2 6, 1, .inr (.inr (.inr (.inl og))))), (o, .inl (G.2 5, 1, .inr (.inl of2_3908)))] ++ (WM ++ (W2_3909 ++ []))) : va_W).Perm ((WM ++ []) ++ ([(oD, .inl (G.2 6, 1, .inr (.inr (.inr (.inl og))))), (o, .inl (G.2 5, 1, .inr (.inl of2_3908)))] ++ (W2_3909 ++ []))) := segs_perm [[(oD, .inl (G.2 6, 1, .inr (.inr (.inr (.inl og)))))], [(o, .inl (G.2 5, 1, .inr (.inl of2_3908)))], WM, W2_3909] [2] [0, 1, 3] rfl
  have hF := hF_ofP (wc := (WM ++ [])) hD hS hA hpm_3914
  refine go_ctP hS hP hD hpm_3914 hF
      (va_runV (As := [.int (sx9 xs (i9 + 1))]) (rest := []) cf (eX4_boundOf l G m0 M th WM (sx9 xs (i9 + 1)) (hMd) (hIm) H.size) (cwV 1 hts (lw_V q1715 q1716 q1717 q58 q1718) rfl rfl rfl (by decide +kernel) ⟨Nat.le_of_ble_eq_true rfl, Nat.le_of_ble_eq_true rfl⟩) (preV_of hKB hE hS hF (MdW.recv hK hMd (seg_at [[(oD, .inl (G.2 6, 1, .inr (.inr (.inr (.inl og)))))], [(o, .inl (G.2 5, 1, .inr (.inl of2_3908)))], WM, W2_3909] 2 rfl hP)) (P_left (P_perm hpm_3914 hP)) ((D_left (D_perm hpm_3914 hD)).weaken (fun _ _ _ _ => trivial)) trivial) rfl rfl hl.1 rfl (lv_room (Nat.le_of_ble_eq_true rfl)) dL_law_614 ⟨show cl + 2 + 0 ≤ 1200144 from by first | decide | omega, show sl + 8 + 0 ≤ 5495674 from by first | decide | omega⟩)
      (fun u_ H locs hq hph (hP : va_P G.1 CL (([(oD, .inl (G.2 6, 1, .inr (.inr (.inr (.inl og))))), (o, .inl (G.2 5, 1, .inr (.inl of2_3908)))] ++ (W2_3909 ++ [])) ++ (u_.2 ++ [])) H) (hD : va_D A (([(oD, .inl (G.2 6, 1, .inr (.inr (.inr (.inl og))))), (o, .inl (G.2 5, 1, .inr (.inl of2_3908)))] ++ (W2_3909 ++ [])) ++ (u_.2 ++ []))) hS hfz hfk => ?_)
  obtain ⟨rr_3915, W2_3916⟩ := u_
  obtain ⟨hq_3917, hq_3918⟩ : ((q_bound (dC M) (sx9 xs (i9 + 1))).1 = 0 → rr_3915 = (q_bound (dC M) (sx9 xs (i9 + 1))).2) ∧ MdW G m0 M (q_bound (dC M) (sx9 xs (i9 + 1))).1 W2_3916 := hq
  have hpm_3919 : (([(oD, .inl (G.2 6, 1, .inr (.inr (.inr (.inl og))))), (o, .inl (G.2 5, 1, .inr (.inl of2_3908)))] ++ (W2_3909 ++ [])) ++ (W2_3916 ++ []) : va_W).Perm ([(oD, .inl (G.2 6, 1, .inr (.inr (.inr (.inl og))))), (o, .inl (G.2 5, 1, .inr (.inl of2_3908)))] ++ (W2_3909 ++ (W2_3916 ++ []))) := segs_perm2 [[(oD, .inl (G.2 6, 1, .inr (.inr (.inr (.inl og)))))], [(o, .inl (G.2 5, 1, .inr (.inl of2_3908)))], W2_3909] [W2_3916] [0, 1, 2, 3] rfl
  have hP : va_P G.1 CL ([(oD, .inl (G.2 6, 1, .inr (.inr (.inr (.inl og))))), (o, .inl (G.2 5, 1, .inr (.inl of2_3908)))] ++ (W2_3909 ++ (W2_3916 ++ []))) H := P_perm hpm_3919 hP
  have hD : va_D A ([(oD, .inl (G.2 6, 1, .inr (.inr (.inr (.inl og))))), (o, .inl (G.2 5, 1, .inr (.inl of2_3908)))] ++ (W2_3909 ++ (W2_3916 ++ []))) := D_perm hpm_3919 hD
  refine W.eq (g2 := F0 m 617 ls [.int rr_3915]) rfl ?_
  refine lv_istore (lv' := [(7, .int rr_3915), (6, .int (nI ((q_bound (dC C) (sx9 xs (i9 + 1))).1))), (0, .ref b), (1, .ref d), (2, .ref m0), (3, .ref o), (4, .ref oD), (5, .int (nI i9))]) hx hb dL_law_617 hl (by decide) rfl (fun ls hl => ?_)
  refine lv_aload_n hx hb dL_law_619 rfl (lv_at hl 4 rfl) ?_
  have hpm_3920 : (([(oD, .inl (G.2 6, 1, .inr (.inr (.inr (.inl og))))), (o, .inl (G.2 5, 1, .inr (.inl of2_3908)))] ++ (W2_3909 ++ (W2_3916 ++ []))) : va_W).Perm ([] ++ ([(oD, .inl (G.2 6, 1, .inr (.inr (.inr (.inl og))))), (o, .inl (G.2 5, 1, .inr (.inl of2_3908)))] ++ (W2_3909 ++ (W2_3916 ++ [])))) := segs_perm [[(oD, .inl (G.2 6, 1, .inr (.inr (.inr (.inl og)))))], [(o, .inl (G.2 5, 1, .inr (.inl of2_3908)))], W2_3909, W2_3916] [] [0, 1, 2, 3] rfl
  have hF := hF_ofP (wc := []) hD hS hA hpm_3920
  refine go_ctP hS hP hD hpm_3920 hF
      (va_runV (As := []) (rest := []) cf (eX4_thrown l G m0 M (((q_bound (dC M) (sx9 xs (i9 + 1)))).1) W2_3916 (hq_3918) H.size) (cwV 0 hts (lw_V q1639 q1640 q1641 q58 q1642) rfl rfl rfl (by decide +kernel) ⟨Nat.le_of_ble_eq_true rfl, Nat.le_of_ble_eq_true rfl⟩) (preV_of hKB hE hS hF (MdW.recv hK hq_3918 (seg_at [[(oD, .inl (G.2 6, 1, .inr (.inr (.inr (.inl og)))))], [(o, .inl (G.2 5, 1, .inr (.inl of2_3908)))], W2_3909, W2_3916] 3 rfl hP)) (P_left (P_perm hpm_3920 hP)) ((D_left (D_perm hpm_3920 hD)).weaken (fun _ _ _ _ => trivial)) (roW.nil (seg_at [[(oD, .inl (G.2 6, 1, .inr (.inr (.inr (.inl og)))))], [(o, .inl (G.2 5, 1, .inr (.inl of2_3908)))], W2_3909, W2_3916] 3 rfl hP))) rfl rfl hl.1 rfl (lv_room (Nat.le_of_ble_eq_true rfl)) dL_law_620 ⟨show cl + 2 + 0 ≤ 1200144 from by first | decide | omega, show sl + 8 + 0 ≤ 5495674 from by first | decide | omega⟩)
      (fun u_ H locs hq hph (hP : va_P G.1 CL (([(oD, .inl (G.2 6, 1, .inr (.inr (.inr (.inl og))))), (o, .inl (G.2 5, 1, .inr (.inl of2_3908)))] ++ (W2_3909 ++ (W2_3916 ++ []))) ++ []) H) (hD : va_D A (([(oD, .inl (G.2 6, 1, .inr (.inr (.inr (.inl og))))), (o, .inl (G.2 5, 1, .inr (.inl of2_3908)))] ++ (W2_3909 ++ (W2_3916 ++ []))) ++ [])) hS hfz hfk => ?_)
  have hpm_3921 : (([(oD, .inl (G.2 6, 1, .inr (.inr (.inr (.inl og))))), (o, .inl (G.2 5, 1, .inr (.inl of2_3908)))] ++ (W2_3909 ++ (W2_3916 ++ []))) ++ [] : va_W).Perm ([(oD, .inl (G.2 6, 1, .inr (.inr (.inr (.inl og))))), (o, .inl (G.2 5, 1, .inr (.inl of2_3908)))] ++ (W2_3909 ++ (W2_3916 ++ []))) := segs_perm2 [[(oD, .inl (G.2 6, 1, .inr (.inr (.inr (.inl og)))))], [(o, .inl (G.2 5, 1, .inr (.inl of2_3908)))], W2_3909, W2_3916] [] [0, 1, 2, 3] rfl
  have hP : va_P G.1 CL ([(oD, .inl (G.2 6, 1, .inr (.inr (.inr (.inl og))))), (o, .inl (G.2 5, 1, .inr (.inl of2_3908)))] ++ (W2_3909 ++ (W2_3916 ++ []))) H := P_perm hpm_3921 hP
  have hD : va_D A ([(oD, .inl (G.2 6, 1, .inr (.inr (.inr (.inl og))))), (o, .inl (G.2 5, 1, .inr (.inl of2_3908)))] ++ (W2_3909 ++ (W2_3916 ++ []))) := D_perm hpm_3921 hD
  refine W.eq (g2 := F0 m 623 ls [.int (nI (((q_bound (dC M) (sx9 xs (i9 + 1)))).1))]) rfl ?_
  refine lv_ton (n := ((q_bound (dC C) (sx9 xs (i9 + 1))).1)) (congrArg nI (by rw [hqs])) ?_
  refine lv_iload hx hb dL_law_623 (lv_at hl 1 rfl) ?_
  refine lv_icmp_eq (tgt := 630) hx hb dL_law_625 (by decide) (fun _ => ?_) (fun c9 => absurd rfl c9)
  refine lv_iload hx hb dL_law_630 (lv_at hl 1 rfl) ?_
  refine n_if_ne (tgt := 647) hx hb (by omega) dL_law_632 (by decide) (fun c_3922 => ?_) (fun c_3922 => ?_)
  · refine lv_goto (tgt := 2788) hx hb dL_law_647 (by decide) ?_
    have hpm_3923 : (([(oD, .inl (G.2 6, 1, .inr (.inr (.inr (.inl og))))), (o, .inl (G.2 5, 1, .inr (.inl of2_3908)))] ++ (W2_3909 ++ (W2_3916 ++ []))) : va_W).Perm (([(o, .inl (G.2 5, 1, .inr (.inl of2_3908))), (oD, .inl (G.2 6, 1, .inr (.inr (.inr (.inl og)))))] ++ (W2_3909 ++ (W2_3916 ++ []))) ++ []) := segs_perm [[(oD, .inl (G.2 6, 1, .inr (.inr (.inr (.inl og)))))], [(o, .inl (G.2 5, 1, .inr (.inl of2_3908)))], W2_3909, W2_3916] [1, 0, 2, 3] [] rfl
    have hP : va_P G.1 CL ([(o, .inl (G.2 5, 1, .inr (.inl of2_3908))), (oD, .inl (G.2 6, 1, .inr (.inr (.inr (.inl og)))))] ++ (W2_3909 ++ (W2_3916 ++ []))) H := P_left (P_perm hpm_3923 hP)
    have hD : va_D A ([(o, .inl (G.2 5, 1, .inr (.inl of2_3908))), (oD, .inl (G.2 6, 1, .inr (.inr (.inr (.inl og)))))] ++ (W2_3909 ++ (W2_3916 ++ []))) := D_left (D_perm hpm_3923 hD)
    have hl := lv_sub hl [2, 3, 4, 5, 6, 7] (l' := [(0, .ref b), (1, .ref d), (2, .ref m0), (3, .ref o), (4, .ref oD), (5, .int (nI i9))]) rfl
    exact W.widen (show cl + 2 ≤ cl + 20000 from by omega) (show sl + 8 ≤ sl + 45000 from by omega) (kk ls H locs C M (((q_bound (dC M) (sx9 xs (i9 + 1)))).1) W2_3909 W2_3916 of2_3908 og hP hD hS hl hq_3912 hq_3918 hLw.up)
  · refine lv_aload_n hx hb dL_law_635 rfl (lv_at hl 5 rfl) ?_
    refine lv_iconst (v := nI 0) hx hb dL_law_636 (by decide) ?_
    refine r_lald (v := (((q_bound (dC C) (sx9 xs (i9 + 1)))).2).toInt64) hx hb hK hP 1 5 rfl rfl (i := 0) (by omega) (by omega) ((hq_3910 (by omega))) dL_law_637 ?_
    refine lv_iload hx hb dL_law_638 (lv_at hl 0 rfl) ?_
    refine lv_toi (y := ((q_bound (dC C) (sx9 xs (i9 + 1)))).2) ((hq_3917 (by rw [hqs]; omega)).trans (by rw [hqs])) ?_
    refine lv_i2l (v := (((q_bound (dC C) (sx9 xs (i9 + 1)))).2).toInt64) hx hb dL_law_640 rfl ?_
    refine W.lcmp hx hb dL_law_641 ?_
    refine lv_ton (n := 0) (lcmp0 _) ?_
    refine n_if_eq (tgt := 647) hx hb (by omega) dL_law_642 (by decide) (fun c_3924 => ?_) (fun c_3924 => absurd c_3924 (by omega))
    refine lv_goto (tgt := 2788) hx hb dL_law_647 (by decide) ?_
    have hpm_3925 : (([(oD, .inl (G.2 6, 1, .inr (.inr (.inr (.inl og))))), (o, .inl (G.2 5, 1, .inr (.inl of2_3908)))] ++ (W2_3909 ++ (W2_3916 ++ []))) : va_W).Perm (([(o, .inl (G.2 5, 1, .inr (.inl of2_3908))), (oD, .inl (G.2 6, 1, .inr (.inr (.inr (.inl og)))))] ++ (W2_3909 ++ (W2_3916 ++ []))) ++ []) := segs_perm [[(oD, .inl (G.2 6, 1, .inr (.inr (.inr (.inl og)))))], [(o, .inl (G.2 5, 1, .inr (.inl of2_3908)))], W2_3909, W2_3916] [1, 0, 2, 3] [] rfl
    have hP : va_P G.1 CL ([(o, .inl (G.2 5, 1, .inr (.inl of2_3908))), (oD, .inl (G.2 6, 1, .inr (.inr (.inr (.inl og)))))] ++ (W2_3909 ++ (W2_3916 ++ []))) H := P_left (P_perm hpm_3925 hP)
    have hD : va_D A ([(o, .inl (G.2 5, 1, .inr (.inl of2_3908))), (oD, .inl (G.2 6, 1, .inr (.inr (.inr (.inl og)))))] ++ (W2_3909 ++ (W2_3916 ++ []))) := D_left (D_perm hpm_3925 hD)
    have hl := lv_sub hl [2, 3, 4, 5, 6, 7] (l' := [(0, .ref b), (1, .ref d), (2, .ref m0), (3, .ref o), (4, .ref oD), (5, .int (nI i9))]) rfl
    exact W.widen (show cl + 2 ≤ cl + 20000 from by omega) (show sl + 8 ≤ sl + 45000 from by omega) (kk ls H locs C M (((q_bound (dC M) (sx9 xs (i9 + 1)))).1) W2_3909 W2_3916 of2_3908 og hP hD hS hl hq_3912 hq_3918 hLw.up)

set_option maxHeartbeats 4000000 in
theorem lawK_8 {p : Program} {l : Launch} {e : Env} {s : State} {m : MethodId} {below : List Frame} {meth : Method} {c : Code} {G : Gt} {A : Nat → Prop} {b L : Nat} {xs : Nat → Int32} {Q : State → Prop} {d m0 o oD i9 N cl sl : Nat} (hfl : l.stackTraces = false) (F : LwF G A p s m c b L xs) (hi9 : i9 + 4 ≤ L) (hN24 : N ≤ 24) (hcl : cl + 20000 ≤ 1200144) (hsl : sl + 45000 ≤ 5495674) (kk : ∀ (ls : Array Slot) (H : Heap) (locs : List Loc) (C M : DS) (th : Nat) (WD WM : va_W) (of : Nat → Int64) (og : Nat → UInt64), va_P G.1 CL ([(o, .inl (G.2 5, 1, .inr (.inl of))), (oD, .inl (G.2 6, 1, .inr (.inr (.inr (.inl og)))))] ++ (WD ++ (WM ++ []))) H → va_D A ([(o, .inl (G.2 5, 1, .inr (.inl of))), (oD, .inl (G.2 6, 1, .inr (.inr (.inr (.inl og)))))] ++ (WD ++ (WM ++ []))) → va_S A s.heap H locs → lv_has ls 10 [(0, .ref b), (1, .ref d), (2, .ref m0), (3, .ref o), (4, .ref oD), (5, .int (nI i9))] → DyW G d C WD → MdW G m0 M th WM → LawI C M (N + 1) → W p l e room_1 s m #[Value.ref b] below meth c H locs (cl + 20000) (sl + 45000) Q (F0 m 2788 ls [])) {ls : Array Slot} {H : Heap} {locs : List Loc} {C M : DS} {th : Nat} {WD WM : va_W} {of : Nat → Int64} {og : Nat → UInt64} (hP : va_P G.1 CL ([(o, .inl (G.2 5, 1, .inr (.inl of))), (oD, .inl (G.2 6, 1, .inr (.inr (.inr (.inl og)))))] ++ (WD ++ (WM ++ []))) H) (hD : va_D A ([(o, .inl (G.2 5, 1, .inr (.inl of))), (oD, .inl (G.2 6, 1, .inr (.inr (.inr (.inl og)))))] ++ (WD ++ (WM ++ [])))) (hS : va_S A s.heap H locs) (hl : lv_has ls 10 [(0, .ref b), (1, .ref d), (2, .ref m0), (3, .ref o), (4, .ref oD), (5, .int (nI i9))]) (hDy : DyW G d C WD) (hMd : MdW G m0 M th WM) (hLw : LawI C M N) : W p l e room_1 s m #[Value.ref b] below meth c H locs cl sl Q (F0 m 650 ls []) := by
  obtain ⟨cf, hKB, hE, hA, hX9, hbl, hbA, hNc, hL96⟩ := F
  have hx := cf.1
  have hb := cf.2.1
  have hml := cf.2.2.1
  have hown : s.vm.findClass RX0 = some m.cls := cf.2.2.2.1
  have hts := cf.2.2.2.2
  have hK := hKB.1
  have hIc := hDy.inv.1
  have hIm : Inv (dC M) := Inv_sim hLw.1 hIc
  have hRk : RkOk (dC M) := RkOk_sim hLw.1 (RkOk_srt hDy.inv.2.2)
  have hl := hl
  refine lv_aload_n hx hb dL_law_650 rfl (lv_at hl 1 rfl) ?_
  refine lv_aload_n hx hb dL_law_651 rfl (lv_at hl 0 rfl) ?_
  refine lv_iload hx hb dL_law_652 (lv_at hl 5 rfl) ?_
  refine lv_iconst (v := nI 1) hx hb dL_law_654 (by decide) ?_
  refine lv_iadd hx hb dL_law_655 ?_
  refine lv_ton (n := i9 + 1) (nadd (by omega)) ?_
  refine va_sld hx hb hX9 hbl hbA hS (i := nI (i9 + 1)) (vp9 (by omega) hL96) dL_law_656 ?_
  refine W.eq (g2 := F0 m 657 ls [.int (sx9 xs (i9 + 1)), .ref d]) rfl ?_
  refine lv_aload_n hx hb dL_law_657 rfl (lv_at hl 0 rfl) ?_
  refine lv_iload hx hb dL_law_658 (lv_at hl 5 rfl) ?_
  refine lv_iconst (v := nI 2) hx hb dL_law_660 (by decide) ?_
  refine lv_iadd hx hb dL_law_661 ?_
  refine lv_ton (n := i9 + 2) (nadd (by omega)) ?_
  refine va_sld hx hb hX9 hbl hbA hS (i := nI (i9 + 2)) (vp9 (by omega) hL96) dL_law_662 ?_
  refine W.eq (g2 := F0 m 663 ls [.int (sx9 xs (i9 + 2)), .int (sx9 xs (i9 + 1)), .ref d]) rfl ?_
  refine lv_aload_n hx hb dL_law_663 rfl (lv_at hl 3 rfl) ?_
  have hpm_3926 : (([(o, .inl (G.2 5, 1, .inr (.inl of))), (oD, .inl (G.2 6, 1, .inr (.inr (.inr (.inl og)))))] ++ (WD ++ (WM ++ []))) : va_W).Perm (([(o, .inl (G.2 5, 1, .inr (.inl of)))] ++ (WD ++ [])) ++ ([(oD, .inl (G.2 6, 1, .inr (.inr (.inr (.inl og)))))] ++ (WM ++ []))) := segs_perm [[(o, .inl (G.2 5, 1, .inr (.inl of)))], [(oD, .inl (G.2 6, 1, .inr (.inr (.inr (.inl og)))))], WD, WM] [0, 2] [1, 3] rfl
  have hF := hF_ofP (wc := ([(o, .inl (G.2 5, 1, .inr (.inl of)))] ++ (WD ++ []))) hD hS hA hpm_3926
  refine go_ctP hS hP hD hpm_3926 hF
      (vx_runSW (As := [.ref d, .int (sx9 xs (i9 + 1)), .int (sx9 xs (i9 + 2)), .ref o]) (rest := []) cf (wX0_setWeight l G d C WD o of (sx9 xs (i9 + 1)) (sx9 xs (i9 + 2)) (hDy) hfl H.size) (vx_cwSW 4 hts (lw_SW q1063 q1064 q46 q1065) rfl rfl rfl (by decide +kernel) ⟨Nat.le_of_ble_eq_true rfl, Nat.le_of_ble_eq_true rfl⟩) (preS_ofW hNc hKB hE hS hF (P_left (P_perm hpm_3926 hP)) ((D_left (D_perm hpm_3926 hD)).weaken (fun _ _ _ _ => trivial)) trivial) rfl rfl hl.1 rfl (lv_room (Nat.le_of_ble_eq_true rfl)) dL_law_664 ⟨show cl + (1 + 101) ≤ 1200144 from by first | decide | omega, show sl + (6 + 5800) ≤ 5495674 from by first | decide | omega⟩)
      (fun u_ H locs hq hph (hP : va_P G.1 CL (([(oD, .inl (G.2 6, 1, .inr (.inr (.inr (.inl og)))))] ++ (WM ++ [])) ++ ([(o, .inl (G.2 5, 1, .inr (.inl u_.1)))] ++ (u_.2.2 ++ []))) H) (hD : va_D A (([(oD, .inl (G.2 6, 1, .inr (.inr (.inr (.inl og)))))] ++ (WM ++ [])) ++ ([(o, .inl (G.2 5, 1, .inr (.inl u_.1)))] ++ (u_.2.2 ++ [])))) hS hfz hfk => ?_)
  obtain ⟨of2_3927, S2_3928, W2_3929⟩ := u_
  obtain ⟨hq_3930, hq_3931, hq_3932, hq_3933⟩ : ((o_setWeight (dC C) (sx9 xs (i9 + 1)) (sx9 xs (i9 + 2))).1 = 0 → of2_3927 0 = ((o_setWeight (dC C) (sx9 xs (i9 + 1)) (sx9 xs (i9 + 2))).2.1).toInt64) ∧ NxS C (o_setWeight (dC C) (sx9 xs (i9 + 1)) (sx9 xs (i9 + 2))) S2_3928 ∧ (o_setWeight (dC C) (sx9 xs (i9 + 1)) (sx9 xs (i9 + 2))).1 < 10 ∧ DyW G d S2_3928 W2_3929 := hq
  have hpm_3934 : (([(oD, .inl (G.2 6, 1, .inr (.inr (.inr (.inl og)))))] ++ (WM ++ [])) ++ ([(o, .inl (G.2 5, 1, .inr (.inl of2_3927)))] ++ (W2_3929 ++ [])) : va_W).Perm ([(oD, .inl (G.2 6, 1, .inr (.inr (.inr (.inl og))))), (o, .inl (G.2 5, 1, .inr (.inl of2_3927)))] ++ (WM ++ (W2_3929 ++ []))) := segs_perm2 [[(oD, .inl (G.2 6, 1, .inr (.inr (.inr (.inl og)))))], WM] [[(o, .inl (G.2 5, 1, .inr (.inl of2_3927)))], W2_3929] [0, 2, 1, 3] rfl
  have hP : va_P G.1 CL ([(oD, .inl (G.2 6, 1, .inr (.inr (.inr (.inl og))))), (o, .inl (G.2 5, 1, .inr (.inl of2_3927)))] ++ (WM ++ (W2_3929 ++ []))) H := P_perm hpm_3934 hP
  have hD : va_D A ([(oD, .inl (G.2 6, 1, .inr (.inr (.inr (.inl og))))), (o, .inl (G.2 5, 1, .inr (.inl of2_3927)))] ++ (WM ++ (W2_3929 ++ []))) := D_perm hpm_3934 hD
  refine W.eq (g2 := F0 m 667 ls [.int (nI ((o_setWeight (dC C) (sx9 xs (i9 + 1)) (sx9 xs (i9 + 2))).1))]) rfl ?_
  have hqs : SimR (o_setWeight (dC C) (sx9 xs (i9 + 1)) (sx9 xs (i9 + 2))) (o_setWeight (dC M) (sx9 xs (i9 + 1)) (sx9 xs (i9 + 2))) := o_setWeight_sim hLw.1 hIc (sx9 xs (i9 + 1)) (sx9 xs (i9 + 2))
  refine lv_istore (lv' := [(6, .int (nI ((o_setWeight (dC C) (sx9 xs (i9 + 1)) (sx9 xs (i9 + 2))).1))), (0, .ref b), (1, .ref d), (2, .ref m0), (3, .ref o), (4, .ref oD), (5, .int (nI i9))]) hx hb dL_law_667 hl (by decide) rfl (fun ls hl => ?_)
  refine lv_aload_n hx hb dL_law_669 rfl (lv_at hl 3 rfl) ?_
  refine lv_aload_n hx hb dL_law_670 rfl (lv_at hl 1 rfl) ?_
  refine lv_iload hx hb dL_law_671 (lv_at hl 6 rfl) ?_
  refine lv_iconst (v := nI 1) hx hb dL_law_673 (by decide) ?_
  refine lv_iadd hx hb dL_law_674 ?_
  refine lv_ton (n := i9 + 1) (nadd (by omega)) ?_
  refine va_sld hx hb hX9 hbl hbA hS (i := nI (i9 + 1)) (vp9 (by omega) hL96) dL_law_675 ?_
  refine W.eq (g2 := F0 m 676 ls [.int (sx9 xs (i9 + 1)), .ref m0]) rfl ?_
  refine lv_aload_n hx hb dL_law_676 rfl (lv_at hl 1 rfl) ?_
  refine lv_iload hx hb dL_law_677 (lv_at hl 6 rfl) ?_
  refine lv_iconst (v := nI 2) hx hb dL_law_679 (by decide) ?_
  refine lv_iadd hx hb dL_law_680 ?_
  refine lv_ton (n := i9 + 2) (nadd (by omega)) ?_
  refine va_sld hx hb hX9 hbl hbA hS (i := nI (i9 + 2)) (vp9 (by omega) hL96) dL_law_681 ?_
  refine W.eq (g2 := F0 m 682 ls [.int (sx9 xs (i9 + 2)), .int (sx9 xs (i9 + 1)), .ref m0]) rfl ?_
  have hpm_3935 : (([(oD, .inl (G.2 6, 1, .inr (.inr (.inr (.inl og))))), (o, .inl (G.2 5, 1, .inr (.inl of2_3927)))] ++ (WM ++ (W2_3929 ++ []))) : va_W).Perm ((WM ++ []) ++ ([(oD, .inl (G.2 6, 1, .inr (.inr (.inr (.inl og))))), (o, .inl (G.2 5, 1, .inr (.inl of2_3927)))] ++ (W2_3929 ++ []))) := segs_perm [[(oD, .inl (G.2 6, 1, .inr (.inr (.inr (.inl og)))))], [(o, .inl (G.2 5, 1, .inr (.inl of2_3927)))], WM, W2_3929] [2] [0, 1, 3] rfl
  have hF := hF_ofP (wc := (WM ++ [])) hD hS hA hpm_3935
  refine go_ctP hS hP hD hpm_3935 hF
      (va_runV (As := [.int (sx9 xs (i9 + 1)), .int (sx9 xs (i9 + 2))]) (rest := []) cf (eX4_setWeight l G m0 M th WM (sx9 xs (i9 + 1)) (sx9 xs (i9 + 2)) (hMd) (hIm) H.size) (cwV 2 hts (lw_V q1719 q1720 q1721 q58 q1722) rfl rfl rfl (by decide +kernel) ⟨Nat.le_of_ble_eq_true rfl, Nat.le_of_ble_eq_true rfl⟩) (preV_of hKB hE hS hF (MdW.recv hK hMd (seg_at [[(oD, .inl (G.2 6, 1, .inr (.inr (.inr (.inl og)))))], [(o, .inl (G.2 5, 1, .inr (.inl of2_3927)))], WM, W2_3929] 2 rfl hP)) (P_left (P_perm hpm_3935 hP)) ((D_left (D_perm hpm_3935 hD)).weaken (fun _ _ _ _ => trivial)) trivial) rfl rfl hl.1 rfl (lv_room (Nat.le_of_ble_eq_true rfl)) dL_law_682 ⟨show cl + (1 + 101) + 0 ≤ 1200144 from by first | decide | omega, show sl + (6 + 5800) + 0 ≤ 5495674 from by first | decide | omega⟩)
      (fun u_ H locs hq hph (hP : va_P G.1 CL (([(oD, .inl (G.2 6, 1, .inr (.inr (.inr (.inl og))))), (o, .inl (G.2 5, 1, .inr (.inl of2_3927)))] ++ (W2_3929 ++ [])) ++ (u_.2 ++ [])) H) (hD : va_D A (([(oD, .inl (G.2 6, 1, .inr (.inr (.inr (.inl og))))), (o, .inl (G.2 5, 1, .inr (.inl of2_3927)))] ++ (W2_3929 ++ [])) ++ (u_.2 ++ []))) hS hfz hfk => ?_)
  obtain ⟨rr_3936, W2_3937⟩ := u_
  obtain ⟨hq_3938, hq_3939⟩ : ((o_setWeight (dC M) (sx9 xs (i9 + 1)) (sx9 xs (i9 + 2))).1 = 0 → rr_3936 = (o_setWeight (dC M) (sx9 xs (i9 + 1)) (sx9 xs (i9 + 2))).2.1) ∧ MdW G m0 (if (o_setWeight (dC M) (sx9 xs (i9 + 1)) (sx9 xs (i9 + 2))).1 = 0 then (((o_setWeight (dC M) (sx9 xs (i9 + 1)) (sx9 xs (i9 + 2))).2.2, dS M, min 6 (dK M + 1), hsR (dH M) (dK M) (dC M), dL M, dN M) : DS) else M) (o_setWeight (dC M) (sx9 xs (i9 + 1)) (sx9 xs (i9 + 2))).1 W2_3937 := hq
  have hpm_3940 : (([(oD, .inl (G.2 6, 1, .inr (.inr (.inr (.inl og))))), (o, .inl (G.2 5, 1, .inr (.inl of2_3927)))] ++ (W2_3929 ++ [])) ++ (W2_3937 ++ []) : va_W).Perm ([(oD, .inl (G.2 6, 1, .inr (.inr (.inr (.inl og))))), (o, .inl (G.2 5, 1, .inr (.inl of2_3927)))] ++ (W2_3929 ++ (W2_3937 ++ []))) := segs_perm2 [[(oD, .inl (G.2 6, 1, .inr (.inr (.inr (.inl og)))))], [(o, .inl (G.2 5, 1, .inr (.inl of2_3927)))], W2_3929] [W2_3937] [0, 1, 2, 3] rfl
  have hP : va_P G.1 CL ([(oD, .inl (G.2 6, 1, .inr (.inr (.inr (.inl og))))), (o, .inl (G.2 5, 1, .inr (.inl of2_3927)))] ++ (W2_3929 ++ (W2_3937 ++ []))) H := P_perm hpm_3940 hP
  have hD : va_D A ([(oD, .inl (G.2 6, 1, .inr (.inr (.inr (.inl og))))), (o, .inl (G.2 5, 1, .inr (.inl of2_3927)))] ++ (W2_3929 ++ (W2_3937 ++ []))) := D_perm hpm_3940 hD
  refine W.eq (g2 := F0 m 685 ls [.int rr_3936]) rfl ?_
  refine lv_istore (lv' := [(7, .int rr_3936), (6, .int (nI ((o_setWeight (dC C) (sx9 xs (i9 + 1)) (sx9 xs (i9 + 2))).1))), (0, .ref b), (1, .ref d), (2, .ref m0), (3, .ref o), (4, .ref oD), (5, .int (nI i9))]) hx hb dL_law_685 hl (by decide) rfl (fun ls hl => ?_)
  refine lv_aload_n hx hb dL_law_687 rfl (lv_at hl 4 rfl) ?_
  have hpm_3941 : (([(oD, .inl (G.2 6, 1, .inr (.inr (.inr (.inl og))))), (o, .inl (G.2 5, 1, .inr (.inl of2_3927)))] ++ (W2_3929 ++ (W2_3937 ++ []))) : va_W).Perm ([] ++ ([(oD, .inl (G.2 6, 1, .inr (.inr (.inr (.inl og))))), (o, .inl (G.2 5, 1, .inr (.inl of2_3927)))] ++ (W2_3929 ++ (W2_3937 ++ [])))) := segs_perm [[(oD, .inl (G.2 6, 1, .inr (.inr (.inr (.inl og)))))], [(o, .inl (G.2 5, 1, .inr (.inl of2_3927)))], W2_3929, W2_3937] [] [0, 1, 2, 3] rfl
  have hF := hF_ofP (wc := []) hD hS hA hpm_3941
  refine go_ctP hS hP hD hpm_3941 hF
      (va_runV (As := []) (rest := []) cf (eX4_thrown l G m0 (if ((o_setWeight (dC M) (sx9 xs (i9 + 1)) (sx9 xs (i9 + 2)))).1 = 0 then ((((o_setWeight (dC M) (sx9 xs (i9 + 1)) (sx9 xs (i9 + 2)))).2.2, dS M, min 6 (dK M + 1), hsR (dH M) (dK M) (dC M), dL M, dN M) : DS) else M) (((o_setWeight (dC M) (sx9 xs (i9 + 1)) (sx9 xs (i9 + 2)))).1) W2_3937 (hq_3939) H.size) (cwV 0 hts (lw_V q1639 q1640 q1641 q58 q1642) rfl rfl rfl (by decide +kernel) ⟨Nat.le_of_ble_eq_true rfl, Nat.le_of_ble_eq_true rfl⟩) (preV_of hKB hE hS hF (MdW.recv hK hq_3939 (seg_at [[(oD, .inl (G.2 6, 1, .inr (.inr (.inr (.inl og)))))], [(o, .inl (G.2 5, 1, .inr (.inl of2_3927)))], W2_3929, W2_3937] 3 rfl hP)) (P_left (P_perm hpm_3941 hP)) ((D_left (D_perm hpm_3941 hD)).weaken (fun _ _ _ _ => trivial)) (roW.nil (seg_at [[(oD, .inl (G.2 6, 1, .inr (.inr (.inr (.inl og)))))], [(o, .inl (G.2 5, 1, .inr (.inl of2_3927)))], W2_3929, W2_3937] 3 rfl hP))) rfl rfl hl.1 rfl (lv_room (Nat.le_of_ble_eq_true rfl)) dL_law_688 ⟨show cl + (1 + 101) + 0 ≤ 1200144 from by first | decide | omega, show sl + (6 + 5800) + 0 ≤ 5495674 from by first | decide | omega⟩)
      (fun u_ H locs hq hph (hP : va_P G.1 CL (([(oD, .inl (G.2 6, 1, .inr (.inr (.inr (.inl og))))), (o, .inl (G.2 5, 1, .inr (.inl of2_3927)))] ++ (W2_3929 ++ (W2_3937 ++ []))) ++ []) H) (hD : va_D A (([(oD, .inl (G.2 6, 1, .inr (.inr (.inr (.inl og))))), (o, .inl (G.2 5, 1, .inr (.inl of2_3927)))] ++ (W2_3929 ++ (W2_3937 ++ []))) ++ [])) hS hfz hfk => ?_)
  have hpm_3942 : (([(oD, .inl (G.2 6, 1, .inr (.inr (.inr (.inl og))))), (o, .inl (G.2 5, 1, .inr (.inl of2_3927)))] ++ (W2_3929 ++ (W2_3937 ++ []))) ++ [] : va_W).Perm ([(oD, .inl (G.2 6, 1, .inr (.inr (.inr (.inl og))))), (o, .inl (G.2 5, 1, .inr (.inl of2_3927)))] ++ (W2_3929 ++ (W2_3937 ++ []))) := segs_perm2 [[(oD, .inl (G.2 6, 1, .inr (.inr (.inr (.inl og)))))], [(o, .inl (G.2 5, 1, .inr (.inl of2_3927)))], W2_3929, W2_3937] [] [0, 1, 2, 3] rfl
  have hP : va_P G.1 CL ([(oD, .inl (G.2 6, 1, .inr (.inr (.inr (.inl og))))), (o, .inl (G.2 5, 1, .inr (.inl of2_3927)))] ++ (W2_3929 ++ (W2_3937 ++ []))) H := P_perm hpm_3942 hP
  have hD : va_D A ([(oD, .inl (G.2 6, 1, .inr (.inr (.inr (.inl og))))), (o, .inl (G.2 5, 1, .inr (.inl of2_3927)))] ++ (W2_3929 ++ (W2_3937 ++ []))) := D_perm hpm_3942 hD
  refine W.eq (g2 := F0 m 691 ls [.int (nI (((o_setWeight (dC M) (sx9 xs (i9 + 1)) (sx9 xs (i9 + 2)))).1))]) rfl ?_
  refine lv_ton (n := ((o_setWeight (dC C) (sx9 xs (i9 + 1)) (sx9 xs (i9 + 2))).1)) (congrArg nI hqs.1.symm) ?_
  refine lv_iload hx hb dL_law_691 (lv_at hl 1 rfl) ?_
  refine lv_icmp_eq (tgt := 698) hx hb dL_law_693 (by decide) (fun _ => ?_) (fun c9 => absurd rfl c9)
  refine lv_iload hx hb dL_law_698 (lv_at hl 1 rfl) ?_
  refine n_if_ne (tgt := 715) hx hb (by omega) dL_law_700 (by decide) (fun c_3943 => ?_) (fun c_3943 => ?_)
  · refine lv_goto (tgt := 2788) hx hb dL_law_715 (by decide) ?_
    have hpm_3944 : (([(oD, .inl (G.2 6, 1, .inr (.inr (.inr (.inl og))))), (o, .inl (G.2 5, 1, .inr (.inl of2_3927)))] ++ (W2_3929 ++ (W2_3937 ++ []))) : va_W).Perm (([(o, .inl (G.2 5, 1, .inr (.inl of2_3927))), (oD, .inl (G.2 6, 1, .inr (.inr (.inr (.inl og)))))] ++ (W2_3929 ++ (W2_3937 ++ []))) ++ []) := segs_perm [[(oD, .inl (G.2 6, 1, .inr (.inr (.inr (.inl og)))))], [(o, .inl (G.2 5, 1, .inr (.inl of2_3927)))], W2_3929, W2_3937] [1, 0, 2, 3] [] rfl
    have hP : va_P G.1 CL ([(o, .inl (G.2 5, 1, .inr (.inl of2_3927))), (oD, .inl (G.2 6, 1, .inr (.inr (.inr (.inl og)))))] ++ (W2_3929 ++ (W2_3937 ++ []))) H := P_left (P_perm hpm_3944 hP)
    have hD : va_D A ([(o, .inl (G.2 5, 1, .inr (.inl of2_3927))), (oD, .inl (G.2 6, 1, .inr (.inr (.inr (.inl og)))))] ++ (W2_3929 ++ (W2_3937 ++ []))) := D_left (D_perm hpm_3944 hD)
    have hl := lv_sub hl [2, 3, 4, 5, 6, 7] (l' := [(0, .ref b), (1, .ref d), (2, .ref m0), (3, .ref o), (4, .ref oD), (5, .int (nI i9))]) rfl
    exact W.widen (show cl + (1 + 101) ≤ cl + 20000 from by omega) (show sl + (6 + 5800) ≤ sl + 45000 from by omega) (kk ls H locs S2_3928 (if ((o_setWeight (dC M) (sx9 xs (i9 + 1)) (sx9 xs (i9 + 2)))).1 = 0 then ((((o_setWeight (dC M) (sx9 xs (i9 + 1)) (sx9 xs (i9 + 2)))).2.2, dS M, min 6 (dK M + 1), hsR (dH M) (dK M) (dC M), dL M, dN M) : DS) else M) (((o_setWeight (dC M) (sx9 xs (i9 + 1)) (sx9 xs (i9 + 2)))).1) W2_3929 W2_3937 of2_3927 og hP hD hS hl hq_3933 hq_3939 (hLw.mut hqs hq_3931 (o_setWeight_b (dC C) (sx9 xs (i9 + 1)) (sx9 xs (i9 + 2)))))
  · refine lv_aload_n hx hb dL_law_703 rfl (lv_at hl 5 rfl) ?_
    refine lv_iconst (v := nI 0) hx hb dL_law_704 (by decide) ?_
    refine r_lald (v := (((o_setWeight (dC C) (sx9 xs (i9 + 1)) (sx9 xs (i9 + 2)))).2.1).toInt64) hx hb hK hP 1 5 rfl rfl (i := 0) (by omega) (by omega) ((hq_3930 (by omega))) dL_law_705 ?_
    refine lv_iload hx hb dL_law_706 (lv_at hl 0 rfl) ?_
    refine lv_toi (y := ((o_setWeight (dC C) (sx9 xs (i9 + 1)) (sx9 xs (i9 + 2)))).2.1) ((hq_3938 (hqs.1.symm.trans (by omega))).trans hqs.2.1.symm) ?_
    refine lv_i2l (v := (((o_setWeight (dC C) (sx9 xs (i9 + 1)) (sx9 xs (i9 + 2)))).2.1).toInt64) hx hb dL_law_708 rfl ?_
    refine W.lcmp hx hb dL_law_709 ?_
    refine lv_ton (n := 0) (lcmp0 _) ?_
    refine n_if_eq (tgt := 715) hx hb (by omega) dL_law_710 (by decide) (fun c_3945 => ?_) (fun c_3945 => absurd c_3945 (by omega))
    refine lv_goto (tgt := 2788) hx hb dL_law_715 (by decide) ?_
    have hpm_3946 : (([(oD, .inl (G.2 6, 1, .inr (.inr (.inr (.inl og))))), (o, .inl (G.2 5, 1, .inr (.inl of2_3927)))] ++ (W2_3929 ++ (W2_3937 ++ []))) : va_W).Perm (([(o, .inl (G.2 5, 1, .inr (.inl of2_3927))), (oD, .inl (G.2 6, 1, .inr (.inr (.inr (.inl og)))))] ++ (W2_3929 ++ (W2_3937 ++ []))) ++ []) := segs_perm [[(oD, .inl (G.2 6, 1, .inr (.inr (.inr (.inl og)))))], [(o, .inl (G.2 5, 1, .inr (.inl of2_3927)))], W2_3929, W2_3937] [1, 0, 2, 3] [] rfl
    have hP : va_P G.1 CL ([(o, .inl (G.2 5, 1, .inr (.inl of2_3927))), (oD, .inl (G.2 6, 1, .inr (.inr (.inr (.inl og)))))] ++ (W2_3929 ++ (W2_3937 ++ []))) H := P_left (P_perm hpm_3946 hP)
    have hD : va_D A ([(o, .inl (G.2 5, 1, .inr (.inl of2_3927))), (oD, .inl (G.2 6, 1, .inr (.inr (.inr (.inl og)))))] ++ (W2_3929 ++ (W2_3937 ++ []))) := D_left (D_perm hpm_3946 hD)
    have hl := lv_sub hl [2, 3, 4, 5, 6, 7] (l' := [(0, .ref b), (1, .ref d), (2, .ref m0), (3, .ref o), (4, .ref oD), (5, .int (nI i9))]) rfl
    exact W.widen (show cl + (1 + 101) ≤ cl + 20000 from by omega) (show sl + (6 + 5800) ≤ sl + 45000 from by omega) (kk ls H locs S2_3928 (if ((o_setWeight (dC M) (sx9 xs (i9 + 1)) (sx9 xs (i9 + 2)))).1 = 0 then ((((o_setWeight (dC M) (sx9 xs (i9 + 1)) (sx9 xs (i9 + 2)))).2.2, dS M, min 6 (dK M + 1), hsR (dH M) (dK M) (dC M), dL M, dN M) : DS) else M) (((o_setWeight (dC M) (sx9 xs (i9 + 1)) (sx9 xs (i9 + 2)))).1) W2_3929 W2_3937 of2_3927 og hP hD hS hl hq_3933 hq_3939 (hLw.mut hqs hq_3931 (o_setWeight_b (dC C) (sx9 xs (i9 + 1)) (sx9 xs (i9 + 2)))))

set_option maxHeartbeats 4000000 in
theorem lawK_9 {p : Program} {l : Launch} {e : Env} {s : State} {m : MethodId} {below : List Frame} {meth : Method} {c : Code} {G : Gt} {A : Nat → Prop} {b L : Nat} {xs : Nat → Int32} {Q : State → Prop} {d m0 o oD i9 N cl sl : Nat} (hfl : l.stackTraces = false) (F : LwF G A p s m c b L xs) (hi9 : i9 + 4 ≤ L) (hN24 : N ≤ 24) (hcl : cl + 20000 ≤ 1200144) (hsl : sl + 45000 ≤ 5495674) (kk : ∀ (ls : Array Slot) (H : Heap) (locs : List Loc) (C M : DS) (th : Nat) (WD WM : va_W) (of : Nat → Int64) (og : Nat → UInt64), va_P G.1 CL ([(o, .inl (G.2 5, 1, .inr (.inl of))), (oD, .inl (G.2 6, 1, .inr (.inr (.inr (.inl og)))))] ++ (WD ++ (WM ++ []))) H → va_D A ([(o, .inl (G.2 5, 1, .inr (.inl of))), (oD, .inl (G.2 6, 1, .inr (.inr (.inr (.inl og)))))] ++ (WD ++ (WM ++ []))) → va_S A s.heap H locs → lv_has ls 10 [(0, .ref b), (1, .ref d), (2, .ref m0), (3, .ref o), (4, .ref oD), (5, .int (nI i9))] → DyW G d C WD → MdW G m0 M th WM → LawI C M (N + 1) → W p l e room_1 s m #[Value.ref b] below meth c H locs (cl + 20000) (sl + 45000) Q (F0 m 2788 ls [])) {ls : Array Slot} {H : Heap} {locs : List Loc} {C M : DS} {th : Nat} {WD WM : va_W} {of : Nat → Int64} {og : Nat → UInt64} (hP : va_P G.1 CL ([(o, .inl (G.2 5, 1, .inr (.inl of))), (oD, .inl (G.2 6, 1, .inr (.inr (.inr (.inl og)))))] ++ (WD ++ (WM ++ []))) H) (hD : va_D A ([(o, .inl (G.2 5, 1, .inr (.inl of))), (oD, .inl (G.2 6, 1, .inr (.inr (.inr (.inl og)))))] ++ (WD ++ (WM ++ [])))) (hS : va_S A s.heap H locs) (hl : lv_has ls 10 [(0, .ref b), (1, .ref d), (2, .ref m0), (3, .ref o), (4, .ref oD), (5, .int (nI i9))]) (hDy : DyW G d C WD) (hMd : MdW G m0 M th WM) (hLw : LawI C M N) : W p l e room_1 s m #[Value.ref b] below meth c H locs cl sl Q (F0 m 718 ls []) := by
  obtain ⟨cf, hKB, hE, hA, hX9, hbl, hbA, hNc, hL96⟩ := F
  have hx := cf.1
  have hb := cf.2.1
  have hml := cf.2.2.1
  have hown : s.vm.findClass RX0 = some m.cls := cf.2.2.2.1
  have hts := cf.2.2.2.2
  have hK := hKB.1
  have hIc := hDy.inv.1
  have hIm : Inv (dC M) := Inv_sim hLw.1 hIc
  have hRk : RkOk (dC M) := RkOk_sim hLw.1 (RkOk_srt hDy.inv.2.2)
  have hl := hl
  refine lv_aload_n hx hb dL_law_718 rfl (lv_at hl 1 rfl) ?_
  refine lv_aload_n hx hb dL_law_719 rfl (lv_at hl 0 rfl) ?_
  refine lv_iload hx hb dL_law_720 (lv_at hl 5 rfl) ?_
  refine lv_iconst (v := nI 1) hx hb dL_law_722 (by decide) ?_
  refine lv_iadd hx hb dL_law_723 ?_
  refine lv_ton (n := i9 + 1) (nadd (by omega)) ?_
  refine va_sld hx hb hX9 hbl hbA hS (i := nI (i9 + 1)) (vp9 (by omega) hL96) dL_law_724 ?_
  refine W.eq (g2 := F0 m 725 ls [.int (sx9 xs (i9 + 1)), .ref d]) rfl ?_
  refine lv_aload_n hx hb dL_law_725 rfl (lv_at hl 3 rfl) ?_
  have hpm_3947 : (([(o, .inl (G.2 5, 1, .inr (.inl of))), (oD, .inl (G.2 6, 1, .inr (.inr (.inr (.inl og)))))] ++ (WD ++ (WM ++ []))) : va_W).Perm (([(o, .inl (G.2 5, 1, .inr (.inl of)))] ++ (WD ++ [])) ++ ([(oD, .inl (G.2 6, 1, .inr (.inr (.inr (.inl og)))))] ++ (WM ++ []))) := segs_perm [[(o, .inl (G.2 5, 1, .inr (.inl of)))], [(oD, .inl (G.2 6, 1, .inr (.inr (.inr (.inl og)))))], WD, WM] [0, 2] [1, 3] rfl
  have hF := hF_ofP (wc := ([(o, .inl (G.2 5, 1, .inr (.inl of)))] ++ (WD ++ []))) hD hS hA hpm_3947
  refine go_ctP hS hP hD hpm_3947 hF
      (vx_runSW (As := [.ref d, .int (sx9 xs (i9 + 1)), .ref o]) (rest := []) cf (wX0_weightOf l G d C WD o of (sx9 xs (i9 + 1)) (hDy) hfl H.size) (vx_cwSW 3 hts (lw_SW q1074 q1075 q46 q1076) rfl rfl rfl (by decide +kernel) ⟨Nat.le_of_ble_eq_true rfl, Nat.le_of_ble_eq_true rfl⟩) (preS_ofW hNc hKB hE hS hF (P_left (P_perm hpm_3947 hP)) ((D_left (D_perm hpm_3947 hD)).weaken (fun _ _ _ _ => trivial)) trivial) rfl rfl hl.1 rfl (lv_room (Nat.le_of_ble_eq_true rfl)) dL_law_726 ⟨show cl + 2 ≤ 1200144 from by first | decide | omega, show sl + 8 ≤ 5495674 from by first | decide | omega⟩)
      (fun u_ H locs hq hph (hP : va_P G.1 CL (([(oD, .inl (G.2 6, 1, .inr (.inr (.inr (.inl og)))))] ++ (WM ++ [])) ++ ([(o, .inl (G.2 5, 1, .inr (.inl u_.1)))] ++ (u_.2 ++ []))) H) (hD : va_D A (([(oD, .inl (G.2 6, 1, .inr (.inr (.inr (.inl og)))))] ++ (WM ++ [])) ++ ([(o, .inl (G.2 5, 1, .inr (.inl u_.1)))] ++ (u_.2 ++ [])))) hS hfz hfk => ?_)
  obtain ⟨of2_3948, W2_3949⟩ := u_
  obtain ⟨hq_3950, hq_3951, hq_3952⟩ : ((q_weight (dC C) (sx9 xs (i9 + 1))).1 = 0 → of2_3948 0 = ((q_weight (dC C) (sx9 xs (i9 + 1))).2).toInt64) ∧ (q_weight (dC C) (sx9 xs (i9 + 1))).1 < 10 ∧ DyW G d C W2_3949 := hq
  have hpm_3953 : (([(oD, .inl (G.2 6, 1, .inr (.inr (.inr (.inl og)))))] ++ (WM ++ [])) ++ ([(o, .inl (G.2 5, 1, .inr (.inl of2_3948)))] ++ (W2_3949 ++ [])) : va_W).Perm ([(oD, .inl (G.2 6, 1, .inr (.inr (.inr (.inl og))))), (o, .inl (G.2 5, 1, .inr (.inl of2_3948)))] ++ (WM ++ (W2_3949 ++ []))) := segs_perm2 [[(oD, .inl (G.2 6, 1, .inr (.inr (.inr (.inl og)))))], WM] [[(o, .inl (G.2 5, 1, .inr (.inl of2_3948)))], W2_3949] [0, 2, 1, 3] rfl
  have hP : va_P G.1 CL ([(oD, .inl (G.2 6, 1, .inr (.inr (.inr (.inl og))))), (o, .inl (G.2 5, 1, .inr (.inl of2_3948)))] ++ (WM ++ (W2_3949 ++ []))) H := P_perm hpm_3953 hP
  have hD : va_D A ([(oD, .inl (G.2 6, 1, .inr (.inr (.inr (.inl og))))), (o, .inl (G.2 5, 1, .inr (.inl of2_3948)))] ++ (WM ++ (W2_3949 ++ []))) := D_perm hpm_3953 hD
  refine W.eq (g2 := F0 m 729 ls [.int (nI ((q_weight (dC C) (sx9 xs (i9 + 1))).1))]) rfl ?_
  have hqs : (q_weight (dC M) (sx9 xs (i9 + 1))) = (q_weight (dC C) (sx9 xs (i9 + 1))) := q_weight_sim hLw.1.symm hIm (sx9 xs (i9 + 1))
  refine lv_istore (lv' := [(6, .int (nI ((q_weight (dC C) (sx9 xs (i9 + 1))).1))), (0, .ref b), (1, .ref d), (2, .ref m0), (3, .ref o), (4, .ref oD), (5, .int (nI i9))]) hx hb dL_law_729 hl (by decide) rfl (fun ls hl => ?_)
  refine lv_aload_n hx hb dL_law_731 rfl (lv_at hl 3 rfl) ?_
  refine lv_aload_n hx hb dL_law_732 rfl (lv_at hl 1 rfl) ?_
  refine lv_iload hx hb dL_law_733 (lv_at hl 6 rfl) ?_
  refine lv_iconst (v := nI 1) hx hb dL_law_735 (by decide) ?_
  refine lv_iadd hx hb dL_law_736 ?_
  refine lv_ton (n := i9 + 1) (nadd (by omega)) ?_
  refine va_sld hx hb hX9 hbl hbA hS (i := nI (i9 + 1)) (vp9 (by omega) hL96) dL_law_737 ?_
  refine W.eq (g2 := F0 m 738 ls [.int (sx9 xs (i9 + 1)), .ref m0]) rfl ?_
  have hpm_3954 : (([(oD, .inl (G.2 6, 1, .inr (.inr (.inr (.inl og))))), (o, .inl (G.2 5, 1, .inr (.inl of2_3948)))] ++ (WM ++ (W2_3949 ++ []))) : va_W).Perm ((WM ++ []) ++ ([(oD, .inl (G.2 6, 1, .inr (.inr (.inr (.inl og))))), (o, .inl (G.2 5, 1, .inr (.inl of2_3948)))] ++ (W2_3949 ++ []))) := segs_perm [[(oD, .inl (G.2 6, 1, .inr (.inr (.inr (.inl og)))))], [(o, .inl (G.2 5, 1, .inr (.inl of2_3948)))], WM, W2_3949] [2] [0, 1, 3] rfl
  have hF := hF_ofP (wc := (WM ++ [])) hD hS hA hpm_3954
  refine go_ctP hS hP hD hpm_3954 hF
      (va_runV (As := [.int (sx9 xs (i9 + 1))]) (rest := []) cf (eX4_weightOf l G m0 M th WM (sx9 xs (i9 + 1)) (hMd) (hIm) H.size) (cwV 1 hts (lw_V q1723 q1724 q1725 q58 q1726) rfl rfl rfl (by decide +kernel) ⟨Nat.le_of_ble_eq_true rfl, Nat.le_of_ble_eq_true rfl⟩) (preV_of hKB hE hS hF (MdW.recv hK hMd (seg_at [[(oD, .inl (G.2 6, 1, .inr (.inr (.inr (.inl og)))))], [(o, .inl (G.2 5, 1, .inr (.inl of2_3948)))], WM, W2_3949] 2 rfl hP)) (P_left (P_perm hpm_3954 hP)) ((D_left (D_perm hpm_3954 hD)).weaken (fun _ _ _ _ => trivial)) trivial) rfl rfl hl.1 rfl (lv_room (Nat.le_of_ble_eq_true rfl)) dL_law_738 ⟨show cl + 2 + 0 ≤ 1200144 from by first | decide | omega, show sl + 8 + 0 ≤ 5495674 from by first | decide | omega⟩)
      (fun u_ H locs hq hph (hP : va_P G.1 CL (([(oD, .inl (G.2 6, 1, .inr (.inr (.inr (.inl og))))), (o, .inl (G.2 5, 1, .inr (.inl of2_3948)))] ++ (W2_3949 ++ [])) ++ (u_.2 ++ [])) H) (hD : va_D A (([(oD, .inl (G.2 6, 1, .inr (.inr (.inr (.inl og))))), (o, .inl (G.2 5, 1, .inr (.inl of2_3948)))] ++ (W2_3949 ++ [])) ++ (u_.2 ++ []))) hS hfz hfk => ?_)
  obtain ⟨rr_3955, W2_3956⟩ := u_
  obtain ⟨hq_3957, hq_3958⟩ : ((q_weight (dC M) (sx9 xs (i9 + 1))).1 = 0 → rr_3955 = (q_weight (dC M) (sx9 xs (i9 + 1))).2) ∧ MdW G m0 M (q_weight (dC M) (sx9 xs (i9 + 1))).1 W2_3956 := hq
  have hpm_3959 : (([(oD, .inl (G.2 6, 1, .inr (.inr (.inr (.inl og))))), (o, .inl (G.2 5, 1, .inr (.inl of2_3948)))] ++ (W2_3949 ++ [])) ++ (W2_3956 ++ []) : va_W).Perm ([(oD, .inl (G.2 6, 1, .inr (.inr (.inr (.inl og))))), (o, .inl (G.2 5, 1, .inr (.inl of2_3948)))] ++ (W2_3949 ++ (W2_3956 ++ []))) := segs_perm2 [[(oD, .inl (G.2 6, 1, .inr (.inr (.inr (.inl og)))))], [(o, .inl (G.2 5, 1, .inr (.inl of2_3948)))], W2_3949] [W2_3956] [0, 1, 2, 3] rfl
  have hP : va_P G.1 CL ([(oD, .inl (G.2 6, 1, .inr (.inr (.inr (.inl og))))), (o, .inl (G.2 5, 1, .inr (.inl of2_3948)))] ++ (W2_3949 ++ (W2_3956 ++ []))) H := P_perm hpm_3959 hP
  have hD : va_D A ([(oD, .inl (G.2 6, 1, .inr (.inr (.inr (.inl og))))), (o, .inl (G.2 5, 1, .inr (.inl of2_3948)))] ++ (W2_3949 ++ (W2_3956 ++ []))) := D_perm hpm_3959 hD
  refine W.eq (g2 := F0 m 741 ls [.int rr_3955]) rfl ?_
  refine lv_istore (lv' := [(7, .int rr_3955), (6, .int (nI ((q_weight (dC C) (sx9 xs (i9 + 1))).1))), (0, .ref b), (1, .ref d), (2, .ref m0), (3, .ref o), (4, .ref oD), (5, .int (nI i9))]) hx hb dL_law_741 hl (by decide) rfl (fun ls hl => ?_)
  refine lv_aload_n hx hb dL_law_743 rfl (lv_at hl 4 rfl) ?_
  have hpm_3960 : (([(oD, .inl (G.2 6, 1, .inr (.inr (.inr (.inl og))))), (o, .inl (G.2 5, 1, .inr (.inl of2_3948)))] ++ (W2_3949 ++ (W2_3956 ++ []))) : va_W).Perm ([] ++ ([(oD, .inl (G.2 6, 1, .inr (.inr (.inr (.inl og))))), (o, .inl (G.2 5, 1, .inr (.inl of2_3948)))] ++ (W2_3949 ++ (W2_3956 ++ [])))) := segs_perm [[(oD, .inl (G.2 6, 1, .inr (.inr (.inr (.inl og)))))], [(o, .inl (G.2 5, 1, .inr (.inl of2_3948)))], W2_3949, W2_3956] [] [0, 1, 2, 3] rfl
  have hF := hF_ofP (wc := []) hD hS hA hpm_3960
  refine go_ctP hS hP hD hpm_3960 hF
      (va_runV (As := []) (rest := []) cf (eX4_thrown l G m0 M (((q_weight (dC M) (sx9 xs (i9 + 1)))).1) W2_3956 (hq_3958) H.size) (cwV 0 hts (lw_V q1639 q1640 q1641 q58 q1642) rfl rfl rfl (by decide +kernel) ⟨Nat.le_of_ble_eq_true rfl, Nat.le_of_ble_eq_true rfl⟩) (preV_of hKB hE hS hF (MdW.recv hK hq_3958 (seg_at [[(oD, .inl (G.2 6, 1, .inr (.inr (.inr (.inl og)))))], [(o, .inl (G.2 5, 1, .inr (.inl of2_3948)))], W2_3949, W2_3956] 3 rfl hP)) (P_left (P_perm hpm_3960 hP)) ((D_left (D_perm hpm_3960 hD)).weaken (fun _ _ _ _ => trivial)) (roW.nil (seg_at [[(oD, .inl (G.2 6, 1, .inr (.inr (.inr (.inl og)))))], [(o, .inl (G.2 5, 1, .inr (.inl of2_3948)))], W2_3949, W2_3956] 3 rfl hP))) rfl rfl hl.1 rfl (lv_room (Nat.le_of_ble_eq_true rfl)) dL_law_744 ⟨show cl + 2 + 0 ≤ 1200144 from by first | decide | omega, show sl + 8 + 0 ≤ 5495674 from by first | decide | omega⟩)
      (fun u_ H locs hq hph (hP : va_P G.1 CL (([(oD, .inl (G.2 6, 1, .inr (.inr (.inr (.inl og))))), (o, .inl (G.2 5, 1, .inr (.inl of2_3948)))] ++ (W2_3949 ++ (W2_3956 ++ []))) ++ []) H) (hD : va_D A (([(oD, .inl (G.2 6, 1, .inr (.inr (.inr (.inl og))))), (o, .inl (G.2 5, 1, .inr (.inl of2_3948)))] ++ (W2_3949 ++ (W2_3956 ++ []))) ++ [])) hS hfz hfk => ?_)
  have hpm_3961 : (([(oD, .inl (G.2 6, 1, .inr (.inr (.inr (.inl og))))), (o, .inl (G.2 5, 1, .inr (.inl of2_3948)))] ++ (W2_3949 ++ (W2_3956 ++ []))) ++ [] : va_W).Perm ([(oD, .inl (G.2 6, 1, .inr (.inr (.inr (.inl og))))), (o, .inl (G.2 5, 1, .inr (.inl of2_3948)))] ++ (W2_3949 ++ (W2_3956 ++ []))) := segs_perm2 [[(oD, .inl (G.2 6, 1, .inr (.inr (.inr (.inl og)))))], [(o, .inl (G.2 5, 1, .inr (.inl of2_3948)))], W2_3949, W2_3956] [] [0, 1, 2, 3] rfl
  have hP : va_P G.1 CL ([(oD, .inl (G.2 6, 1, .inr (.inr (.inr (.inl og))))), (o, .inl (G.2 5, 1, .inr (.inl of2_3948)))] ++ (W2_3949 ++ (W2_3956 ++ []))) H := P_perm hpm_3961 hP
  have hD : va_D A ([(oD, .inl (G.2 6, 1, .inr (.inr (.inr (.inl og))))), (o, .inl (G.2 5, 1, .inr (.inl of2_3948)))] ++ (W2_3949 ++ (W2_3956 ++ []))) := D_perm hpm_3961 hD
  refine W.eq (g2 := F0 m 747 ls [.int (nI (((q_weight (dC M) (sx9 xs (i9 + 1)))).1))]) rfl ?_
  refine lv_ton (n := ((q_weight (dC C) (sx9 xs (i9 + 1))).1)) (congrArg nI (by rw [hqs])) ?_
  refine lv_iload hx hb dL_law_747 (lv_at hl 1 rfl) ?_
  refine lv_icmp_eq (tgt := 754) hx hb dL_law_749 (by decide) (fun _ => ?_) (fun c9 => absurd rfl c9)
  refine lv_iload hx hb dL_law_754 (lv_at hl 1 rfl) ?_
  refine n_if_ne (tgt := 771) hx hb (by omega) dL_law_756 (by decide) (fun c_3962 => ?_) (fun c_3962 => ?_)
  · refine lv_goto (tgt := 2788) hx hb dL_law_771 (by decide) ?_
    have hpm_3963 : (([(oD, .inl (G.2 6, 1, .inr (.inr (.inr (.inl og))))), (o, .inl (G.2 5, 1, .inr (.inl of2_3948)))] ++ (W2_3949 ++ (W2_3956 ++ []))) : va_W).Perm (([(o, .inl (G.2 5, 1, .inr (.inl of2_3948))), (oD, .inl (G.2 6, 1, .inr (.inr (.inr (.inl og)))))] ++ (W2_3949 ++ (W2_3956 ++ []))) ++ []) := segs_perm [[(oD, .inl (G.2 6, 1, .inr (.inr (.inr (.inl og)))))], [(o, .inl (G.2 5, 1, .inr (.inl of2_3948)))], W2_3949, W2_3956] [1, 0, 2, 3] [] rfl
    have hP : va_P G.1 CL ([(o, .inl (G.2 5, 1, .inr (.inl of2_3948))), (oD, .inl (G.2 6, 1, .inr (.inr (.inr (.inl og)))))] ++ (W2_3949 ++ (W2_3956 ++ []))) H := P_left (P_perm hpm_3963 hP)
    have hD : va_D A ([(o, .inl (G.2 5, 1, .inr (.inl of2_3948))), (oD, .inl (G.2 6, 1, .inr (.inr (.inr (.inl og)))))] ++ (W2_3949 ++ (W2_3956 ++ []))) := D_left (D_perm hpm_3963 hD)
    have hl := lv_sub hl [2, 3, 4, 5, 6, 7] (l' := [(0, .ref b), (1, .ref d), (2, .ref m0), (3, .ref o), (4, .ref oD), (5, .int (nI i9))]) rfl
    exact W.widen (show cl + 2 ≤ cl + 20000 from by omega) (show sl + 8 ≤ sl + 45000 from by omega) (kk ls H locs C M (((q_weight (dC M) (sx9 xs (i9 + 1)))).1) W2_3949 W2_3956 of2_3948 og hP hD hS hl hq_3952 hq_3958 hLw.up)
  · refine lv_aload_n hx hb dL_law_759 rfl (lv_at hl 5 rfl) ?_
    refine lv_iconst (v := nI 0) hx hb dL_law_760 (by decide) ?_
    refine r_lald (v := (((q_weight (dC C) (sx9 xs (i9 + 1)))).2).toInt64) hx hb hK hP 1 5 rfl rfl (i := 0) (by omega) (by omega) ((hq_3950 (by omega))) dL_law_761 ?_
    refine lv_iload hx hb dL_law_762 (lv_at hl 0 rfl) ?_
    refine lv_toi (y := ((q_weight (dC C) (sx9 xs (i9 + 1)))).2) ((hq_3957 (by rw [hqs]; omega)).trans (by rw [hqs])) ?_
    refine lv_i2l (v := (((q_weight (dC C) (sx9 xs (i9 + 1)))).2).toInt64) hx hb dL_law_764 rfl ?_
    refine W.lcmp hx hb dL_law_765 ?_
    refine lv_ton (n := 0) (lcmp0 _) ?_
    refine n_if_eq (tgt := 771) hx hb (by omega) dL_law_766 (by decide) (fun c_3964 => ?_) (fun c_3964 => absurd c_3964 (by omega))
    refine lv_goto (tgt := 2788) hx hb dL_law_771 (by decide) ?_
    have hpm_3965 : (([(oD, .inl (G.2 6, 1, .inr (.inr (.inr (.inl og))))), (o, .inl (G.2 5, 1, .inr (.inl of2_3948)))] ++ (W2_3949 ++ (W2_3956 ++ []))) : va_W).Perm (([(o, .inl (G.2 5, 1, .inr (.inl of2_3948))), (oD, .inl (G.2 6, 1, .inr (.inr (.inr (.inl og)))))] ++ (W2_3949 ++ (W2_3956 ++ []))) ++ []) := segs_perm [[(oD, .inl (G.2 6, 1, .inr (.inr (.inr (.inl og)))))], [(o, .inl (G.2 5, 1, .inr (.inl of2_3948)))], W2_3949, W2_3956] [1, 0, 2, 3] [] rfl
    have hP : va_P G.1 CL ([(o, .inl (G.2 5, 1, .inr (.inl of2_3948))), (oD, .inl (G.2 6, 1, .inr (.inr (.inr (.inl og)))))] ++ (W2_3949 ++ (W2_3956 ++ []))) H := P_left (P_perm hpm_3965 hP)
    have hD : va_D A ([(o, .inl (G.2 5, 1, .inr (.inl of2_3948))), (oD, .inl (G.2 6, 1, .inr (.inr (.inr (.inl og)))))] ++ (W2_3949 ++ (W2_3956 ++ []))) := D_left (D_perm hpm_3965 hD)
    have hl := lv_sub hl [2, 3, 4, 5, 6, 7] (l' := [(0, .ref b), (1, .ref d), (2, .ref m0), (3, .ref o), (4, .ref oD), (5, .int (nI i9))]) rfl
    exact W.widen (show cl + 2 ≤ cl + 20000 from by omega) (show sl + 8 ≤ sl + 45000 from by omega) (kk ls H locs C M (((q_weight (dC M) (sx9 xs (i9 + 1)))).1) W2_3949 W2_3956 of2_3948 og hP hD hS hl hq_3952 hq_3958 hLw.up)

set_option maxHeartbeats 4000000 in
theorem lawK_10 {p : Program} {l : Launch} {e : Env} {s : State} {m : MethodId} {below : List Frame} {meth : Method} {c : Code} {G : Gt} {A : Nat → Prop} {b L : Nat} {xs : Nat → Int32} {Q : State → Prop} {d m0 o oD i9 N cl sl : Nat} (hfl : l.stackTraces = false) (F : LwF G A p s m c b L xs) (hi9 : i9 + 4 ≤ L) (hN24 : N ≤ 24) (hcl : cl + 20000 ≤ 1200144) (hsl : sl + 45000 ≤ 5495674) (kk : ∀ (ls : Array Slot) (H : Heap) (locs : List Loc) (C M : DS) (th : Nat) (WD WM : va_W) (of : Nat → Int64) (og : Nat → UInt64), va_P G.1 CL ([(o, .inl (G.2 5, 1, .inr (.inl of))), (oD, .inl (G.2 6, 1, .inr (.inr (.inr (.inl og)))))] ++ (WD ++ (WM ++ []))) H → va_D A ([(o, .inl (G.2 5, 1, .inr (.inl of))), (oD, .inl (G.2 6, 1, .inr (.inr (.inr (.inl og)))))] ++ (WD ++ (WM ++ []))) → va_S A s.heap H locs → lv_has ls 10 [(0, .ref b), (1, .ref d), (2, .ref m0), (3, .ref o), (4, .ref oD), (5, .int (nI i9))] → DyW G d C WD → MdW G m0 M th WM → LawI C M (N + 1) → W p l e room_1 s m #[Value.ref b] below meth c H locs (cl + 20000) (sl + 45000) Q (F0 m 2788 ls [])) {ls : Array Slot} {H : Heap} {locs : List Loc} {C M : DS} {th : Nat} {WD WM : va_W} {of : Nat → Int64} {og : Nat → UInt64} (hP : va_P G.1 CL ([(o, .inl (G.2 5, 1, .inr (.inl of))), (oD, .inl (G.2 6, 1, .inr (.inr (.inr (.inl og)))))] ++ (WD ++ (WM ++ []))) H) (hD : va_D A ([(o, .inl (G.2 5, 1, .inr (.inl of))), (oD, .inl (G.2 6, 1, .inr (.inr (.inr (.inl og)))))] ++ (WD ++ (WM ++ [])))) (hS : va_S A s.heap H locs) (hl : lv_has ls 10 [(0, .ref b), (1, .ref d), (2, .ref m0), (3, .ref o), (4, .ref oD), (5, .int (nI i9))]) (hDy : DyW G d C WD) (hMd : MdW G m0 M th WM) (hLw : LawI C M N) : W p l e room_1 s m #[Value.ref b] below meth c H locs cl sl Q (F0 m 774 ls []) := by
  obtain ⟨cf, hKB, hE, hA, hX9, hbl, hbA, hNc, hL96⟩ := F
  have hx := cf.1
  have hb := cf.2.1
  have hml := cf.2.2.1
  have hown : s.vm.findClass RX0 = some m.cls := cf.2.2.2.1
  have hts := cf.2.2.2.2
  have hK := hKB.1
  have hIc := hDy.inv.1
  have hIm : Inv (dC M) := Inv_sim hLw.1 hIc
  have hRk : RkOk (dC M) := RkOk_sim hLw.1 (RkOk_srt hDy.inv.2.2)
  have hl := hl
  refine lv_aload_n hx hb dL_law_774 rfl (lv_at hl 1 rfl) ?_
  refine lv_aload_n hx hb dL_law_775 rfl (lv_at hl 0 rfl) ?_
  refine lv_iload hx hb dL_law_776 (lv_at hl 5 rfl) ?_
  refine lv_iconst (v := nI 1) hx hb dL_law_778 (by decide) ?_
  refine lv_iadd hx hb dL_law_779 ?_
  refine lv_ton (n := i9 + 1) (nadd (by omega)) ?_
  refine va_sld hx hb hX9 hbl hbA hS (i := nI (i9 + 1)) (vp9 (by omega) hL96) dL_law_780 ?_
  refine W.eq (g2 := F0 m 781 ls [.int (sx9 xs (i9 + 1)), .ref d]) rfl ?_
  refine lv_aload_n hx hb dL_law_781 rfl (lv_at hl 0 rfl) ?_
  refine lv_iload hx hb dL_law_782 (lv_at hl 5 rfl) ?_
  refine lv_iconst (v := nI 2) hx hb dL_law_784 (by decide) ?_
  refine lv_iadd hx hb dL_law_785 ?_
  refine lv_ton (n := i9 + 2) (nadd (by omega)) ?_
  refine va_sld hx hb hX9 hbl hbA hS (i := nI (i9 + 2)) (vp9 (by omega) hL96) dL_law_786 ?_
  refine W.eq (g2 := F0 m 787 ls [.int (sx9 xs (i9 + 2)), .int (sx9 xs (i9 + 1)), .ref d]) rfl ?_
  refine lv_aload_n hx hb dL_law_787 rfl (lv_at hl 3 rfl) ?_
  have hpm_3966 : (([(o, .inl (G.2 5, 1, .inr (.inl of))), (oD, .inl (G.2 6, 1, .inr (.inr (.inr (.inl og)))))] ++ (WD ++ (WM ++ []))) : va_W).Perm (([(o, .inl (G.2 5, 1, .inr (.inl of)))] ++ (WD ++ [])) ++ ([(oD, .inl (G.2 6, 1, .inr (.inr (.inr (.inl og)))))] ++ (WM ++ []))) := segs_perm [[(o, .inl (G.2 5, 1, .inr (.inl of)))], [(oD, .inl (G.2 6, 1, .inr (.inr (.inr (.inl og)))))], WD, WM] [0, 2] [1, 3] rfl
  have hF := hF_ofP (wc := ([(o, .inl (G.2 5, 1, .inr (.inl of)))] ++ (WD ++ []))) hD hS hA hpm_3966
  refine go_ctP hS hP hD hpm_3966 hF
      (vx_runSW (As := [.ref d, .int (sx9 xs (i9 + 1)), .int (sx9 xs (i9 + 2)), .ref o]) (rest := []) cf (wX0_zoneOf l G d C WD o of (sx9 xs (i9 + 1)) (sx9 xs (i9 + 2)) (hDy) hfl H.size) (vx_cwSW 4 hts (lw_SW q1084 q1085 q46 q1086) rfl rfl rfl (by decide +kernel) ⟨Nat.le_of_ble_eq_true rfl, Nat.le_of_ble_eq_true rfl⟩) (preS_ofW hNc hKB hE hS hF (P_left (P_perm hpm_3966 hP)) ((D_left (D_perm hpm_3966 hD)).weaken (fun _ _ _ _ => trivial)) trivial) rfl rfl hl.1 rfl (lv_room (Nat.le_of_ble_eq_true rfl)) dL_law_788 ⟨show cl + 2 ≤ 1200144 from by first | decide | omega, show sl + 8 ≤ 5495674 from by first | decide | omega⟩)
      (fun u_ H locs hq hph (hP : va_P G.1 CL (([(oD, .inl (G.2 6, 1, .inr (.inr (.inr (.inl og)))))] ++ (WM ++ [])) ++ ([(o, .inl (G.2 5, 1, .inr (.inl u_.1)))] ++ (u_.2 ++ []))) H) (hD : va_D A (([(oD, .inl (G.2 6, 1, .inr (.inr (.inr (.inl og)))))] ++ (WM ++ [])) ++ ([(o, .inl (G.2 5, 1, .inr (.inl u_.1)))] ++ (u_.2 ++ [])))) hS hfz hfk => ?_)
  obtain ⟨of2_3967, W2_3968⟩ := u_
  obtain ⟨hq_3969, hq_3970, hq_3971⟩ : ((q_zone (dC C) (sx9 xs (i9 + 1)) (sx9 xs (i9 + 2))).1 = 0 → of2_3967 0 = ((q_zone (dC C) (sx9 xs (i9 + 1)) (sx9 xs (i9 + 2))).2).toInt64) ∧ (q_zone (dC C) (sx9 xs (i9 + 1)) (sx9 xs (i9 + 2))).1 < 10 ∧ DyW G d C W2_3968 := hq
  have hpm_3972 : (([(oD, .inl (G.2 6, 1, .inr (.inr (.inr (.inl og)))))] ++ (WM ++ [])) ++ ([(o, .inl (G.2 5, 1, .inr (.inl of2_3967)))] ++ (W2_3968 ++ [])) : va_W).Perm ([(oD, .inl (G.2 6, 1, .inr (.inr (.inr (.inl og))))), (o, .inl (G.2 5, 1, .inr (.inl of2_3967)))] ++ (WM ++ (W2_3968 ++ []))) := segs_perm2 [[(oD, .inl (G.2 6, 1, .inr (.inr (.inr (.inl og)))))], WM] [[(o, .inl (G.2 5, 1, .inr (.inl of2_3967)))], W2_3968] [0, 2, 1, 3] rfl
  have hP : va_P G.1 CL ([(oD, .inl (G.2 6, 1, .inr (.inr (.inr (.inl og))))), (o, .inl (G.2 5, 1, .inr (.inl of2_3967)))] ++ (WM ++ (W2_3968 ++ []))) H := P_perm hpm_3972 hP
  have hD : va_D A ([(oD, .inl (G.2 6, 1, .inr (.inr (.inr (.inl og))))), (o, .inl (G.2 5, 1, .inr (.inl of2_3967)))] ++ (WM ++ (W2_3968 ++ []))) := D_perm hpm_3972 hD
  refine W.eq (g2 := F0 m 791 ls [.int (nI ((q_zone (dC C) (sx9 xs (i9 + 1)) (sx9 xs (i9 + 2))).1))]) rfl ?_
  have hqs : (q_zone (dC M) (sx9 xs (i9 + 1)) (sx9 xs (i9 + 2))) = (q_zone (dC C) (sx9 xs (i9 + 1)) (sx9 xs (i9 + 2))) := q_zone_sim hLw.1.symm hIm (sx9 xs (i9 + 1)) (sx9 xs (i9 + 2))
  refine lv_istore (lv' := [(6, .int (nI ((q_zone (dC C) (sx9 xs (i9 + 1)) (sx9 xs (i9 + 2))).1))), (0, .ref b), (1, .ref d), (2, .ref m0), (3, .ref o), (4, .ref oD), (5, .int (nI i9))]) hx hb dL_law_791 hl (by decide) rfl (fun ls hl => ?_)
  refine lv_aload_n hx hb dL_law_793 rfl (lv_at hl 3 rfl) ?_
  refine lv_aload_n hx hb dL_law_794 rfl (lv_at hl 1 rfl) ?_
  refine lv_iload hx hb dL_law_795 (lv_at hl 6 rfl) ?_
  refine lv_iconst (v := nI 1) hx hb dL_law_797 (by decide) ?_
  refine lv_iadd hx hb dL_law_798 ?_
  refine lv_ton (n := i9 + 1) (nadd (by omega)) ?_
  refine va_sld hx hb hX9 hbl hbA hS (i := nI (i9 + 1)) (vp9 (by omega) hL96) dL_law_799 ?_
  refine W.eq (g2 := F0 m 800 ls [.int (sx9 xs (i9 + 1)), .ref m0]) rfl ?_
  refine lv_aload_n hx hb dL_law_800 rfl (lv_at hl 1 rfl) ?_
  refine lv_iload hx hb dL_law_801 (lv_at hl 6 rfl) ?_
  refine lv_iconst (v := nI 2) hx hb dL_law_803 (by decide) ?_
  refine lv_iadd hx hb dL_law_804 ?_
  refine lv_ton (n := i9 + 2) (nadd (by omega)) ?_
  refine va_sld hx hb hX9 hbl hbA hS (i := nI (i9 + 2)) (vp9 (by omega) hL96) dL_law_805 ?_
  refine W.eq (g2 := F0 m 806 ls [.int (sx9 xs (i9 + 2)), .int (sx9 xs (i9 + 1)), .ref m0]) rfl ?_
  have hpm_3973 : (([(oD, .inl (G.2 6, 1, .inr (.inr (.inr (.inl og))))), (o, .inl (G.2 5, 1, .inr (.inl of2_3967)))] ++ (WM ++ (W2_3968 ++ []))) : va_W).Perm ((WM ++ []) ++ ([(oD, .inl (G.2 6, 1, .inr (.inr (.inr (.inl og))))), (o, .inl (G.2 5, 1, .inr (.inl of2_3967)))] ++ (W2_3968 ++ []))) := segs_perm [[(oD, .inl (G.2 6, 1, .inr (.inr (.inr (.inl og)))))], [(o, .inl (G.2 5, 1, .inr (.inl of2_3967)))], WM, W2_3968] [2] [0, 1, 3] rfl
  have hF := hF_ofP (wc := (WM ++ [])) hD hS hA hpm_3973
  refine go_ctP hS hP hD hpm_3973 hF
      (va_runV (As := [.int (sx9 xs (i9 + 1)), .int (sx9 xs (i9 + 2))]) (rest := []) cf (eX4_zoneOf l G m0 M th WM (sx9 xs (i9 + 1)) (sx9 xs (i9 + 2)) (hMd) (hIm) H.size) (cwV 2 hts (lw_V q1727 q1728 q1729 q58 q1730) rfl rfl rfl (by decide +kernel) ⟨Nat.le_of_ble_eq_true rfl, Nat.le_of_ble_eq_true rfl⟩) (preV_of hKB hE hS hF (MdW.recv hK hMd (seg_at [[(oD, .inl (G.2 6, 1, .inr (.inr (.inr (.inl og)))))], [(o, .inl (G.2 5, 1, .inr (.inl of2_3967)))], WM, W2_3968] 2 rfl hP)) (P_left (P_perm hpm_3973 hP)) ((D_left (D_perm hpm_3973 hD)).weaken (fun _ _ _ _ => trivial)) trivial) rfl rfl hl.1 rfl (lv_room (Nat.le_of_ble_eq_true rfl)) dL_law_806 ⟨show cl + 2 + 0 ≤ 1200144 from by first | decide | omega, show sl + 8 + 0 ≤ 5495674 from by first | decide | omega⟩)
      (fun u_ H locs hq hph (hP : va_P G.1 CL (([(oD, .inl (G.2 6, 1, .inr (.inr (.inr (.inl og))))), (o, .inl (G.2 5, 1, .inr (.inl of2_3967)))] ++ (W2_3968 ++ [])) ++ (u_.2 ++ [])) H) (hD : va_D A (([(oD, .inl (G.2 6, 1, .inr (.inr (.inr (.inl og))))), (o, .inl (G.2 5, 1, .inr (.inl of2_3967)))] ++ (W2_3968 ++ [])) ++ (u_.2 ++ []))) hS hfz hfk => ?_)
  obtain ⟨rr_3974, W2_3975⟩ := u_
  obtain ⟨hq_3976, hq_3977⟩ : ((q_zone (dC M) (sx9 xs (i9 + 1)) (sx9 xs (i9 + 2))).1 = 0 → rr_3974 = (q_zone (dC M) (sx9 xs (i9 + 1)) (sx9 xs (i9 + 2))).2) ∧ MdW G m0 M (q_zone (dC M) (sx9 xs (i9 + 1)) (sx9 xs (i9 + 2))).1 W2_3975 := hq
  have hpm_3978 : (([(oD, .inl (G.2 6, 1, .inr (.inr (.inr (.inl og))))), (o, .inl (G.2 5, 1, .inr (.inl of2_3967)))] ++ (W2_3968 ++ [])) ++ (W2_3975 ++ []) : va_W).Perm ([(oD, .inl (G.2 6, 1, .inr (.inr (.inr (.inl og))))), (o, .inl (G.2 5, 1, .inr (.inl of2_3967)))] ++ (W2_3968 ++ (W2_3975 ++ []))) := segs_perm2 [[(oD, .inl (G.2 6, 1, .inr (.inr (.inr (.inl og)))))], [(o, .inl (G.2 5, 1, .inr (.inl of2_3967)))], W2_3968] [W2_3975] [0, 1, 2, 3] rfl
  have hP : va_P G.1 CL ([(oD, .inl (G.2 6, 1, .inr (.inr (.inr (.inl og))))), (o, .inl (G.2 5, 1, .inr (.inl of2_3967)))] ++ (W2_3968 ++ (W2_3975 ++ []))) H := P_perm hpm_3978 hP
  have hD : va_D A ([(oD, .inl (G.2 6, 1, .inr (.inr (.inr (.inl og))))), (o, .inl (G.2 5, 1, .inr (.inl of2_3967)))] ++ (W2_3968 ++ (W2_3975 ++ []))) := D_perm hpm_3978 hD
  refine W.eq (g2 := F0 m 809 ls [.int rr_3974]) rfl ?_
  refine lv_istore (lv' := [(7, .int rr_3974), (6, .int (nI ((q_zone (dC C) (sx9 xs (i9 + 1)) (sx9 xs (i9 + 2))).1))), (0, .ref b), (1, .ref d), (2, .ref m0), (3, .ref o), (4, .ref oD), (5, .int (nI i9))]) hx hb dL_law_809 hl (by decide) rfl (fun ls hl => ?_)
  refine lv_aload_n hx hb dL_law_811 rfl (lv_at hl 4 rfl) ?_
  have hpm_3979 : (([(oD, .inl (G.2 6, 1, .inr (.inr (.inr (.inl og))))), (o, .inl (G.2 5, 1, .inr (.inl of2_3967)))] ++ (W2_3968 ++ (W2_3975 ++ []))) : va_W).Perm ([] ++ ([(oD, .inl (G.2 6, 1, .inr (.inr (.inr (.inl og))))), (o, .inl (G.2 5, 1, .inr (.inl of2_3967)))] ++ (W2_3968 ++ (W2_3975 ++ [])))) := segs_perm [[(oD, .inl (G.2 6, 1, .inr (.inr (.inr (.inl og)))))], [(o, .inl (G.2 5, 1, .inr (.inl of2_3967)))], W2_3968, W2_3975] [] [0, 1, 2, 3] rfl
  have hF := hF_ofP (wc := []) hD hS hA hpm_3979
  refine go_ctP hS hP hD hpm_3979 hF
      (va_runV (As := []) (rest := []) cf (eX4_thrown l G m0 M (((q_zone (dC M) (sx9 xs (i9 + 1)) (sx9 xs (i9 + 2)))).1) W2_3975 (hq_3977) H.size) (cwV 0 hts (lw_V q1639 q1640 q1641 q58 q1642) rfl rfl rfl (by decide +kernel) ⟨Nat.le_of_ble_eq_true rfl, Nat.le_of_ble_eq_true rfl⟩) (preV_of hKB hE hS hF (MdW.recv hK hq_3977 (seg_at [[(oD, .inl (G.2 6, 1, .inr (.inr (.inr (.inl og)))))], [(o, .inl (G.2 5, 1, .inr (.inl of2_3967)))], W2_3968, W2_3975] 3 rfl hP)) (P_left (P_perm hpm_3979 hP)) ((D_left (D_perm hpm_3979 hD)).weaken (fun _ _ _ _ => trivial)) (roW.nil (seg_at [[(oD, .inl (G.2 6, 1, .inr (.inr (.inr (.inl og)))))], [(o, .inl (G.2 5, 1, .inr (.inl of2_3967)))], W2_3968, W2_3975] 3 rfl hP))) rfl rfl hl.1 rfl (lv_room (Nat.le_of_ble_eq_true rfl)) dL_law_812 ⟨show cl + 2 + 0 ≤ 1200144 from by first | decide | omega, show sl + 8 + 0 ≤ 5495674 from by first | decide | omega⟩)
      (fun u_ H locs hq hph (hP : va_P G.1 CL (([(oD, .inl (G.2 6, 1, .inr (.inr (.inr (.inl og))))), (o, .inl (G.2 5, 1, .inr (.inl of2_3967)))] ++ (W2_3968 ++ (W2_3975 ++ []))) ++ []) H) (hD : va_D A (([(oD, .inl (G.2 6, 1, .inr (.inr (.inr (.inl og))))), (o, .inl (G.2 5, 1, .inr (.inl of2_3967)))] ++ (W2_3968 ++ (W2_3975 ++ []))) ++ [])) hS hfz hfk => ?_)
  have hpm_3980 : (([(oD, .inl (G.2 6, 1, .inr (.inr (.inr (.inl og))))), (o, .inl (G.2 5, 1, .inr (.inl of2_3967)))] ++ (W2_3968 ++ (W2_3975 ++ []))) ++ [] : va_W).Perm ([(oD, .inl (G.2 6, 1, .inr (.inr (.inr (.inl og))))), (o, .inl (G.2 5, 1, .inr (.inl of2_3967)))] ++ (W2_3968 ++ (W2_3975 ++ []))) := segs_perm2 [[(oD, .inl (G.2 6, 1, .inr (.inr (.inr (.inl og)))))], [(o, .inl (G.2 5, 1, .inr (.inl of2_3967)))], W2_3968, W2_3975] [] [0, 1, 2, 3] rfl
  have hP : va_P G.1 CL ([(oD, .inl (G.2 6, 1, .inr (.inr (.inr (.inl og))))), (o, .inl (G.2 5, 1, .inr (.inl of2_3967)))] ++ (W2_3968 ++ (W2_3975 ++ []))) H := P_perm hpm_3980 hP
  have hD : va_D A ([(oD, .inl (G.2 6, 1, .inr (.inr (.inr (.inl og))))), (o, .inl (G.2 5, 1, .inr (.inl of2_3967)))] ++ (W2_3968 ++ (W2_3975 ++ []))) := D_perm hpm_3980 hD
  refine W.eq (g2 := F0 m 815 ls [.int (nI (((q_zone (dC M) (sx9 xs (i9 + 1)) (sx9 xs (i9 + 2)))).1))]) rfl ?_
  refine lv_ton (n := ((q_zone (dC C) (sx9 xs (i9 + 1)) (sx9 xs (i9 + 2))).1)) (congrArg nI (by rw [hqs])) ?_
  refine lv_iload hx hb dL_law_815 (lv_at hl 1 rfl) ?_
  refine lv_icmp_eq (tgt := 822) hx hb dL_law_817 (by decide) (fun _ => ?_) (fun c9 => absurd rfl c9)
  refine lv_iload hx hb dL_law_822 (lv_at hl 1 rfl) ?_
  refine n_if_ne (tgt := 839) hx hb (by omega) dL_law_824 (by decide) (fun c_3981 => ?_) (fun c_3981 => ?_)
  · refine lv_goto (tgt := 2788) hx hb dL_law_839 (by decide) ?_
    have hpm_3982 : (([(oD, .inl (G.2 6, 1, .inr (.inr (.inr (.inl og))))), (o, .inl (G.2 5, 1, .inr (.inl of2_3967)))] ++ (W2_3968 ++ (W2_3975 ++ []))) : va_W).Perm (([(o, .inl (G.2 5, 1, .inr (.inl of2_3967))), (oD, .inl (G.2 6, 1, .inr (.inr (.inr (.inl og)))))] ++ (W2_3968 ++ (W2_3975 ++ []))) ++ []) := segs_perm [[(oD, .inl (G.2 6, 1, .inr (.inr (.inr (.inl og)))))], [(o, .inl (G.2 5, 1, .inr (.inl of2_3967)))], W2_3968, W2_3975] [1, 0, 2, 3] [] rfl
    have hP : va_P G.1 CL ([(o, .inl (G.2 5, 1, .inr (.inl of2_3967))), (oD, .inl (G.2 6, 1, .inr (.inr (.inr (.inl og)))))] ++ (W2_3968 ++ (W2_3975 ++ []))) H := P_left (P_perm hpm_3982 hP)
    have hD : va_D A ([(o, .inl (G.2 5, 1, .inr (.inl of2_3967))), (oD, .inl (G.2 6, 1, .inr (.inr (.inr (.inl og)))))] ++ (W2_3968 ++ (W2_3975 ++ []))) := D_left (D_perm hpm_3982 hD)
    have hl := lv_sub hl [2, 3, 4, 5, 6, 7] (l' := [(0, .ref b), (1, .ref d), (2, .ref m0), (3, .ref o), (4, .ref oD), (5, .int (nI i9))]) rfl
    exact W.widen (show cl + 2 ≤ cl + 20000 from by omega) (show sl + 8 ≤ sl + 45000 from by omega) (kk ls H locs C M (((q_zone (dC M) (sx9 xs (i9 + 1)) (sx9 xs (i9 + 2)))).1) W2_3968 W2_3975 of2_3967 og hP hD hS hl hq_3971 hq_3977 hLw.up)
  · refine lv_aload_n hx hb dL_law_827 rfl (lv_at hl 5 rfl) ?_
    refine lv_iconst (v := nI 0) hx hb dL_law_828 (by decide) ?_
    refine r_lald (v := (((q_zone (dC C) (sx9 xs (i9 + 1)) (sx9 xs (i9 + 2)))).2).toInt64) hx hb hK hP 1 5 rfl rfl (i := 0) (by omega) (by omega) ((hq_3969 (by omega))) dL_law_829 ?_
    refine lv_iload hx hb dL_law_830 (lv_at hl 0 rfl) ?_
    refine lv_toi (y := ((q_zone (dC C) (sx9 xs (i9 + 1)) (sx9 xs (i9 + 2)))).2) ((hq_3976 (by rw [hqs]; omega)).trans (by rw [hqs])) ?_
    refine lv_i2l (v := (((q_zone (dC C) (sx9 xs (i9 + 1)) (sx9 xs (i9 + 2)))).2).toInt64) hx hb dL_law_832 rfl ?_
    refine W.lcmp hx hb dL_law_833 ?_
    refine lv_ton (n := 0) (lcmp0 _) ?_
    refine n_if_eq (tgt := 839) hx hb (by omega) dL_law_834 (by decide) (fun c_3983 => ?_) (fun c_3983 => absurd c_3983 (by omega))
    refine lv_goto (tgt := 2788) hx hb dL_law_839 (by decide) ?_
    have hpm_3984 : (([(oD, .inl (G.2 6, 1, .inr (.inr (.inr (.inl og))))), (o, .inl (G.2 5, 1, .inr (.inl of2_3967)))] ++ (W2_3968 ++ (W2_3975 ++ []))) : va_W).Perm (([(o, .inl (G.2 5, 1, .inr (.inl of2_3967))), (oD, .inl (G.2 6, 1, .inr (.inr (.inr (.inl og)))))] ++ (W2_3968 ++ (W2_3975 ++ []))) ++ []) := segs_perm [[(oD, .inl (G.2 6, 1, .inr (.inr (.inr (.inl og)))))], [(o, .inl (G.2 5, 1, .inr (.inl of2_3967)))], W2_3968, W2_3975] [1, 0, 2, 3] [] rfl
    have hP : va_P G.1 CL ([(o, .inl (G.2 5, 1, .inr (.inl of2_3967))), (oD, .inl (G.2 6, 1, .inr (.inr (.inr (.inl og)))))] ++ (W2_3968 ++ (W2_3975 ++ []))) H := P_left (P_perm hpm_3984 hP)
    have hD : va_D A ([(o, .inl (G.2 5, 1, .inr (.inl of2_3967))), (oD, .inl (G.2 6, 1, .inr (.inr (.inr (.inl og)))))] ++ (W2_3968 ++ (W2_3975 ++ []))) := D_left (D_perm hpm_3984 hD)
    have hl := lv_sub hl [2, 3, 4, 5, 6, 7] (l' := [(0, .ref b), (1, .ref d), (2, .ref m0), (3, .ref o), (4, .ref oD), (5, .int (nI i9))]) rfl
    exact W.widen (show cl + 2 ≤ cl + 20000 from by omega) (show sl + 8 ≤ sl + 45000 from by omega) (kk ls H locs C M (((q_zone (dC M) (sx9 xs (i9 + 1)) (sx9 xs (i9 + 2)))).1) W2_3968 W2_3975 of2_3967 og hP hD hS hl hq_3971 hq_3977 hLw.up)

set_option maxHeartbeats 4000000 in
theorem lawK_11 {p : Program} {l : Launch} {e : Env} {s : State} {m : MethodId} {below : List Frame} {meth : Method} {c : Code} {G : Gt} {A : Nat → Prop} {b L : Nat} {xs : Nat → Int32} {Q : State → Prop} {d m0 o oD i9 N cl sl : Nat} (hfl : l.stackTraces = false) (F : LwF G A p s m c b L xs) (hi9 : i9 + 4 ≤ L) (hN24 : N ≤ 24) (hcl : cl + 20000 ≤ 1200144) (hsl : sl + 45000 ≤ 5495674) (kk : ∀ (ls : Array Slot) (H : Heap) (locs : List Loc) (C M : DS) (th : Nat) (WD WM : va_W) (of : Nat → Int64) (og : Nat → UInt64), va_P G.1 CL ([(o, .inl (G.2 5, 1, .inr (.inl of))), (oD, .inl (G.2 6, 1, .inr (.inr (.inr (.inl og)))))] ++ (WD ++ (WM ++ []))) H → va_D A ([(o, .inl (G.2 5, 1, .inr (.inl of))), (oD, .inl (G.2 6, 1, .inr (.inr (.inr (.inl og)))))] ++ (WD ++ (WM ++ []))) → va_S A s.heap H locs → lv_has ls 10 [(0, .ref b), (1, .ref d), (2, .ref m0), (3, .ref o), (4, .ref oD), (5, .int (nI i9))] → DyW G d C WD → MdW G m0 M th WM → LawI C M (N + 1) → W p l e room_1 s m #[Value.ref b] below meth c H locs (cl + 20000) (sl + 45000) Q (F0 m 2788 ls [])) {ls : Array Slot} {H : Heap} {locs : List Loc} {C M : DS} {th : Nat} {WD WM : va_W} {of : Nat → Int64} {og : Nat → UInt64} (hP : va_P G.1 CL ([(o, .inl (G.2 5, 1, .inr (.inl of))), (oD, .inl (G.2 6, 1, .inr (.inr (.inr (.inl og)))))] ++ (WD ++ (WM ++ []))) H) (hD : va_D A ([(o, .inl (G.2 5, 1, .inr (.inl of))), (oD, .inl (G.2 6, 1, .inr (.inr (.inr (.inl og)))))] ++ (WD ++ (WM ++ [])))) (hS : va_S A s.heap H locs) (hl : lv_has ls 10 [(0, .ref b), (1, .ref d), (2, .ref m0), (3, .ref o), (4, .ref oD), (5, .int (nI i9))]) (hDy : DyW G d C WD) (hMd : MdW G m0 M th WM) (hLw : LawI C M N) : W p l e room_1 s m #[Value.ref b] below meth c H locs cl sl Q (F0 m 842 ls []) := by
  obtain ⟨cf, hKB, hE, hA, hX9, hbl, hbA, hNc, hL96⟩ := F
  have hx := cf.1
  have hb := cf.2.1
  have hml := cf.2.2.1
  have hown : s.vm.findClass RX0 = some m.cls := cf.2.2.2.1
  have hts := cf.2.2.2.2
  have hK := hKB.1
  have hIc := hDy.inv.1
  have hIm : Inv (dC M) := Inv_sim hLw.1 hIc
  have hRk : RkOk (dC M) := RkOk_sim hLw.1 (RkOk_srt hDy.inv.2.2)
  have hl := hl
  refine lv_aload_n hx hb dL_law_842 rfl (lv_at hl 1 rfl) ?_
  refine lv_aload_n hx hb dL_law_843 rfl (lv_at hl 0 rfl) ?_
  refine lv_iload hx hb dL_law_844 (lv_at hl 5 rfl) ?_
  refine lv_iconst (v := nI 1) hx hb dL_law_846 (by decide) ?_
  refine lv_iadd hx hb dL_law_847 ?_
  refine lv_ton (n := i9 + 1) (nadd (by omega)) ?_
  refine va_sld hx hb hX9 hbl hbA hS (i := nI (i9 + 1)) (vp9 (by omega) hL96) dL_law_848 ?_
  refine W.eq (g2 := F0 m 849 ls [.int (sx9 xs (i9 + 1)), .ref d]) rfl ?_
  refine lv_aload_n hx hb dL_law_849 rfl (lv_at hl 3 rfl) ?_
  have hpm_3985 : (([(o, .inl (G.2 5, 1, .inr (.inl of))), (oD, .inl (G.2 6, 1, .inr (.inr (.inr (.inl og)))))] ++ (WD ++ (WM ++ []))) : va_W).Perm (([(o, .inl (G.2 5, 1, .inr (.inl of)))] ++ (WD ++ [])) ++ ([(oD, .inl (G.2 6, 1, .inr (.inr (.inr (.inl og)))))] ++ (WM ++ []))) := segs_perm [[(o, .inl (G.2 5, 1, .inr (.inl of)))], [(oD, .inl (G.2 6, 1, .inr (.inr (.inr (.inl og)))))], WD, WM] [0, 2] [1, 3] rfl
  have hF := hF_ofP (wc := ([(o, .inl (G.2 5, 1, .inr (.inl of)))] ++ (WD ++ []))) hD hS hA hpm_3985
  refine go_ctP hS hP hD hpm_3985 hF
      (vx_runSW (As := [.ref d, .int (sx9 xs (i9 + 1)), .ref o]) (rest := []) cf (wX0_addSession l G d C WD o of (sx9 xs (i9 + 1)) (hDy) (Nat.lt_of_le_of_lt hLw.2.2.2.2.2.2.2.1 (by omega)) hfl H.size) (vx_cwSW 3 hts (lw_SW q1092 q1093 q46 q1094) rfl rfl rfl (by decide +kernel) ⟨Nat.le_of_ble_eq_true rfl, Nat.le_of_ble_eq_true rfl⟩) (preS_ofW hNc hKB hE hS hF (P_left (P_perm hpm_3985 hP)) ((D_left (D_perm hpm_3985 hD)).weaken (fun _ _ _ _ => trivial)) trivial) rfl rfl hl.1 rfl (lv_room (Nat.le_of_ble_eq_true rfl)) dL_law_850 ⟨show cl + (4 + 101) ≤ 1200144 from by first | decide | omega, show sl + (64 + 5800) ≤ 5495674 from by first | decide | omega⟩)
      (fun u_ H locs hq hph (hP : va_P G.1 CL (([(oD, .inl (G.2 6, 1, .inr (.inr (.inr (.inl og)))))] ++ (WM ++ [])) ++ ([(o, .inl (G.2 5, 1, .inr (.inl u_.1)))] ++ (u_.2.2 ++ []))) H) (hD : va_D A (([(oD, .inl (G.2 6, 1, .inr (.inr (.inr (.inl og)))))] ++ (WM ++ [])) ++ ([(o, .inl (G.2 5, 1, .inr (.inl u_.1)))] ++ (u_.2.2 ++ [])))) hS hfz hfk => ?_)
  obtain ⟨of2_3986, S2_3987, W2_3988⟩ := u_
  obtain ⟨hq_3989, hq_3990, hq_3991, hq_3992⟩ : ((o_addSes (dC C) (sx9 xs (i9 + 1))).1 = 0 → of2_3986 0 = ((o_addSes (dC C) (sx9 xs (i9 + 1))).2.1).toInt64) ∧ NxS C (o_addSes (dC C) (sx9 xs (i9 + 1))) S2_3987 ∧ (o_addSes (dC C) (sx9 xs (i9 + 1))).1 < 10 ∧ DyW G d S2_3987 W2_3988 := hq
  have hpm_3993 : (([(oD, .inl (G.2 6, 1, .inr (.inr (.inr (.inl og)))))] ++ (WM ++ [])) ++ ([(o, .inl (G.2 5, 1, .inr (.inl of2_3986)))] ++ (W2_3988 ++ [])) : va_W).Perm ([(oD, .inl (G.2 6, 1, .inr (.inr (.inr (.inl og))))), (o, .inl (G.2 5, 1, .inr (.inl of2_3986)))] ++ (WM ++ (W2_3988 ++ []))) := segs_perm2 [[(oD, .inl (G.2 6, 1, .inr (.inr (.inr (.inl og)))))], WM] [[(o, .inl (G.2 5, 1, .inr (.inl of2_3986)))], W2_3988] [0, 2, 1, 3] rfl
  have hP : va_P G.1 CL ([(oD, .inl (G.2 6, 1, .inr (.inr (.inr (.inl og))))), (o, .inl (G.2 5, 1, .inr (.inl of2_3986)))] ++ (WM ++ (W2_3988 ++ []))) H := P_perm hpm_3993 hP
  have hD : va_D A ([(oD, .inl (G.2 6, 1, .inr (.inr (.inr (.inl og))))), (o, .inl (G.2 5, 1, .inr (.inl of2_3986)))] ++ (WM ++ (W2_3988 ++ []))) := D_perm hpm_3993 hD
  refine W.eq (g2 := F0 m 853 ls [.int (nI ((o_addSes (dC C) (sx9 xs (i9 + 1))).1))]) rfl ?_
  have hqs : SimR (o_addSes (dC C) (sx9 xs (i9 + 1))) (o_addSes (dC M) d) := o_addSes_sim hLw.1 hIc (sx9 xs (i9 + 1))
  refine lv_istore (lv' := [(6, .int (nI ((o_addSes (dC C) (sx9 xs (i9 + 1))).1))), (0, .ref b), (1, .ref d), (2, .ref m0), (3, .ref o), (4, .ref oD), (5, .int (nI i9))]) hx hb dL_law_853 hl (by decide) rfl (fun ls hl => ?_)
  refine lv_aload_n hx hb dL_law_855 rfl (lv_at hl 3 rfl) ?_
  refine lv_aload_n hx hb dL_law_856 rfl (lv_at hl 1 rfl) ?_
  refine lv_iload hx hb dL_law_857 (lv_at hl 6 rfl) ?_
  refine lv_iconst (v := nI 1) hx hb dL_law_859 (by decide) ?_
  refine lv_iadd hx hb dL_law_860 ?_
  refine lv_ton (n := i9 + 1) (nadd (by omega)) ?_
  refine va_sld hx hb hX9 hbl hbA hS (i := nI (i9 + 1)) (vp9 (by omega) hL96) dL_law_861 ?_
  refine W.eq (g2 := F0 m 862 ls [.int (sx9 xs (i9 + 1)), .ref m0]) rfl ?_
  have hpm_3994 : (([(oD, .inl (G.2 6, 1, .inr (.inr (.inr (.inl og))))), (o, .inl (G.2 5, 1, .inr (.inl of2_3986)))] ++ (WM ++ (W2_3988 ++ []))) : va_W).Perm ((WM ++ []) ++ ([(oD, .inl (G.2 6, 1, .inr (.inr (.inr (.inl og))))), (o, .inl (G.2 5, 1, .inr (.inl of2_3986)))] ++ (W2_3988 ++ []))) := segs_perm [[(oD, .inl (G.2 6, 1, .inr (.inr (.inr (.inl og)))))], [(o, .inl (G.2 5, 1, .inr (.inl of2_3986)))], WM, W2_3988] [2] [0, 1, 3] rfl
  have hF := hF_ofP (wc := (WM ++ [])) hD hS hA hpm_3994
  refine go_ctP hS hP hD hpm_3994 hF
      (va_runV (As := [.int (sx9 xs (i9 + 1))]) (rest := []) cf (eX4_addSession l G m0 M th WM (sx9 xs (i9 + 1)) (hMd) (hIm) H.size) (cwV 1 hts (lw_V q1731 q1732 q1733 q58 q1734) rfl rfl rfl (by decide +kernel) ⟨Nat.le_of_ble_eq_true rfl, Nat.le_of_ble_eq_true rfl⟩) (preV_of hKB hE hS hF (MdW.recv hK hMd (seg_at [[(oD, .inl (G.2 6, 1, .inr (.inr (.inr (.inl og)))))], [(o, .inl (G.2 5, 1, .inr (.inl of2_3986)))], WM, W2_3988] 2 rfl hP)) (P_left (P_perm hpm_3994 hP)) ((D_left (D_perm hpm_3994 hD)).weaken (fun _ _ _ _ => trivial)) trivial) rfl rfl hl.1 rfl (lv_room (Nat.le_of_ble_eq_true rfl)) dL_law_862 ⟨show cl + (4 + 101) + 0 ≤ 1200144 from by first | decide | omega, show sl + (64 + 5800) + 0 ≤ 5495674 from by first | decide | omega⟩)
      (fun u_ H locs hq hph (hP : va_P G.1 CL (([(oD, .inl (G.2 6, 1, .inr (.inr (.inr (.inl og))))), (o, .inl (G.2 5, 1, .inr (.inl of2_3986)))] ++ (W2_3988 ++ [])) ++ (u_.2 ++ [])) H) (hD : va_D A (([(oD, .inl (G.2 6, 1, .inr (.inr (.inr (.inl og))))), (o, .inl (G.2 5, 1, .inr (.inl of2_3986)))] ++ (W2_3988 ++ [])) ++ (u_.2 ++ []))) hS hfz hfk => ?_)
  obtain ⟨rr_3995, W2_3996⟩ := u_
  obtain ⟨hq_3997, hq_3998⟩ : ((o_addSes (dC M) (sx9 xs (i9 + 1))).1 = 0 → rr_3995 = (o_addSes (dC M) (sx9 xs (i9 + 1))).2.1) ∧ MdW G m0 (if (o_addSes (dC M) (sx9 xs (i9 + 1))).1 = 0 then (((o_addSes (dC M) (sx9 xs (i9 + 1))).2.2, dS M, min 6 (dK M + 1), hsR (dH M) (dK M) (dC M), dL M, dN M) : DS) else M) (o_addSes (dC M) (sx9 xs (i9 + 1))).1 W2_3996 := hq
  have hpm_3999 : (([(oD, .inl (G.2 6, 1, .inr (.inr (.inr (.inl og))))), (o, .inl (G.2 5, 1, .inr (.inl of2_3986)))] ++ (W2_3988 ++ [])) ++ (W2_3996 ++ []) : va_W).Perm ([(oD, .inl (G.2 6, 1, .inr (.inr (.inr (.inl og))))), (o, .inl (G.2 5, 1, .inr (.inl of2_3986)))] ++ (W2_3988 ++ (W2_3996 ++ []))) := segs_perm2 [[(oD, .inl (G.2 6, 1, .inr (.inr (.inr (.inl og)))))], [(o, .inl (G.2 5, 1, .inr (.inl of2_3986)))], W2_3988] [W2_3996] [0, 1, 2, 3] rfl
  have hP : va_P G.1 CL ([(oD, .inl (G.2 6, 1, .inr (.inr (.inr (.inl og))))), (o, .inl (G.2 5, 1, .inr (.inl of2_3986)))] ++ (W2_3988 ++ (W2_3996 ++ []))) H := P_perm hpm_3999 hP
  have hD : va_D A ([(oD, .inl (G.2 6, 1, .inr (.inr (.inr (.inl og))))), (o, .inl (G.2 5, 1, .inr (.inl of2_3986)))] ++ (W2_3988 ++ (W2_3996 ++ []))) := D_perm hpm_3999 hD
  refine W.eq (g2 := F0 m 865 ls [.int rr_3995]) rfl ?_
  refine lv_istore (lv' := [(7, .int rr_3995), (6, .int (nI ((o_addSes (dC C) (sx9 xs (i9 + 1))).1))), (0, .ref b), (1, .ref d), (2, .ref m0), (3, .ref o), (4, .ref oD), (5, .int (nI i9))]) hx hb dL_law_865 hl (by decide) rfl (fun ls hl => ?_)
  refine lv_aload_n hx hb dL_law_867 rfl (lv_at hl 4 rfl) ?_
  have hpm_4000 : (([(oD, .inl (G.2 6, 1, .inr (.inr (.inr (.inl og))))), (o, .inl (G.2 5, 1, .inr (.inl of2_3986)))] ++ (W2_3988 ++ (W2_3996 ++ []))) : va_W).Perm ([] ++ ([(oD, .inl (G.2 6, 1, .inr (.inr (.inr (.inl og))))), (o, .inl (G.2 5, 1, .inr (.inl of2_3986)))] ++ (W2_3988 ++ (W2_3996 ++ [])))) := segs_perm [[(oD, .inl (G.2 6, 1, .inr (.inr (.inr (.inl og)))))], [(o, .inl (G.2 5, 1, .inr (.inl of2_3986)))], W2_3988, W2_3996] [] [0, 1, 2, 3] rfl
  have hF := hF_ofP (wc := []) hD hS hA hpm_4000
  refine go_ctP hS hP hD hpm_4000 hF
      (va_runV (As := []) (rest := []) cf (eX4_thrown l G m0 (if ((o_addSes (dC M) d)).1 = 0 then ((((o_addSes (dC M) d)).2.2, dS M, min 6 (dK M + 1), hsR (dH M) (dK M) (dC M), dL M, dN M) : DS) else M) (((o_addSes (dC M) d)).1) W2_3996 (hq_3998) H.size) (cwV 0 hts (lw_V q1639 q1640 q1641 q58 q1642) rfl rfl rfl (by decide +kernel) ⟨Nat.le_of_ble_eq_true rfl, Nat.le_of_ble_eq_true rfl⟩) (preV_of hKB hE hS hF (MdW.recv hK hq_3998 (seg_at [[(oD, .inl (G.2 6, 1, .inr (.inr (.inr (.inl og)))))], [(o, .inl (G.2 5, 1, .inr (.inl of2_3986)))], W2_3988, W2_3996] 3 rfl hP)) (P_left (P_perm hpm_4000 hP)) ((D_left (D_perm hpm_4000 hD)).weaken (fun _ _ _ _ => trivial)) (roW.nil (seg_at [[(oD, .inl (G.2 6, 1, .inr (.inr (.inr (.inl og)))))], [(o, .inl (G.2 5, 1, .inr (.inl of2_3986)))], W2_3988, W2_3996] 3 rfl hP))) rfl rfl hl.1 rfl (lv_room (Nat.le_of_ble_eq_true rfl)) dL_law_868 ⟨show cl + (4 + 101) + 0 ≤ 1200144 from by first | decide | omega, show sl + (64 + 5800) + 0 ≤ 5495674 from by first | decide | omega⟩)
      (fun u_ H locs hq hph (hP : va_P G.1 CL (([(oD, .inl (G.2 6, 1, .inr (.inr (.inr (.inl og))))), (o, .inl (G.2 5, 1, .inr (.inl of2_3986)))] ++ (W2_3988 ++ (W2_3996 ++ []))) ++ []) H) (hD : va_D A (([(oD, .inl (G.2 6, 1, .inr (.inr (.inr (.inl og))))), (o, .inl (G.2 5, 1, .inr (.inl of2_3986)))] ++ (W2_3988 ++ (W2_3996 ++ []))) ++ [])) hS hfz hfk => ?_)
  have hpm_4001 : (([(oD, .inl (G.2 6, 1, .inr (.inr (.inr (.inl og))))), (o, .inl (G.2 5, 1, .inr (.inl of2_3986)))] ++ (W2_3988 ++ (W2_3996 ++ []))) ++ [] : va_W).Perm ([(oD, .inl (G.2 6, 1, .inr (.inr (.inr (.inl og))))), (o, .inl (G.2 5, 1, .inr (.inl of2_3986)))] ++ (W2_3988 ++ (W2_3996 ++ []))) := segs_perm2 [[(oD, .inl (G.2 6, 1, .inr (.inr (.inr (.inl og)))))], [(o, .inl (G.2 5, 1, .inr (.inl of2_3986)))], W2_3988, W2_3996] [] [0, 1, 2, 3] rfl
  have hP : va_P G.1 CL ([(oD, .inl (G.2 6, 1, .inr (.inr (.inr (.inl og))))), (o, .inl (G.2 5, 1, .inr (.inl of2_3986)))] ++ (W2_3988 ++ (W2_3996 ++ []))) H := P_perm hpm_4001 hP
  have hD : va_D A ([(oD, .inl (G.2 6, 1, .inr (.inr (.inr (.inl og))))), (o, .inl (G.2 5, 1, .inr (.inl of2_3986)))] ++ (W2_3988 ++ (W2_3996 ++ []))) := D_perm hpm_4001 hD
  refine W.eq (g2 := F0 m 871 ls [.int (nI (((o_addSes (dC M) d)).1))]) rfl ?_
  refine lv_ton (n := ((o_addSes (dC C) (sx9 xs (i9 + 1))).1)) (congrArg nI hqs.1.symm) ?_
  refine lv_iload hx hb dL_law_871 (lv_at hl 1 rfl) ?_
  refine lv_icmp_eq (tgt := 878) hx hb dL_law_873 (by decide) (fun _ => ?_) (fun c9 => absurd rfl c9)
  refine lv_iload hx hb dL_law_878 (lv_at hl 1 rfl) ?_
  refine n_if_ne (tgt := 895) hx hb (by omega) dL_law_880 (by decide) (fun c_4002 => ?_) (fun c_4002 => ?_)
  · refine lv_goto (tgt := 2788) hx hb dL_law_895 (by decide) ?_
    have hpm_4003 : (([(oD, .inl (G.2 6, 1, .inr (.inr (.inr (.inl og))))), (o, .inl (G.2 5, 1, .inr (.inl of2_3986)))] ++ (W2_3988 ++ (W2_3996 ++ []))) : va_W).Perm (([(o, .inl (G.2 5, 1, .inr (.inl of2_3986))), (oD, .inl (G.2 6, 1, .inr (.inr (.inr (.inl og)))))] ++ (W2_3988 ++ (W2_3996 ++ []))) ++ []) := segs_perm [[(oD, .inl (G.2 6, 1, .inr (.inr (.inr (.inl og)))))], [(o, .inl (G.2 5, 1, .inr (.inl of2_3986)))], W2_3988, W2_3996] [1, 0, 2, 3] [] rfl
    have hP : va_P G.1 CL ([(o, .inl (G.2 5, 1, .inr (.inl of2_3986))), (oD, .inl (G.2 6, 1, .inr (.inr (.inr (.inl og)))))] ++ (W2_3988 ++ (W2_3996 ++ []))) H := P_left (P_perm hpm_4003 hP)
    have hD : va_D A ([(o, .inl (G.2 5, 1, .inr (.inl of2_3986))), (oD, .inl (G.2 6, 1, .inr (.inr (.inr (.inl og)))))] ++ (W2_3988 ++ (W2_3996 ++ []))) := D_left (D_perm hpm_4003 hD)
    have hl := lv_sub hl [2, 3, 4, 5, 6, 7] (l' := [(0, .ref b), (1, .ref d), (2, .ref m0), (3, .ref o), (4, .ref oD), (5, .int (nI i9))]) rfl
    exact W.widen (show cl + (4 + 101) ≤ cl + 20000 from by omega) (show sl + (64 + 5800) ≤ sl + 45000 from by omega) (kk ls H locs S2_3987 (if ((o_addSes (dC M) d)).1 = 0 then ((((o_addSes (dC M) d)).2.2, dS M, min 6 (dK M + 1), hsR (dH M) (dK M) (dC M), dL M, dN M) : DS) else M) (((o_addSes (dC M) d)).1) W2_3988 W2_3996 of2_3986 og hP hD hS hl hq_3992 hq_3998 (hLw.mut hqs hq_3990 (o_addSes_b (dC C) (sx9 xs (i9 + 1)))))
  · refine lv_aload_n hx hb dL_law_883 rfl (lv_at hl 5 rfl) ?_
    refine lv_iconst (v := nI 0) hx hb dL_law_884 (by decide) ?_
    refine r_lald (v := (((o_addSes (dC C) (sx9 xs (i9 + 1)))).2.1).toInt64) hx hb hK hP 1 5 rfl rfl (i := 0) (by omega) (by omega) ((hq_3989 (by omega))) dL_law_885 ?_
    refine lv_iload hx hb dL_law_886 (lv_at hl 0 rfl) ?_
    refine lv_toi (y := ((o_addSes (dC C) (sx9 xs (i9 + 1)))).2.1) ((hq_3997 (hqs.1.symm.trans (by omega))).trans hqs.2.1.symm) ?_
    refine lv_i2l (v := (((o_addSes (dC C) (sx9 xs (i9 + 1)))).2.1).toInt64) hx hb dL_law_888 rfl ?_
    refine W.lcmp hx hb dL_law_889 ?_
    refine lv_ton (n := 0) (lcmp0 _) ?_
    refine n_if_eq (tgt := 895) hx hb (by omega) dL_law_890 (by decide) (fun c_4004 => ?_) (fun c_4004 => absurd c_4004 (by omega))
    refine lv_goto (tgt := 2788) hx hb dL_law_895 (by decide) ?_
    have hpm_4005 : (([(oD, .inl (G.2 6, 1, .inr (.inr (.inr (.inl og))))), (o, .inl (G.2 5, 1, .inr (.inl of2_3986)))] ++ (W2_3988 ++ (W2_3996 ++ []))) : va_W).Perm (([(o, .inl (G.2 5, 1, .inr (.inl of2_3986))), (oD, .inl (G.2 6, 1, .inr (.inr (.inr (.inl og)))))] ++ (W2_3988 ++ (W2_3996 ++ []))) ++ []) := segs_perm [[(oD, .inl (G.2 6, 1, .inr (.inr (.inr (.inl og)))))], [(o, .inl (G.2 5, 1, .inr (.inl of2_3986)))], W2_3988, W2_3996] [1, 0, 2, 3] [] rfl
    have hP : va_P G.1 CL ([(o, .inl (G.2 5, 1, .inr (.inl of2_3986))), (oD, .inl (G.2 6, 1, .inr (.inr (.inr (.inl og)))))] ++ (W2_3988 ++ (W2_3996 ++ []))) H := P_left (P_perm hpm_4005 hP)
    have hD : va_D A ([(o, .inl (G.2 5, 1, .inr (.inl of2_3986))), (oD, .inl (G.2 6, 1, .inr (.inr (.inr (.inl og)))))] ++ (W2_3988 ++ (W2_3996 ++ []))) := D_left (D_perm hpm_4005 hD)
    have hl := lv_sub hl [2, 3, 4, 5, 6, 7] (l' := [(0, .ref b), (1, .ref d), (2, .ref m0), (3, .ref o), (4, .ref oD), (5, .int (nI i9))]) rfl
    exact W.widen (show cl + (4 + 101) ≤ cl + 20000 from by omega) (show sl + (64 + 5800) ≤ sl + 45000 from by omega) (kk ls H locs S2_3987 (if ((o_addSes (dC M) d)).1 = 0 then ((((o_addSes (dC M) d)).2.2, dS M, min 6 (dK M + 1), hsR (dH M) (dK M) (dC M), dL M, dN M) : DS) else M) (((o_addSes (dC M) d)).1) W2_3988 W2_3996 of2_3986 og hP hD hS hl hq_3992 hq_3998 (hLw.mut hqs hq_3990 (o_addSes_b (dC C) (sx9 xs (i9 + 1)))))

set_option maxHeartbeats 4000000 in
theorem lawK_12 {p : Program} {l : Launch} {e : Env} {s : State} {m : MethodId} {below : List Frame} {meth : Method} {c : Code} {G : Gt} {A : Nat → Prop} {b L : Nat} {xs : Nat → Int32} {Q : State → Prop} {d m0 o oD i9 N cl sl : Nat} (hfl : l.stackTraces = false) (F : LwF G A p s m c b L xs) (hi9 : i9 + 4 ≤ L) (hN24 : N ≤ 24) (hcl : cl + 20000 ≤ 1200144) (hsl : sl + 45000 ≤ 5495674) (kk : ∀ (ls : Array Slot) (H : Heap) (locs : List Loc) (C M : DS) (th : Nat) (WD WM : va_W) (of : Nat → Int64) (og : Nat → UInt64), va_P G.1 CL ([(o, .inl (G.2 5, 1, .inr (.inl of))), (oD, .inl (G.2 6, 1, .inr (.inr (.inr (.inl og)))))] ++ (WD ++ (WM ++ []))) H → va_D A ([(o, .inl (G.2 5, 1, .inr (.inl of))), (oD, .inl (G.2 6, 1, .inr (.inr (.inr (.inl og)))))] ++ (WD ++ (WM ++ []))) → va_S A s.heap H locs → lv_has ls 10 [(0, .ref b), (1, .ref d), (2, .ref m0), (3, .ref o), (4, .ref oD), (5, .int (nI i9))] → DyW G d C WD → MdW G m0 M th WM → LawI C M (N + 1) → W p l e room_1 s m #[Value.ref b] below meth c H locs (cl + 20000) (sl + 45000) Q (F0 m 2788 ls [])) {ls : Array Slot} {H : Heap} {locs : List Loc} {C M : DS} {th : Nat} {WD WM : va_W} {of : Nat → Int64} {og : Nat → UInt64} (hP : va_P G.1 CL ([(o, .inl (G.2 5, 1, .inr (.inl of))), (oD, .inl (G.2 6, 1, .inr (.inr (.inr (.inl og)))))] ++ (WD ++ (WM ++ []))) H) (hD : va_D A ([(o, .inl (G.2 5, 1, .inr (.inl of))), (oD, .inl (G.2 6, 1, .inr (.inr (.inr (.inl og)))))] ++ (WD ++ (WM ++ [])))) (hS : va_S A s.heap H locs) (hl : lv_has ls 10 [(0, .ref b), (1, .ref d), (2, .ref m0), (3, .ref o), (4, .ref oD), (5, .int (nI i9))]) (hDy : DyW G d C WD) (hMd : MdW G m0 M th WM) (hLw : LawI C M N) : W p l e room_1 s m #[Value.ref b] below meth c H locs cl sl Q (F0 m 898 ls []) := by
  obtain ⟨cf, hKB, hE, hA, hX9, hbl, hbA, hNc, hL96⟩ := F
  have hx := cf.1
  have hb := cf.2.1
  have hml := cf.2.2.1
  have hown : s.vm.findClass RX0 = some m.cls := cf.2.2.2.1
  have hts := cf.2.2.2.2
  have hK := hKB.1
  have hIc := hDy.inv.1
  have hIm : Inv (dC M) := Inv_sim hLw.1 hIc
  have hRk : RkOk (dC M) := RkOk_sim hLw.1 (RkOk_srt hDy.inv.2.2)
  have hl := hl
  refine lv_aload_n hx hb dL_law_898 rfl (lv_at hl 1 rfl) ?_
  refine lv_aload_n hx hb dL_law_899 rfl (lv_at hl 0 rfl) ?_
  refine lv_iload hx hb dL_law_900 (lv_at hl 5 rfl) ?_
  refine lv_iconst (v := nI 1) hx hb dL_law_902 (by decide) ?_
  refine lv_iadd hx hb dL_law_903 ?_
  refine lv_ton (n := i9 + 1) (nadd (by omega)) ?_
  refine va_sld hx hb hX9 hbl hbA hS (i := nI (i9 + 1)) (vp9 (by omega) hL96) dL_law_904 ?_
  refine W.eq (g2 := F0 m 905 ls [.int (sx9 xs (i9 + 1)), .ref d]) rfl ?_
  refine lv_aload_n hx hb dL_law_905 rfl (lv_at hl 0 rfl) ?_
  refine lv_iload hx hb dL_law_906 (lv_at hl 5 rfl) ?_
  refine lv_iconst (v := nI 2) hx hb dL_law_908 (by decide) ?_
  refine lv_iadd hx hb dL_law_909 ?_
  refine lv_ton (n := i9 + 2) (nadd (by omega)) ?_
  refine va_sld hx hb hX9 hbl hbA hS (i := nI (i9 + 2)) (vp9 (by omega) hL96) dL_law_910 ?_
  refine W.eq (g2 := F0 m 911 ls [.int (sx9 xs (i9 + 2)), .int (sx9 xs (i9 + 1)), .ref d]) rfl ?_
  refine lv_aload_n hx hb dL_law_911 rfl (lv_at hl 0 rfl) ?_
  refine lv_iload hx hb dL_law_912 (lv_at hl 5 rfl) ?_
  refine lv_iconst (v := nI 3) hx hb dL_law_914 (by decide) ?_
  refine lv_iadd hx hb dL_law_915 ?_
  refine lv_ton (n := i9 + 3) (nadd (by omega)) ?_
  refine va_sld hx hb hX9 hbl hbA hS (i := nI (i9 + 3)) (vp9 (by omega) hL96) dL_law_916 ?_
  refine W.eq (g2 := F0 m 917 ls [.int (sx9 xs (i9 + 3)), .int (sx9 xs (i9 + 2)), .int (sx9 xs (i9 + 1)), .ref d]) rfl ?_
  refine lv_aload_n hx hb dL_law_917 rfl (lv_at hl 3 rfl) ?_
  have hpm_4006 : (([(o, .inl (G.2 5, 1, .inr (.inl of))), (oD, .inl (G.2 6, 1, .inr (.inr (.inr (.inl og)))))] ++ (WD ++ (WM ++ []))) : va_W).Perm (([(o, .inl (G.2 5, 1, .inr (.inl of)))] ++ (WD ++ [])) ++ ([(oD, .inl (G.2 6, 1, .inr (.inr (.inr (.inl og)))))] ++ (WM ++ []))) := segs_perm [[(o, .inl (G.2 5, 1, .inr (.inl of)))], [(oD, .inl (G.2 6, 1, .inr (.inr (.inr (.inl og)))))], WD, WM] [0, 2] [1, 3] rfl
  have hF := hF_ofP (wc := ([(o, .inl (G.2 5, 1, .inr (.inl of)))] ++ (WD ++ []))) hD hS hA hpm_4006
  refine go_ctP hS hP hD hpm_4006 hF
      (vx_runSW (As := [.ref d, .int (sx9 xs (i9 + 1)), .int (sx9 xs (i9 + 2)), .int (sx9 xs (i9 + 3)), .ref o]) (rest := []) cf (wX0_addPart l G d C WD o of (sx9 xs (i9 + 1)) (sx9 xs (i9 + 2)) (sx9 xs (i9 + 3)) (hDy) hfl H.size) (vx_cwSW 5 hts (lw_SW q1127 q1128 q46 q1129) rfl rfl rfl (by decide +kernel) ⟨Nat.le_of_ble_eq_true rfl, Nat.le_of_ble_eq_true rfl⟩) (preS_ofW hNc hKB hE hS hF (P_left (P_perm hpm_4006 hP)) ((D_left (D_perm hpm_4006 hD)).weaken (fun _ _ _ _ => trivial)) trivial) rfl rfl hl.1 rfl (lv_room (Nat.le_of_ble_eq_true rfl)) dL_law_918 ⟨show cl + (5 + 101) ≤ 1200144 from by first | decide | omega, show sl + (90 + 5800) ≤ 5495674 from by first | decide | omega⟩)
      (fun u_ H locs hq hph (hP : va_P G.1 CL (([(oD, .inl (G.2 6, 1, .inr (.inr (.inr (.inl og)))))] ++ (WM ++ [])) ++ ([(o, .inl (G.2 5, 1, .inr (.inl u_.1)))] ++ (u_.2.2 ++ []))) H) (hD : va_D A (([(oD, .inl (G.2 6, 1, .inr (.inr (.inr (.inl og)))))] ++ (WM ++ [])) ++ ([(o, .inl (G.2 5, 1, .inr (.inl u_.1)))] ++ (u_.2.2 ++ [])))) hS hfz hfk => ?_)
  obtain ⟨of2_4007, S2_4008, W2_4009⟩ := u_
  obtain ⟨hq_4010, hq_4011, hq_4012, hq_4013⟩ : ((o_addPart (dC C) (sx9 xs (i9 + 1)) (sx9 xs (i9 + 2)) (sx9 xs (i9 + 3))).1 = 0 → of2_4007 0 = ((o_addPart (dC C) (sx9 xs (i9 + 1)) (sx9 xs (i9 + 2)) (sx9 xs (i9 + 3))).2.1).toInt64) ∧ NxS C (o_addPart (dC C) (sx9 xs (i9 + 1)) (sx9 xs (i9 + 2)) (sx9 xs (i9 + 3))) S2_4008 ∧ (o_addPart (dC C) (sx9 xs (i9 + 1)) (sx9 xs (i9 + 2)) (sx9 xs (i9 + 3))).1 < 10 ∧ DyW G d S2_4008 W2_4009 := hq
  have hpm_4014 : (([(oD, .inl (G.2 6, 1, .inr (.inr (.inr (.inl og)))))] ++ (WM ++ [])) ++ ([(o, .inl (G.2 5, 1, .inr (.inl of2_4007)))] ++ (W2_4009 ++ [])) : va_W).Perm ([(oD, .inl (G.2 6, 1, .inr (.inr (.inr (.inl og))))), (o, .inl (G.2 5, 1, .inr (.inl of2_4007)))] ++ (WM ++ (W2_4009 ++ []))) := segs_perm2 [[(oD, .inl (G.2 6, 1, .inr (.inr (.inr (.inl og)))))], WM] [[(o, .inl (G.2 5, 1, .inr (.inl of2_4007)))], W2_4009] [0, 2, 1, 3] rfl
  have hP : va_P G.1 CL ([(oD, .inl (G.2 6, 1, .inr (.inr (.inr (.inl og))))), (o, .inl (G.2 5, 1, .inr (.inl of2_4007)))] ++ (WM ++ (W2_4009 ++ []))) H := P_perm hpm_4014 hP
  have hD : va_D A ([(oD, .inl (G.2 6, 1, .inr (.inr (.inr (.inl og))))), (o, .inl (G.2 5, 1, .inr (.inl of2_4007)))] ++ (WM ++ (W2_4009 ++ []))) := D_perm hpm_4014 hD
  refine W.eq (g2 := F0 m 921 ls [.int (nI ((o_addPart (dC C) (sx9 xs (i9 + 1)) (sx9 xs (i9 + 2)) (sx9 xs (i9 + 3))).1))]) rfl ?_
  have hqs : SimR (o_addPart (dC C) (sx9 xs (i9 + 1)) (sx9 xs (i9 + 2)) (sx9 xs (i9 + 3))) (o_addPart (dC M) id mn it) := o_addPart_sim hLw.1 hIc (sx9 xs (i9 + 1)) (sx9 xs (i9 + 2)) (sx9 xs (i9 + 3))
  refine lv_istore (lv' := [(6, .int (nI ((o_addPart (dC C) (sx9 xs (i9 + 1)) (sx9 xs (i9 + 2)) (sx9 xs (i9 + 3))).1))), (0, .ref b), (1, .ref d), (2, .ref m0), (3, .ref o), (4, .ref oD), (5, .int (nI i9))]) hx hb dL_law_921 hl (by decide) rfl (fun ls hl => ?_)
  refine lv_aload_n hx hb dL_law_923 rfl (lv_at hl 3 rfl) ?_
  refine lv_aload_n hx hb dL_law_924 rfl (lv_at hl 1 rfl) ?_
  refine lv_iload hx hb dL_law_925 (lv_at hl 6 rfl) ?_
  refine lv_iconst (v := nI 1) hx hb dL_law_927 (by decide) ?_
  refine lv_iadd hx hb dL_law_928 ?_
  refine lv_ton (n := i9 + 1) (nadd (by omega)) ?_
  refine va_sld hx hb hX9 hbl hbA hS (i := nI (i9 + 1)) (vp9 (by omega) hL96) dL_law_929 ?_
  refine W.eq (g2 := F0 m 930 ls [.int (sx9 xs (i9 + 1)), .ref m0]) rfl ?_
  refine lv_aload_n hx hb dL_law_930 rfl (lv_at hl 1 rfl) ?_
  refine lv_iload hx hb dL_law_931 (lv_at hl 6 rfl) ?_
  refine lv_iconst (v := nI 2) hx hb dL_law_933 (by decide) ?_
  refine lv_iadd hx hb dL_law_934 ?_
  refine lv_ton (n := i9 + 2) (nadd (by omega)) ?_
  refine va_sld hx hb hX9 hbl hbA hS (i := nI (i9 + 2)) (vp9 (by omega) hL96) dL_law_935 ?_
  refine W.eq (g2 := F0 m 936 ls [.int (sx9 xs (i9 + 2)), .int (sx9 xs (i9 + 1)), .ref m0]) rfl ?_
  refine lv_aload_n hx hb dL_law_936 rfl (lv_at hl 1 rfl) ?_
  refine lv_iload hx hb dL_law_937 (lv_at hl 6 rfl) ?_
  refine lv_iconst (v := nI 3) hx hb dL_law_939 (by decide) ?_
  refine lv_iadd hx hb dL_law_940 ?_
  refine lv_ton (n := i9 + 3) (nadd (by omega)) ?_
  refine va_sld hx hb hX9 hbl hbA hS (i := nI (i9 + 3)) (vp9 (by omega) hL96) dL_law_941 ?_
  refine W.eq (g2 := F0 m 942 ls [.int (sx9 xs (i9 + 3)), .int (sx9 xs (i9 + 2)), .int (sx9 xs (i9 + 1)), .ref m0]) rfl ?_
  have hpm_4015 : (([(oD, .inl (G.2 6, 1, .inr (.inr (.inr (.inl og))))), (o, .inl (G.2 5, 1, .inr (.inl of2_4007)))] ++ (WM ++ (W2_4009 ++ []))) : va_W).Perm ((WM ++ []) ++ ([(oD, .inl (G.2 6, 1, .inr (.inr (.inr (.inl og))))), (o, .inl (G.2 5, 1, .inr (.inl of2_4007)))] ++ (W2_4009 ++ []))) := segs_perm [[(oD, .inl (G.2 6, 1, .inr (.inr (.inr (.inl og)))))], [(o, .inl (G.2 5, 1, .inr (.inl of2_4007)))], WM, W2_4009] [2] [0, 1, 3] rfl
  have hF := hF_ofP (wc := (WM ++ [])) hD hS hA hpm_4015
  refine go_ctP hS hP hD hpm_4015 hF
      (va_runV (As := [.int (sx9 xs (i9 + 1)), .int (sx9 xs (i9 + 2)), .int (sx9 xs (i9 + 3))]) (rest := []) cf (eX4_addPart l G m0 M th WM (sx9 xs (i9 + 1)) (sx9 xs (i9 + 2)) (sx9 xs (i9 + 3)) (hMd) (hIm) H.size) (cwV 3 hts (lw_V q1735 q1736 q1737 q58 q1738) rfl rfl rfl (by decide +kernel) ⟨Nat.le_of_ble_eq_true rfl, Nat.le_of_ble_eq_true rfl⟩) (preV_of hKB hE hS hF (MdW.recv hK hMd (seg_at [[(oD, .inl (G.2 6, 1, .inr (.inr (.inr (.inl og)))))], [(o, .inl (G.2 5, 1, .inr (.inl of2_4007)))], WM, W2_4009] 2 rfl hP)) (P_left (P_perm hpm_4015 hP)) ((D_left (D_perm hpm_4015 hD)).weaken (fun _ _ _ _ => trivial)) trivial) rfl rfl hl.1 rfl (lv_room (Nat.le_of_ble_eq_true rfl)) dL_law_942 ⟨show cl + (5 + 101) + 0 ≤ 1200144 from by first | decide | omega, show sl + (90 + 5800) + 0 ≤ 5495674 from by first | decide | omega⟩)
      (fun u_ H locs hq hph (hP : va_P G.1 CL (([(oD, .inl (G.2 6, 1, .inr (.inr (.inr (.inl og))))), (o, .inl (G.2 5, 1, .inr (.inl of2_4007)))] ++ (W2_4009 ++ [])) ++ (u_.2 ++ [])) H) (hD : va_D A (([(oD, .inl (G.2 6, 1, .inr (.inr (.inr (.inl og))))), (o, .inl (G.2 5, 1, .inr (.inl of2_4007)))] ++ (W2_4009 ++ [])) ++ (u_.2 ++ []))) hS hfz hfk => ?_)
  obtain ⟨rr_4016, W2_4017⟩ := u_
  obtain ⟨hq_4018, hq_4019⟩ : ((o_addPart (dC M) (sx9 xs (i9 + 1)) (sx9 xs (i9 + 2)) (sx9 xs (i9 + 3))).1 = 0 → rr_4016 = (o_addPart (dC M) (sx9 xs (i9 + 1)) (sx9 xs (i9 + 2)) (sx9 xs (i9 + 3))).2.1) ∧ MdW G m0 (if (o_addPart (dC M) (sx9 xs (i9 + 1)) (sx9 xs (i9 + 2)) (sx9 xs (i9 + 3))).1 = 0 then (((o_addPart (dC M) (sx9 xs (i9 + 1)) (sx9 xs (i9 + 2)) (sx9 xs (i9 + 3))).2.2, dS M, min 6 (dK M + 1), hsR (dH M) (dK M) (dC M), dL M, dN M) : DS) else M) (o_addPart (dC M) (sx9 xs (i9 + 1)) (sx9 xs (i9 + 2)) (sx9 xs (i9 + 3))).1 W2_4017 := hq
  have hpm_4020 : (([(oD, .inl (G.2 6, 1, .inr (.inr (.inr (.inl og))))), (o, .inl (G.2 5, 1, .inr (.inl of2_4007)))] ++ (W2_4009 ++ [])) ++ (W2_4017 ++ []) : va_W).Perm ([(oD, .inl (G.2 6, 1, .inr (.inr (.inr (.inl og))))), (o, .inl (G.2 5, 1, .inr (.inl of2_4007)))] ++ (W2_4009 ++ (W2_4017 ++ []))) := segs_perm2 [[(oD, .inl (G.2 6, 1, .inr (.inr (.inr (.inl og)))))], [(o, .inl (G.2 5, 1, .inr (.inl of2_4007)))], W2_4009] [W2_4017] [0, 1, 2, 3] rfl
  have hP : va_P G.1 CL ([(oD, .inl (G.2 6, 1, .inr (.inr (.inr (.inl og))))), (o, .inl (G.2 5, 1, .inr (.inl of2_4007)))] ++ (W2_4009 ++ (W2_4017 ++ []))) H := P_perm hpm_4020 hP
  have hD : va_D A ([(oD, .inl (G.2 6, 1, .inr (.inr (.inr (.inl og))))), (o, .inl (G.2 5, 1, .inr (.inl of2_4007)))] ++ (W2_4009 ++ (W2_4017 ++ []))) := D_perm hpm_4020 hD
  refine W.eq (g2 := F0 m 945 ls [.int rr_4016]) rfl ?_
  refine lv_istore (lv' := [(7, .int rr_4016), (6, .int (nI ((o_addPart (dC C) (sx9 xs (i9 + 1)) (sx9 xs (i9 + 2)) (sx9 xs (i9 + 3))).1))), (0, .ref b), (1, .ref d), (2, .ref m0), (3, .ref o), (4, .ref oD), (5, .int (nI i9))]) hx hb dL_law_945 hl (by decide) rfl (fun ls hl => ?_)
  refine lv_aload_n hx hb dL_law_947 rfl (lv_at hl 4 rfl) ?_
  have hpm_4021 : (([(oD, .inl (G.2 6, 1, .inr (.inr (.inr (.inl og))))), (o, .inl (G.2 5, 1, .inr (.inl of2_4007)))] ++ (W2_4009 ++ (W2_4017 ++ []))) : va_W).Perm ([] ++ ([(oD, .inl (G.2 6, 1, .inr (.inr (.inr (.inl og))))), (o, .inl (G.2 5, 1, .inr (.inl of2_4007)))] ++ (W2_4009 ++ (W2_4017 ++ [])))) := segs_perm [[(oD, .inl (G.2 6, 1, .inr (.inr (.inr (.inl og)))))], [(o, .inl (G.2 5, 1, .inr (.inl of2_4007)))], W2_4009, W2_4017] [] [0, 1, 2, 3] rfl
  have hF := hF_ofP (wc := []) hD hS hA hpm_4021
  refine go_ctP hS hP hD hpm_4021 hF
      (va_runV (As := []) (rest := []) cf (eX4_thrown l G m0 (if ((o_addPart (dC M) id mn it)).1 = 0 then ((((o_addPart (dC M) id mn it)).2.2, dS M, min 6 (dK M + 1), hsR (dH M) (dK M) (dC M), dL M, dN M) : DS) else M) (((o_addPart (dC M) id mn it)).1) W2_4017 (hq_4019) H.size) (cwV 0 hts (lw_V q1639 q1640 q1641 q58 q1642) rfl rfl rfl (by decide +kernel) ⟨Nat.le_of_ble_eq_true rfl, Nat.le_of_ble_eq_true rfl⟩) (preV_of hKB hE hS hF (MdW.recv hK hq_4019 (seg_at [[(oD, .inl (G.2 6, 1, .inr (.inr (.inr (.inl og)))))], [(o, .inl (G.2 5, 1, .inr (.inl of2_4007)))], W2_4009, W2_4017] 3 rfl hP)) (P_left (P_perm hpm_4021 hP)) ((D_left (D_perm hpm_4021 hD)).weaken (fun _ _ _ _ => trivial)) (roW.nil (seg_at [[(oD, .inl (G.2 6, 1, .inr (.inr (.inr (.inl og)))))], [(o, .inl (G.2 5, 1, .inr (.inl of2_4007)))], W2_4009, W2_4017] 3 rfl hP))) rfl rfl hl.1 rfl (lv_room (Nat.le_of_ble_eq_true rfl)) dL_law_948 ⟨show cl + (5 + 101) + 0 ≤ 1200144 from by first | decide | omega, show sl + (90 + 5800) + 0 ≤ 5495674 from by first | decide | omega⟩)
      (fun u_ H locs hq hph (hP : va_P G.1 CL (([(oD, .inl (G.2 6, 1, .inr (.inr (.inr (.inl og))))), (o, .inl (G.2 5, 1, .inr (.inl of2_4007)))] ++ (W2_4009 ++ (W2_4017 ++ []))) ++ []) H) (hD : va_D A (([(oD, .inl (G.2 6, 1, .inr (.inr (.inr (.inl og))))), (o, .inl (G.2 5, 1, .inr (.inl of2_4007)))] ++ (W2_4009 ++ (W2_4017 ++ []))) ++ [])) hS hfz hfk => ?_)
  have hpm_4022 : (([(oD, .inl (G.2 6, 1, .inr (.inr (.inr (.inl og))))), (o, .inl (G.2 5, 1, .inr (.inl of2_4007)))] ++ (W2_4009 ++ (W2_4017 ++ []))) ++ [] : va_W).Perm ([(oD, .inl (G.2 6, 1, .inr (.inr (.inr (.inl og))))), (o, .inl (G.2 5, 1, .inr (.inl of2_4007)))] ++ (W2_4009 ++ (W2_4017 ++ []))) := segs_perm2 [[(oD, .inl (G.2 6, 1, .inr (.inr (.inr (.inl og)))))], [(o, .inl (G.2 5, 1, .inr (.inl of2_4007)))], W2_4009, W2_4017] [] [0, 1, 2, 3] rfl
  have hP : va_P G.1 CL ([(oD, .inl (G.2 6, 1, .inr (.inr (.inr (.inl og))))), (o, .inl (G.2 5, 1, .inr (.inl of2_4007)))] ++ (W2_4009 ++ (W2_4017 ++ []))) H := P_perm hpm_4022 hP
  have hD : va_D A ([(oD, .inl (G.2 6, 1, .inr (.inr (.inr (.inl og))))), (o, .inl (G.2 5, 1, .inr (.inl of2_4007)))] ++ (W2_4009 ++ (W2_4017 ++ []))) := D_perm hpm_4022 hD
  refine W.eq (g2 := F0 m 951 ls [.int (nI (((o_addPart (dC M) id mn it)).1))]) rfl ?_
  refine lv_ton (n := ((o_addPart (dC C) (sx9 xs (i9 + 1)) (sx9 xs (i9 + 2)) (sx9 xs (i9 + 3))).1)) (congrArg nI hqs.1.symm) ?_
  refine lv_iload hx hb dL_law_951 (lv_at hl 1 rfl) ?_
  refine lv_icmp_eq (tgt := 958) hx hb dL_law_953 (by decide) (fun _ => ?_) (fun c9 => absurd rfl c9)
  refine lv_iload hx hb dL_law_958 (lv_at hl 1 rfl) ?_
  refine n_if_ne (tgt := 975) hx hb (by omega) dL_law_960 (by decide) (fun c_4023 => ?_) (fun c_4023 => ?_)
  · refine lv_goto (tgt := 2788) hx hb dL_law_975 (by decide) ?_
    have hpm_4024 : (([(oD, .inl (G.2 6, 1, .inr (.inr (.inr (.inl og))))), (o, .inl (G.2 5, 1, .inr (.inl of2_4007)))] ++ (W2_4009 ++ (W2_4017 ++ []))) : va_W).Perm (([(o, .inl (G.2 5, 1, .inr (.inl of2_4007))), (oD, .inl (G.2 6, 1, .inr (.inr (.inr (.inl og)))))] ++ (W2_4009 ++ (W2_4017 ++ []))) ++ []) := segs_perm [[(oD, .inl (G.2 6, 1, .inr (.inr (.inr (.inl og)))))], [(o, .inl (G.2 5, 1, .inr (.inl of2_4007)))], W2_4009, W2_4017] [1, 0, 2, 3] [] rfl
    have hP : va_P G.1 CL ([(o, .inl (G.2 5, 1, .inr (.inl of2_4007))), (oD, .inl (G.2 6, 1, .inr (.inr (.inr (.inl og)))))] ++ (W2_4009 ++ (W2_4017 ++ []))) H := P_left (P_perm hpm_4024 hP)
    have hD : va_D A ([(o, .inl (G.2 5, 1, .inr (.inl of2_4007))), (oD, .inl (G.2 6, 1, .inr (.inr (.inr (.inl og)))))] ++ (W2_4009 ++ (W2_4017 ++ []))) := D_left (D_perm hpm_4024 hD)
    have hl := lv_sub hl [2, 3, 4, 5, 6, 7] (l' := [(0, .ref b), (1, .ref d), (2, .ref m0), (3, .ref o), (4, .ref oD), (5, .int (nI i9))]) rfl
    exact W.widen (show cl + (5 + 101) ≤ cl + 20000 from by omega) (show sl + (90 + 5800) ≤ sl + 45000 from by omega) (kk ls H locs S2_4008 (if ((o_addPart (dC M) id mn it)).1 = 0 then ((((o_addPart (dC M) id mn it)).2.2, dS M, min 6 (dK M + 1), hsR (dH M) (dK M) (dC M), dL M, dN M) : DS) else M) (((o_addPart (dC M) id mn it)).1) W2_4009 W2_4017 of2_4007 og hP hD hS hl hq_4013 hq_4019 (hLw.mut hqs hq_4011 (o_addPart_b (dC C) (sx9 xs (i9 + 1)) (sx9 xs (i9 + 2)) (sx9 xs (i9 + 3)))))
  · refine lv_aload_n hx hb dL_law_963 rfl (lv_at hl 5 rfl) ?_
    refine lv_iconst (v := nI 0) hx hb dL_law_964 (by decide) ?_
    refine r_lald (v := (((o_addPart (dC C) (sx9 xs (i9 + 1)) (sx9 xs (i9 + 2)) (sx9 xs (i9 + 3)))).2.1).toInt64) hx hb hK hP 1 5 rfl rfl (i := 0) (by omega) (by omega) ((hq_4010 (by omega))) dL_law_965 ?_
    refine lv_iload hx hb dL_law_966 (lv_at hl 0 rfl) ?_
    refine lv_toi (y := ((o_addPart (dC C) (sx9 xs (i9 + 1)) (sx9 xs (i9 + 2)) (sx9 xs (i9 + 3)))).2.1) ((hq_4018 (hqs.1.symm.trans (by omega))).trans hqs.2.1.symm) ?_
    refine lv_i2l (v := (((o_addPart (dC C) (sx9 xs (i9 + 1)) (sx9 xs (i9 + 2)) (sx9 xs (i9 + 3)))).2.1).toInt64) hx hb dL_law_968 rfl ?_
    refine W.lcmp hx hb dL_law_969 ?_
    refine lv_ton (n := 0) (lcmp0 _) ?_
    refine n_if_eq (tgt := 975) hx hb (by omega) dL_law_970 (by decide) (fun c_4025 => ?_) (fun c_4025 => absurd c_4025 (by omega))
    refine lv_goto (tgt := 2788) hx hb dL_law_975 (by decide) ?_
    have hpm_4026 : (([(oD, .inl (G.2 6, 1, .inr (.inr (.inr (.inl og))))), (o, .inl (G.2 5, 1, .inr (.inl of2_4007)))] ++ (W2_4009 ++ (W2_4017 ++ []))) : va_W).Perm (([(o, .inl (G.2 5, 1, .inr (.inl of2_4007))), (oD, .inl (G.2 6, 1, .inr (.inr (.inr (.inl og)))))] ++ (W2_4009 ++ (W2_4017 ++ []))) ++ []) := segs_perm [[(oD, .inl (G.2 6, 1, .inr (.inr (.inr (.inl og)))))], [(o, .inl (G.2 5, 1, .inr (.inl of2_4007)))], W2_4009, W2_4017] [1, 0, 2, 3] [] rfl
    have hP : va_P G.1 CL ([(o, .inl (G.2 5, 1, .inr (.inl of2_4007))), (oD, .inl (G.2 6, 1, .inr (.inr (.inr (.inl og)))))] ++ (W2_4009 ++ (W2_4017 ++ []))) H := P_left (P_perm hpm_4026 hP)
    have hD : va_D A ([(o, .inl (G.2 5, 1, .inr (.inl of2_4007))), (oD, .inl (G.2 6, 1, .inr (.inr (.inr (.inl og)))))] ++ (W2_4009 ++ (W2_4017 ++ []))) := D_left (D_perm hpm_4026 hD)
    have hl := lv_sub hl [2, 3, 4, 5, 6, 7] (l' := [(0, .ref b), (1, .ref d), (2, .ref m0), (3, .ref o), (4, .ref oD), (5, .int (nI i9))]) rfl
    exact W.widen (show cl + (5 + 101) ≤ cl + 20000 from by omega) (show sl + (90 + 5800) ≤ sl + 45000 from by omega) (kk ls H locs S2_4008 (if ((o_addPart (dC M) id mn it)).1 = 0 then ((((o_addPart (dC M) id mn it)).2.2, dS M, min 6 (dK M + 1), hsR (dH M) (dK M) (dC M), dL M, dN M) : DS) else M) (((o_addPart (dC M) id mn it)).1) W2_4009 W2_4017 of2_4007 og hP hD hS hl hq_4013 hq_4019 (hLw.mut hqs hq_4011 (o_addPart_b (dC C) (sx9 xs (i9 + 1)) (sx9 xs (i9 + 2)) (sx9 xs (i9 + 3)))))

set_option maxHeartbeats 4000000 in
theorem lawK_13 {p : Program} {l : Launch} {e : Env} {s : State} {m : MethodId} {below : List Frame} {meth : Method} {c : Code} {G : Gt} {A : Nat → Prop} {b L : Nat} {xs : Nat → Int32} {Q : State → Prop} {d m0 o oD i9 N cl sl : Nat} (hfl : l.stackTraces = false) (F : LwF G A p s m c b L xs) (hi9 : i9 + 4 ≤ L) (hN24 : N ≤ 24) (hcl : cl + 20000 ≤ 1200144) (hsl : sl + 45000 ≤ 5495674) (kk : ∀ (ls : Array Slot) (H : Heap) (locs : List Loc) (C M : DS) (th : Nat) (WD WM : va_W) (of : Nat → Int64) (og : Nat → UInt64), va_P G.1 CL ([(o, .inl (G.2 5, 1, .inr (.inl of))), (oD, .inl (G.2 6, 1, .inr (.inr (.inr (.inl og)))))] ++ (WD ++ (WM ++ []))) H → va_D A ([(o, .inl (G.2 5, 1, .inr (.inl of))), (oD, .inl (G.2 6, 1, .inr (.inr (.inr (.inl og)))))] ++ (WD ++ (WM ++ []))) → va_S A s.heap H locs → lv_has ls 10 [(0, .ref b), (1, .ref d), (2, .ref m0), (3, .ref o), (4, .ref oD), (5, .int (nI i9))] → DyW G d C WD → MdW G m0 M th WM → LawI C M (N + 1) → W p l e room_1 s m #[Value.ref b] below meth c H locs (cl + 20000) (sl + 45000) Q (F0 m 2788 ls [])) {ls : Array Slot} {H : Heap} {locs : List Loc} {C M : DS} {th : Nat} {WD WM : va_W} {of : Nat → Int64} {og : Nat → UInt64} (hP : va_P G.1 CL ([(o, .inl (G.2 5, 1, .inr (.inl of))), (oD, .inl (G.2 6, 1, .inr (.inr (.inr (.inl og)))))] ++ (WD ++ (WM ++ []))) H) (hD : va_D A ([(o, .inl (G.2 5, 1, .inr (.inl of))), (oD, .inl (G.2 6, 1, .inr (.inr (.inr (.inl og)))))] ++ (WD ++ (WM ++ [])))) (hS : va_S A s.heap H locs) (hl : lv_has ls 10 [(0, .ref b), (1, .ref d), (2, .ref m0), (3, .ref o), (4, .ref oD), (5, .int (nI i9))]) (hDy : DyW G d C WD) (hMd : MdW G m0 M th WM) (hLw : LawI C M N) : W p l e room_1 s m #[Value.ref b] below meth c H locs cl sl Q (F0 m 978 ls []) := by
  obtain ⟨cf, hKB, hE, hA, hX9, hbl, hbA, hNc, hL96⟩ := F
  have hx := cf.1
  have hb := cf.2.1
  have hml := cf.2.2.1
  have hown : s.vm.findClass RX0 = some m.cls := cf.2.2.2.1
  have hts := cf.2.2.2.2
  have hK := hKB.1
  have hIc := hDy.inv.1
  have hIm : Inv (dC M) := Inv_sim hLw.1 hIc
  have hRk : RkOk (dC M) := RkOk_sim hLw.1 (RkOk_srt hDy.inv.2.2)
  have hl := hl
  refine lv_aload_n hx hb dL_law_978 rfl (lv_at hl 1 rfl) ?_
  refine lv_aload_n hx hb dL_law_979 rfl (lv_at hl 0 rfl) ?_
  refine lv_iload hx hb dL_law_980 (lv_at hl 5 rfl) ?_
  refine lv_iconst (v := nI 1) hx hb dL_law_982 (by decide) ?_
  refine lv_iadd hx hb dL_law_983 ?_
  refine lv_ton (n := i9 + 1) (nadd (by omega)) ?_
  refine va_sld hx hb hX9 hbl hbA hS (i := nI (i9 + 1)) (vp9 (by omega) hL96) dL_law_984 ?_
  refine W.eq (g2 := F0 m 985 ls [.int (sx9 xs (i9 + 1)), .ref d]) rfl ?_
  refine lv_aload_n hx hb dL_law_985 rfl (lv_at hl 3 rfl) ?_
  have hpm_4027 : (([(o, .inl (G.2 5, 1, .inr (.inl of))), (oD, .inl (G.2 6, 1, .inr (.inr (.inr (.inl og)))))] ++ (WD ++ (WM ++ []))) : va_W).Perm (([(o, .inl (G.2 5, 1, .inr (.inl of)))] ++ (WD ++ [])) ++ ([(oD, .inl (G.2 6, 1, .inr (.inr (.inr (.inl og)))))] ++ (WM ++ []))) := segs_perm [[(o, .inl (G.2 5, 1, .inr (.inl of)))], [(oD, .inl (G.2 6, 1, .inr (.inr (.inr (.inl og)))))], WD, WM] [0, 2] [1, 3] rfl
  have hF := hF_ofP (wc := ([(o, .inl (G.2 5, 1, .inr (.inl of)))] ++ (WD ++ []))) hD hS hA hpm_4027
  refine go_ctP hS hP hD hpm_4027 hF
      (vx_runSW (As := [.ref d, .int (sx9 xs (i9 + 1)), .ref o]) (rest := []) cf (wX0_clearParts l G d C WD o of (sx9 xs (i9 + 1)) (hDy) hfl H.size) (vx_cwSW 3 hts (lw_SW q1157 q1158 q46 q1159) rfl rfl rfl (by decide +kernel) ⟨Nat.le_of_ble_eq_true rfl, Nat.le_of_ble_eq_true rfl⟩) (preS_ofW hNc hKB hE hS hF (P_left (P_perm hpm_4027 hP)) ((D_left (D_perm hpm_4027 hD)).weaken (fun _ _ _ _ => trivial)) trivial) rfl rfl hl.1 rfl (lv_room (Nat.le_of_ble_eq_true rfl)) dL_law_986 ⟨show cl + (5 + 101) ≤ 1200144 from by first | decide | omega, show sl + (70 + 5800) ≤ 5495674 from by first | decide | omega⟩)
      (fun u_ H locs hq hph (hP : va_P G.1 CL (([(oD, .inl (G.2 6, 1, .inr (.inr (.inr (.inl og)))))] ++ (WM ++ [])) ++ ([(o, .inl (G.2 5, 1, .inr (.inl u_.1)))] ++ (u_.2.2 ++ []))) H) (hD : va_D A (([(oD, .inl (G.2 6, 1, .inr (.inr (.inr (.inl og)))))] ++ (WM ++ [])) ++ ([(o, .inl (G.2 5, 1, .inr (.inl u_.1)))] ++ (u_.2.2 ++ [])))) hS hfz hfk => ?_)
  obtain ⟨of2_4028, S2_4029, W2_4030⟩ := u_
  obtain ⟨hq_4031, hq_4032, hq_4033, hq_4034⟩ : ((o_clear (dC C) (sx9 xs (i9 + 1))).1 = 0 → of2_4028 0 = ((o_clear (dC C) (sx9 xs (i9 + 1))).2.1).toInt64) ∧ NxS C (o_clear (dC C) (sx9 xs (i9 + 1))) S2_4029 ∧ (o_clear (dC C) (sx9 xs (i9 + 1))).1 < 10 ∧ DyW G d S2_4029 W2_4030 := hq
  have hpm_4035 : (([(oD, .inl (G.2 6, 1, .inr (.inr (.inr (.inl og)))))] ++ (WM ++ [])) ++ ([(o, .inl (G.2 5, 1, .inr (.inl of2_4028)))] ++ (W2_4030 ++ [])) : va_W).Perm ([(oD, .inl (G.2 6, 1, .inr (.inr (.inr (.inl og))))), (o, .inl (G.2 5, 1, .inr (.inl of2_4028)))] ++ (WM ++ (W2_4030 ++ []))) := segs_perm2 [[(oD, .inl (G.2 6, 1, .inr (.inr (.inr (.inl og)))))], WM] [[(o, .inl (G.2 5, 1, .inr (.inl of2_4028)))], W2_4030] [0, 2, 1, 3] rfl
  have hP : va_P G.1 CL ([(oD, .inl (G.2 6, 1, .inr (.inr (.inr (.inl og))))), (o, .inl (G.2 5, 1, .inr (.inl of2_4028)))] ++ (WM ++ (W2_4030 ++ []))) H := P_perm hpm_4035 hP
  have hD : va_D A ([(oD, .inl (G.2 6, 1, .inr (.inr (.inr (.inl og))))), (o, .inl (G.2 5, 1, .inr (.inl of2_4028)))] ++ (WM ++ (W2_4030 ++ []))) := D_perm hpm_4035 hD
  refine W.eq (g2 := F0 m 989 ls [.int (nI ((o_clear (dC C) (sx9 xs (i9 + 1))).1))]) rfl ?_
  have hqs : SimR (o_clear (dC C) (sx9 xs (i9 + 1))) (o_clear (dC M) id) := o_clear_sim hLw.1 hIc (sx9 xs (i9 + 1))
  refine lv_istore (lv' := [(6, .int (nI ((o_clear (dC C) (sx9 xs (i9 + 1))).1))), (0, .ref b), (1, .ref d), (2, .ref m0), (3, .ref o), (4, .ref oD), (5, .int (nI i9))]) hx hb dL_law_989 hl (by decide) rfl (fun ls hl => ?_)
  refine lv_aload_n hx hb dL_law_991 rfl (lv_at hl 3 rfl) ?_
  refine lv_aload_n hx hb dL_law_992 rfl (lv_at hl 1 rfl) ?_
  refine lv_iload hx hb dL_law_993 (lv_at hl 6 rfl) ?_
  refine lv_iconst (v := nI 1) hx hb dL_law_995 (by decide) ?_
  refine lv_iadd hx hb dL_law_996 ?_
  refine lv_ton (n := i9 + 1) (nadd (by omega)) ?_
  refine va_sld hx hb hX9 hbl hbA hS (i := nI (i9 + 1)) (vp9 (by omega) hL96) dL_law_997 ?_
  refine W.eq (g2 := F0 m 998 ls [.int (sx9 xs (i9 + 1)), .ref m0]) rfl ?_
  have hpm_4036 : (([(oD, .inl (G.2 6, 1, .inr (.inr (.inr (.inl og))))), (o, .inl (G.2 5, 1, .inr (.inl of2_4028)))] ++ (WM ++ (W2_4030 ++ []))) : va_W).Perm ((WM ++ []) ++ ([(oD, .inl (G.2 6, 1, .inr (.inr (.inr (.inl og))))), (o, .inl (G.2 5, 1, .inr (.inl of2_4028)))] ++ (W2_4030 ++ []))) := segs_perm [[(oD, .inl (G.2 6, 1, .inr (.inr (.inr (.inl og)))))], [(o, .inl (G.2 5, 1, .inr (.inl of2_4028)))], WM, W2_4030] [2] [0, 1, 3] rfl
  have hF := hF_ofP (wc := (WM ++ [])) hD hS hA hpm_4036
  refine go_ctP hS hP hD hpm_4036 hF
      (va_runV (As := [.int (sx9 xs (i9 + 1))]) (rest := []) cf (eX4_clearParts l G m0 M th WM (sx9 xs (i9 + 1)) (hMd) (hIm) H.size) (cwV 1 hts (lw_V q1747 q1748 q1749 q58 q1750) rfl rfl rfl (by decide +kernel) ⟨Nat.le_of_ble_eq_true rfl, Nat.le_of_ble_eq_true rfl⟩) (preV_of hKB hE hS hF (MdW.recv hK hMd (seg_at [[(oD, .inl (G.2 6, 1, .inr (.inr (.inr (.inl og)))))], [(o, .inl (G.2 5, 1, .inr (.inl of2_4028)))], WM, W2_4030] 2 rfl hP)) (P_left (P_perm hpm_4036 hP)) ((D_left (D_perm hpm_4036 hD)).weaken (fun _ _ _ _ => trivial)) trivial) rfl rfl hl.1 rfl (lv_room (Nat.le_of_ble_eq_true rfl)) dL_law_998 ⟨show cl + (5 + 101) + 0 ≤ 1200144 from by first | decide | omega, show sl + (70 + 5800) + 0 ≤ 5495674 from by first | decide | omega⟩)
      (fun u_ H locs hq hph (hP : va_P G.1 CL (([(oD, .inl (G.2 6, 1, .inr (.inr (.inr (.inl og))))), (o, .inl (G.2 5, 1, .inr (.inl of2_4028)))] ++ (W2_4030 ++ [])) ++ (u_.2 ++ [])) H) (hD : va_D A (([(oD, .inl (G.2 6, 1, .inr (.inr (.inr (.inl og))))), (o, .inl (G.2 5, 1, .inr (.inl of2_4028)))] ++ (W2_4030 ++ [])) ++ (u_.2 ++ []))) hS hfz hfk => ?_)
  obtain ⟨rr_4037, W2_4038⟩ := u_
  obtain ⟨hq_4039, hq_4040⟩ : ((o_clear (dC M) (sx9 xs (i9 + 1))).1 = 0 → rr_4037 = (o_clear (dC M) (sx9 xs (i9 + 1))).2.1) ∧ MdW G m0 (if (o_clear (dC M) (sx9 xs (i9 + 1))).1 = 0 then (((o_clear (dC M) (sx9 xs (i9 + 1))).2.2, dS M, min 6 (dK M + 1), hsR (dH M) (dK M) (dC M), dL M, dN M) : DS) else M) (o_clear (dC M) (sx9 xs (i9 + 1))).1 W2_4038 := hq
  have hpm_4041 : (([(oD, .inl (G.2 6, 1, .inr (.inr (.inr (.inl og))))), (o, .inl (G.2 5, 1, .inr (.inl of2_4028)))] ++ (W2_4030 ++ [])) ++ (W2_4038 ++ []) : va_W).Perm ([(oD, .inl (G.2 6, 1, .inr (.inr (.inr (.inl og))))), (o, .inl (G.2 5, 1, .inr (.inl of2_4028)))] ++ (W2_4030 ++ (W2_4038 ++ []))) := segs_perm2 [[(oD, .inl (G.2 6, 1, .inr (.inr (.inr (.inl og)))))], [(o, .inl (G.2 5, 1, .inr (.inl of2_4028)))], W2_4030] [W2_4038] [0, 1, 2, 3] rfl
  have hP : va_P G.1 CL ([(oD, .inl (G.2 6, 1, .inr (.inr (.inr (.inl og))))), (o, .inl (G.2 5, 1, .inr (.inl of2_4028)))] ++ (W2_4030 ++ (W2_4038 ++ []))) H := P_perm hpm_4041 hP
  have hD : va_D A ([(oD, .inl (G.2 6, 1, .inr (.inr (.inr (.inl og))))), (o, .inl (G.2 5, 1, .inr (.inl of2_4028)))] ++ (W2_4030 ++ (W2_4038 ++ []))) := D_perm hpm_4041 hD
  refine W.eq (g2 := F0 m 1001 ls [.int rr_4037]) rfl ?_
  refine lv_istore (lv' := [(7, .int rr_4037), (6, .int (nI ((o_clear (dC C) (sx9 xs (i9 + 1))).1))), (0, .ref b), (1, .ref d), (2, .ref m0), (3, .ref o), (4, .ref oD), (5, .int (nI i9))]) hx hb dL_law_1001 hl (by decide) rfl (fun ls hl => ?_)
  refine lv_aload_n hx hb dL_law_1003 rfl (lv_at hl 4 rfl) ?_
  have hpm_4042 : (([(oD, .inl (G.2 6, 1, .inr (.inr (.inr (.inl og))))), (o, .inl (G.2 5, 1, .inr (.inl of2_4028)))] ++ (W2_4030 ++ (W2_4038 ++ []))) : va_W).Perm ([] ++ ([(oD, .inl (G.2 6, 1, .inr (.inr (.inr (.inl og))))), (o, .inl (G.2 5, 1, .inr (.inl of2_4028)))] ++ (W2_4030 ++ (W2_4038 ++ [])))) := segs_perm [[(oD, .inl (G.2 6, 1, .inr (.inr (.inr (.inl og)))))], [(o, .inl (G.2 5, 1, .inr (.inl of2_4028)))], W2_4030, W2_4038] [] [0, 1, 2, 3] rfl
  have hF := hF_ofP (wc := []) hD hS hA hpm_4042
  refine go_ctP hS hP hD hpm_4042 hF
      (va_runV (As := []) (rest := []) cf (eX4_thrown l G m0 (if ((o_clear (dC M) id)).1 = 0 then ((((o_clear (dC M) id)).2.2, dS M, min 6 (dK M + 1), hsR (dH M) (dK M) (dC M), dL M, dN M) : DS) else M) (((o_clear (dC M) id)).1) W2_4038 (hq_4040) H.size) (cwV 0 hts (lw_V q1639 q1640 q1641 q58 q1642) rfl rfl rfl (by decide +kernel) ⟨Nat.le_of_ble_eq_true rfl, Nat.le_of_ble_eq_true rfl⟩) (preV_of hKB hE hS hF (MdW.recv hK hq_4040 (seg_at [[(oD, .inl (G.2 6, 1, .inr (.inr (.inr (.inl og)))))], [(o, .inl (G.2 5, 1, .inr (.inl of2_4028)))], W2_4030, W2_4038] 3 rfl hP)) (P_left (P_perm hpm_4042 hP)) ((D_left (D_perm hpm_4042 hD)).weaken (fun _ _ _ _ => trivial)) (roW.nil (seg_at [[(oD, .inl (G.2 6, 1, .inr (.inr (.inr (.inl og)))))], [(o, .inl (G.2 5, 1, .inr (.inl of2_4028)))], W2_4030, W2_4038] 3 rfl hP))) rfl rfl hl.1 rfl (lv_room (Nat.le_of_ble_eq_true rfl)) dL_law_1004 ⟨show cl + (5 + 101) + 0 ≤ 1200144 from by first | decide | omega, show sl + (70 + 5800) + 0 ≤ 5495674 from by first | decide | omega⟩)
      (fun u_ H locs hq hph (hP : va_P G.1 CL (([(oD, .inl (G.2 6, 1, .inr (.inr (.inr (.inl og))))), (o, .inl (G.2 5, 1, .inr (.inl of2_4028)))] ++ (W2_4030 ++ (W2_4038 ++ []))) ++ []) H) (hD : va_D A (([(oD, .inl (G.2 6, 1, .inr (.inr (.inr (.inl og))))), (o, .inl (G.2 5, 1, .inr (.inl of2_4028)))] ++ (W2_4030 ++ (W2_4038 ++ []))) ++ [])) hS hfz hfk => ?_)
  have hpm_4043 : (([(oD, .inl (G.2 6, 1, .inr (.inr (.inr (.inl og))))), (o, .inl (G.2 5, 1, .inr (.inl of2_4028)))] ++ (W2_4030 ++ (W2_4038 ++ []))) ++ [] : va_W).Perm ([(oD, .inl (G.2 6, 1, .inr (.inr (.inr (.inl og))))), (o, .inl (G.2 5, 1, .inr (.inl of2_4028)))] ++ (W2_4030 ++ (W2_4038 ++ []))) := segs_perm2 [[(oD, .inl (G.2 6, 1, .inr (.inr (.inr (.inl og)))))], [(o, .inl (G.2 5, 1, .inr (.inl of2_4028)))], W2_4030, W2_4038] [] [0, 1, 2, 3] rfl
  have hP : va_P G.1 CL ([(oD, .inl (G.2 6, 1, .inr (.inr (.inr (.inl og))))), (o, .inl (G.2 5, 1, .inr (.inl of2_4028)))] ++ (W2_4030 ++ (W2_4038 ++ []))) H := P_perm hpm_4043 hP
  have hD : va_D A ([(oD, .inl (G.2 6, 1, .inr (.inr (.inr (.inl og))))), (o, .inl (G.2 5, 1, .inr (.inl of2_4028)))] ++ (W2_4030 ++ (W2_4038 ++ []))) := D_perm hpm_4043 hD
  refine W.eq (g2 := F0 m 1007 ls [.int (nI (((o_clear (dC M) id)).1))]) rfl ?_
  refine lv_ton (n := ((o_clear (dC C) (sx9 xs (i9 + 1))).1)) (congrArg nI hqs.1.symm) ?_
  refine lv_iload hx hb dL_law_1007 (lv_at hl 1 rfl) ?_
  refine lv_icmp_eq (tgt := 1014) hx hb dL_law_1009 (by decide) (fun _ => ?_) (fun c9 => absurd rfl c9)
  refine lv_iload hx hb dL_law_1014 (lv_at hl 1 rfl) ?_
  refine n_if_ne (tgt := 1031) hx hb (by omega) dL_law_1016 (by decide) (fun c_4044 => ?_) (fun c_4044 => ?_)
  · refine lv_goto (tgt := 2788) hx hb dL_law_1031 (by decide) ?_
    have hpm_4045 : (([(oD, .inl (G.2 6, 1, .inr (.inr (.inr (.inl og))))), (o, .inl (G.2 5, 1, .inr (.inl of2_4028)))] ++ (W2_4030 ++ (W2_4038 ++ []))) : va_W).Perm (([(o, .inl (G.2 5, 1, .inr (.inl of2_4028))), (oD, .inl (G.2 6, 1, .inr (.inr (.inr (.inl og)))))] ++ (W2_4030 ++ (W2_4038 ++ []))) ++ []) := segs_perm [[(oD, .inl (G.2 6, 1, .inr (.inr (.inr (.inl og)))))], [(o, .inl (G.2 5, 1, .inr (.inl of2_4028)))], W2_4030, W2_4038] [1, 0, 2, 3] [] rfl
    have hP : va_P G.1 CL ([(o, .inl (G.2 5, 1, .inr (.inl of2_4028))), (oD, .inl (G.2 6, 1, .inr (.inr (.inr (.inl og)))))] ++ (W2_4030 ++ (W2_4038 ++ []))) H := P_left (P_perm hpm_4045 hP)
    have hD : va_D A ([(o, .inl (G.2 5, 1, .inr (.inl of2_4028))), (oD, .inl (G.2 6, 1, .inr (.inr (.inr (.inl og)))))] ++ (W2_4030 ++ (W2_4038 ++ []))) := D_left (D_perm hpm_4045 hD)
    have hl := lv_sub hl [2, 3, 4, 5, 6, 7] (l' := [(0, .ref b), (1, .ref d), (2, .ref m0), (3, .ref o), (4, .ref oD), (5, .int (nI i9))]) rfl
    exact W.widen (show cl + (5 + 101) ≤ cl + 20000 from by omega) (show sl + (70 + 5800) ≤ sl + 45000 from by omega) (kk ls H locs S2_4029 (if ((o_clear (dC M) id)).1 = 0 then ((((o_clear (dC M) id)).2.2, dS M, min 6 (dK M + 1), hsR (dH M) (dK M) (dC M), dL M, dN M) : DS) else M) (((o_clear (dC M) id)).1) W2_4030 W2_4038 of2_4028 og hP hD hS hl hq_4034 hq_4040 (hLw.mut hqs hq_4032 (o_clear_b (dC C) (sx9 xs (i9 + 1)))))
  · refine lv_aload_n hx hb dL_law_1019 rfl (lv_at hl 5 rfl) ?_
    refine lv_iconst (v := nI 0) hx hb dL_law_1020 (by decide) ?_
    refine r_lald (v := (((o_clear (dC C) (sx9 xs (i9 + 1)))).2.1).toInt64) hx hb hK hP 1 5 rfl rfl (i := 0) (by omega) (by omega) ((hq_4031 (by omega))) dL_law_1021 ?_
    refine lv_iload hx hb dL_law_1022 (lv_at hl 0 rfl) ?_
    refine lv_toi (y := ((o_clear (dC C) (sx9 xs (i9 + 1)))).2.1) ((hq_4039 (hqs.1.symm.trans (by omega))).trans hqs.2.1.symm) ?_
    refine lv_i2l (v := (((o_clear (dC C) (sx9 xs (i9 + 1)))).2.1).toInt64) hx hb dL_law_1024 rfl ?_
    refine W.lcmp hx hb dL_law_1025 ?_
    refine lv_ton (n := 0) (lcmp0 _) ?_
    refine n_if_eq (tgt := 1031) hx hb (by omega) dL_law_1026 (by decide) (fun c_4046 => ?_) (fun c_4046 => absurd c_4046 (by omega))
    refine lv_goto (tgt := 2788) hx hb dL_law_1031 (by decide) ?_
    have hpm_4047 : (([(oD, .inl (G.2 6, 1, .inr (.inr (.inr (.inl og))))), (o, .inl (G.2 5, 1, .inr (.inl of2_4028)))] ++ (W2_4030 ++ (W2_4038 ++ []))) : va_W).Perm (([(o, .inl (G.2 5, 1, .inr (.inl of2_4028))), (oD, .inl (G.2 6, 1, .inr (.inr (.inr (.inl og)))))] ++ (W2_4030 ++ (W2_4038 ++ []))) ++ []) := segs_perm [[(oD, .inl (G.2 6, 1, .inr (.inr (.inr (.inl og)))))], [(o, .inl (G.2 5, 1, .inr (.inl of2_4028)))], W2_4030, W2_4038] [1, 0, 2, 3] [] rfl
    have hP : va_P G.1 CL ([(o, .inl (G.2 5, 1, .inr (.inl of2_4028))), (oD, .inl (G.2 6, 1, .inr (.inr (.inr (.inl og)))))] ++ (W2_4030 ++ (W2_4038 ++ []))) H := P_left (P_perm hpm_4047 hP)
    have hD : va_D A ([(o, .inl (G.2 5, 1, .inr (.inl of2_4028))), (oD, .inl (G.2 6, 1, .inr (.inr (.inr (.inl og)))))] ++ (W2_4030 ++ (W2_4038 ++ []))) := D_left (D_perm hpm_4047 hD)
    have hl := lv_sub hl [2, 3, 4, 5, 6, 7] (l' := [(0, .ref b), (1, .ref d), (2, .ref m0), (3, .ref o), (4, .ref oD), (5, .int (nI i9))]) rfl
    exact W.widen (show cl + (5 + 101) ≤ cl + 20000 from by omega) (show sl + (70 + 5800) ≤ sl + 45000 from by omega) (kk ls H locs S2_4029 (if ((o_clear (dC M) id)).1 = 0 then ((((o_clear (dC M) id)).2.2, dS M, min 6 (dK M + 1), hsR (dH M) (dK M) (dC M), dL M, dN M) : DS) else M) (((o_clear (dC M) id)).1) W2_4030 W2_4038 of2_4028 og hP hD hS hl hq_4034 hq_4040 (hLw.mut hqs hq_4032 (o_clear_b (dC C) (sx9 xs (i9 + 1)))))

set_option maxHeartbeats 4000000 in
theorem lawK_14 {p : Program} {l : Launch} {e : Env} {s : State} {m : MethodId} {below : List Frame} {meth : Method} {c : Code} {G : Gt} {A : Nat → Prop} {b L : Nat} {xs : Nat → Int32} {Q : State → Prop} {d m0 o oD i9 N cl sl : Nat} (hfl : l.stackTraces = false) (F : LwF G A p s m c b L xs) (hi9 : i9 + 4 ≤ L) (hN24 : N ≤ 24) (hcl : cl + 20000 ≤ 1200144) (hsl : sl + 45000 ≤ 5495674) (kk : ∀ (ls : Array Slot) (H : Heap) (locs : List Loc) (C M : DS) (th : Nat) (WD WM : va_W) (of : Nat → Int64) (og : Nat → UInt64), va_P G.1 CL ([(o, .inl (G.2 5, 1, .inr (.inl of))), (oD, .inl (G.2 6, 1, .inr (.inr (.inr (.inl og)))))] ++ (WD ++ (WM ++ []))) H → va_D A ([(o, .inl (G.2 5, 1, .inr (.inl of))), (oD, .inl (G.2 6, 1, .inr (.inr (.inr (.inl og)))))] ++ (WD ++ (WM ++ []))) → va_S A s.heap H locs → lv_has ls 10 [(0, .ref b), (1, .ref d), (2, .ref m0), (3, .ref o), (4, .ref oD), (5, .int (nI i9))] → DyW G d C WD → MdW G m0 M th WM → LawI C M (N + 1) → W p l e room_1 s m #[Value.ref b] below meth c H locs (cl + 20000) (sl + 45000) Q (F0 m 2788 ls [])) {ls : Array Slot} {H : Heap} {locs : List Loc} {C M : DS} {th : Nat} {WD WM : va_W} {of : Nat → Int64} {og : Nat → UInt64} (hP : va_P G.1 CL ([(o, .inl (G.2 5, 1, .inr (.inl of))), (oD, .inl (G.2 6, 1, .inr (.inr (.inr (.inl og)))))] ++ (WD ++ (WM ++ []))) H) (hD : va_D A ([(o, .inl (G.2 5, 1, .inr (.inl of))), (oD, .inl (G.2 6, 1, .inr (.inr (.inr (.inl og)))))] ++ (WD ++ (WM ++ [])))) (hS : va_S A s.heap H locs) (hl : lv_has ls 10 [(0, .ref b), (1, .ref d), (2, .ref m0), (3, .ref o), (4, .ref oD), (5, .int (nI i9))]) (hDy : DyW G d C WD) (hMd : MdW G m0 M th WM) (hLw : LawI C M N) : W p l e room_1 s m #[Value.ref b] below meth c H locs cl sl Q (F0 m 1034 ls []) := by
  obtain ⟨cf, hKB, hE, hA, hX9, hbl, hbA, hNc, hL96⟩ := F
  have hx := cf.1
  have hb := cf.2.1
  have hml := cf.2.2.1
  have hown : s.vm.findClass RX0 = some m.cls := cf.2.2.2.1
  have hts := cf.2.2.2.2
  have hK := hKB.1
  have hIc := hDy.inv.1
  have hIm : Inv (dC M) := Inv_sim hLw.1 hIc
  have hRk : RkOk (dC M) := RkOk_sim hLw.1 (RkOk_srt hDy.inv.2.2)
  have hl := hl
  refine lv_aload_n hx hb dL_law_1034 rfl (lv_at hl 1 rfl) ?_
  refine lv_aload_n hx hb dL_law_1035 rfl (lv_at hl 0 rfl) ?_
  refine lv_iload hx hb dL_law_1036 (lv_at hl 5 rfl) ?_
  refine lv_iconst (v := nI 1) hx hb dL_law_1038 (by decide) ?_
  refine lv_iadd hx hb dL_law_1039 ?_
  refine lv_ton (n := i9 + 1) (nadd (by omega)) ?_
  refine va_sld hx hb hX9 hbl hbA hS (i := nI (i9 + 1)) (vp9 (by omega) hL96) dL_law_1040 ?_
  refine W.eq (g2 := F0 m 1041 ls [.int (sx9 xs (i9 + 1)), .ref d]) rfl ?_
  refine lv_aload_n hx hb dL_law_1041 rfl (lv_at hl 0 rfl) ?_
  refine lv_iload hx hb dL_law_1042 (lv_at hl 5 rfl) ?_
  refine lv_iconst (v := nI 2) hx hb dL_law_1044 (by decide) ?_
  refine lv_iadd hx hb dL_law_1045 ?_
  refine lv_ton (n := i9 + 2) (nadd (by omega)) ?_
  refine va_sld hx hb hX9 hbl hbA hS (i := nI (i9 + 2)) (vp9 (by omega) hL96) dL_law_1046 ?_
  refine W.eq (g2 := F0 m 1047 ls [.int (sx9 xs (i9 + 2)), .int (sx9 xs (i9 + 1)), .ref d]) rfl ?_
  refine lv_aload_n hx hb dL_law_1047 rfl (lv_at hl 3 rfl) ?_
  have hpm_4048 : (([(o, .inl (G.2 5, 1, .inr (.inl of))), (oD, .inl (G.2 6, 1, .inr (.inr (.inr (.inl og)))))] ++ (WD ++ (WM ++ []))) : va_W).Perm (([(o, .inl (G.2 5, 1, .inr (.inl of)))] ++ (WD ++ [])) ++ ([(oD, .inl (G.2 6, 1, .inr (.inr (.inr (.inl og)))))] ++ (WM ++ []))) := segs_perm [[(o, .inl (G.2 5, 1, .inr (.inl of)))], [(oD, .inl (G.2 6, 1, .inr (.inr (.inr (.inl og)))))], WD, WM] [0, 2] [1, 3] rfl
  have hF := hF_ofP (wc := ([(o, .inl (G.2 5, 1, .inr (.inl of)))] ++ (WD ++ []))) hD hS hA hpm_4048
  refine go_ctP hS hP hD hpm_4048 hF
      (vx_runSW (As := [.ref d, .int (sx9 xs (i9 + 1)), .int (sx9 xs (i9 + 2)), .ref o]) (rest := []) cf (wX0_moveSession l G d C WD o of (sx9 xs (i9 + 1)) (sx9 xs (i9 + 2)) (hDy) hfl H.size) (vx_cwSW 4 hts (lw_SW q1168 q1169 q46 q1170) rfl rfl rfl (by decide +kernel) ⟨Nat.le_of_ble_eq_true rfl, Nat.le_of_ble_eq_true rfl⟩) (preS_ofW hNc hKB hE hS hF (P_left (P_perm hpm_4048 hP)) ((D_left (D_perm hpm_4048 hD)).weaken (fun _ _ _ _ => trivial)) trivial) rfl rfl hl.1 rfl (lv_room (Nat.le_of_ble_eq_true rfl)) dL_law_1048 ⟨show cl + (3 + 101) ≤ 1200144 from by first | decide | omega, show sl + (70 + 5800) ≤ 5495674 from by first | decide | omega⟩)
      (fun u_ H locs hq hph (hP : va_P G.1 CL (([(oD, .inl (G.2 6, 1, .inr (.inr (.inr (.inl og)))))] ++ (WM ++ [])) ++ ([(o, .inl (G.2 5, 1, .inr (.inl u_.1)))] ++ (u_.2.2 ++ []))) H) (hD : va_D A (([(oD, .inl (G.2 6, 1, .inr (.inr (.inr (.inl og)))))] ++ (WM ++ [])) ++ ([(o, .inl (G.2 5, 1, .inr (.inl u_.1)))] ++ (u_.2.2 ++ [])))) hS hfz hfk => ?_)
  obtain ⟨of2_4049, S2_4050, W2_4051⟩ := u_
  obtain ⟨hq_4052, hq_4053, hq_4054, hq_4055⟩ : ((o_move (dC C) (sx9 xs (i9 + 1)) (sx9 xs (i9 + 2))).1 = 0 → of2_4049 0 = ((o_move (dC C) (sx9 xs (i9 + 1)) (sx9 xs (i9 + 2))).2.1).toInt64) ∧ NxS C (o_move (dC C) (sx9 xs (i9 + 1)) (sx9 xs (i9 + 2))) S2_4050 ∧ (o_move (dC C) (sx9 xs (i9 + 1)) (sx9 xs (i9 + 2))).1 < 10 ∧ DyW G d S2_4050 W2_4051 := hq
  have hpm_4056 : (([(oD, .inl (G.2 6, 1, .inr (.inr (.inr (.inl og)))))] ++ (WM ++ [])) ++ ([(o, .inl (G.2 5, 1, .inr (.inl of2_4049)))] ++ (W2_4051 ++ [])) : va_W).Perm ([(oD, .inl (G.2 6, 1, .inr (.inr (.inr (.inl og))))), (o, .inl (G.2 5, 1, .inr (.inl of2_4049)))] ++ (WM ++ (W2_4051 ++ []))) := segs_perm2 [[(oD, .inl (G.2 6, 1, .inr (.inr (.inr (.inl og)))))], WM] [[(o, .inl (G.2 5, 1, .inr (.inl of2_4049)))], W2_4051] [0, 2, 1, 3] rfl
  have hP : va_P G.1 CL ([(oD, .inl (G.2 6, 1, .inr (.inr (.inr (.inl og))))), (o, .inl (G.2 5, 1, .inr (.inl of2_4049)))] ++ (WM ++ (W2_4051 ++ []))) H := P_perm hpm_4056 hP
  have hD : va_D A ([(oD, .inl (G.2 6, 1, .inr (.inr (.inr (.inl og))))), (o, .inl (G.2 5, 1, .inr (.inl of2_4049)))] ++ (WM ++ (W2_4051 ++ []))) := D_perm hpm_4056 hD
  refine W.eq (g2 := F0 m 1051 ls [.int (nI ((o_move (dC C) (sx9 xs (i9 + 1)) (sx9 xs (i9 + 2))).1))]) rfl ?_
  have hqs : SimR (o_move (dC C) (sx9 xs (i9 + 1)) (sx9 xs (i9 + 2))) (o_move (dC M) id d) := o_move_sim hLw.1 hIc (sx9 xs (i9 + 1)) (sx9 xs (i9 + 2))
  refine lv_istore (lv' := [(6, .int (nI ((o_move (dC C) (sx9 xs (i9 + 1)) (sx9 xs (i9 + 2))).1))), (0, .ref b), (1, .ref d), (2, .ref m0), (3, .ref o), (4, .ref oD), (5, .int (nI i9))]) hx hb dL_law_1051 hl (by decide) rfl (fun ls hl => ?_)
  refine lv_aload_n hx hb dL_law_1053 rfl (lv_at hl 3 rfl) ?_
  refine lv_aload_n hx hb dL_law_1054 rfl (lv_at hl 1 rfl) ?_
  refine lv_iload hx hb dL_law_1055 (lv_at hl 6 rfl) ?_
  refine lv_iconst (v := nI 1) hx hb dL_law_1057 (by decide) ?_
  refine lv_iadd hx hb dL_law_1058 ?_
  refine lv_ton (n := i9 + 1) (nadd (by omega)) ?_
  refine va_sld hx hb hX9 hbl hbA hS (i := nI (i9 + 1)) (vp9 (by omega) hL96) dL_law_1059 ?_
  refine W.eq (g2 := F0 m 1060 ls [.int (sx9 xs (i9 + 1)), .ref m0]) rfl ?_
  refine lv_aload_n hx hb dL_law_1060 rfl (lv_at hl 1 rfl) ?_
  refine lv_iload hx hb dL_law_1061 (lv_at hl 6 rfl) ?_
  refine lv_iconst (v := nI 2) hx hb dL_law_1063 (by decide) ?_
  refine lv_iadd hx hb dL_law_1064 ?_
  refine lv_ton (n := i9 + 2) (nadd (by omega)) ?_
  refine va_sld hx hb hX9 hbl hbA hS (i := nI (i9 + 2)) (vp9 (by omega) hL96) dL_law_1065 ?_
  refine W.eq (g2 := F0 m 1066 ls [.int (sx9 xs (i9 + 2)), .int (sx9 xs (i9 + 1)), .ref m0]) rfl ?_
  have hpm_4057 : (([(oD, .inl (G.2 6, 1, .inr (.inr (.inr (.inl og))))), (o, .inl (G.2 5, 1, .inr (.inl of2_4049)))] ++ (WM ++ (W2_4051 ++ []))) : va_W).Perm ((WM ++ []) ++ ([(oD, .inl (G.2 6, 1, .inr (.inr (.inr (.inl og))))), (o, .inl (G.2 5, 1, .inr (.inl of2_4049)))] ++ (W2_4051 ++ []))) := segs_perm [[(oD, .inl (G.2 6, 1, .inr (.inr (.inr (.inl og)))))], [(o, .inl (G.2 5, 1, .inr (.inl of2_4049)))], WM, W2_4051] [2] [0, 1, 3] rfl
  have hF := hF_ofP (wc := (WM ++ [])) hD hS hA hpm_4057
  refine go_ctP hS hP hD hpm_4057 hF
      (va_runV (As := [.int (sx9 xs (i9 + 1)), .int (sx9 xs (i9 + 2))]) (rest := []) cf (eX4_moveSession l G m0 M th WM (sx9 xs (i9 + 1)) (sx9 xs (i9 + 2)) (hMd) (hIm) H.size) (cwV 2 hts (lw_V q1755 q1756 q1757 q58 q1758) rfl rfl rfl (by decide +kernel) ⟨Nat.le_of_ble_eq_true rfl, Nat.le_of_ble_eq_true rfl⟩) (preV_of hKB hE hS hF (MdW.recv hK hMd (seg_at [[(oD, .inl (G.2 6, 1, .inr (.inr (.inr (.inl og)))))], [(o, .inl (G.2 5, 1, .inr (.inl of2_4049)))], WM, W2_4051] 2 rfl hP)) (P_left (P_perm hpm_4057 hP)) ((D_left (D_perm hpm_4057 hD)).weaken (fun _ _ _ _ => trivial)) trivial) rfl rfl hl.1 rfl (lv_room (Nat.le_of_ble_eq_true rfl)) dL_law_1066 ⟨show cl + (3 + 101) + 0 ≤ 1200144 from by first | decide | omega, show sl + (70 + 5800) + 0 ≤ 5495674 from by first | decide | omega⟩)
      (fun u_ H locs hq hph (hP : va_P G.1 CL (([(oD, .inl (G.2 6, 1, .inr (.inr (.inr (.inl og))))), (o, .inl (G.2 5, 1, .inr (.inl of2_4049)))] ++ (W2_4051 ++ [])) ++ (u_.2 ++ [])) H) (hD : va_D A (([(oD, .inl (G.2 6, 1, .inr (.inr (.inr (.inl og))))), (o, .inl (G.2 5, 1, .inr (.inl of2_4049)))] ++ (W2_4051 ++ [])) ++ (u_.2 ++ []))) hS hfz hfk => ?_)
  obtain ⟨rr_4058, W2_4059⟩ := u_
  obtain ⟨hq_4060, hq_4061⟩ : ((o_move (dC M) (sx9 xs (i9 + 1)) (sx9 xs (i9 + 2))).1 = 0 → rr_4058 = (o_move (dC M) (sx9 xs (i9 + 1)) (sx9 xs (i9 + 2))).2.1) ∧ MdW G m0 (if (o_move (dC M) (sx9 xs (i9 + 1)) (sx9 xs (i9 + 2))).1 = 0 then (((o_move (dC M) (sx9 xs (i9 + 1)) (sx9 xs (i9 + 2))).2.2, dS M, min 6 (dK M + 1), hsR (dH M) (dK M) (dC M), dL M, dN M) : DS) else M) (o_move (dC M) (sx9 xs (i9 + 1)) (sx9 xs (i9 + 2))).1 W2_4059 := hq
  have hpm_4062 : (([(oD, .inl (G.2 6, 1, .inr (.inr (.inr (.inl og))))), (o, .inl (G.2 5, 1, .inr (.inl of2_4049)))] ++ (W2_4051 ++ [])) ++ (W2_4059 ++ []) : va_W).Perm ([(oD, .inl (G.2 6, 1, .inr (.inr (.inr (.inl og))))), (o, .inl (G.2 5, 1, .inr (.inl of2_4049)))] ++ (W2_4051 ++ (W2_4059 ++ []))) := segs_perm2 [[(oD, .inl (G.2 6, 1, .inr (.inr (.inr (.inl og)))))], [(o, .inl (G.2 5, 1, .inr (.inl of2_4049)))], W2_4051] [W2_4059] [0, 1, 2, 3] rfl
  have hP : va_P G.1 CL ([(oD, .inl (G.2 6, 1, .inr (.inr (.inr (.inl og))))), (o, .inl (G.2 5, 1, .inr (.inl of2_4049)))] ++ (W2_4051 ++ (W2_4059 ++ []))) H := P_perm hpm_4062 hP
  have hD : va_D A ([(oD, .inl (G.2 6, 1, .inr (.inr (.inr (.inl og))))), (o, .inl (G.2 5, 1, .inr (.inl of2_4049)))] ++ (W2_4051 ++ (W2_4059 ++ []))) := D_perm hpm_4062 hD
  refine W.eq (g2 := F0 m 1069 ls [.int rr_4058]) rfl ?_
  refine lv_istore (lv' := [(7, .int rr_4058), (6, .int (nI ((o_move (dC C) (sx9 xs (i9 + 1)) (sx9 xs (i9 + 2))).1))), (0, .ref b), (1, .ref d), (2, .ref m0), (3, .ref o), (4, .ref oD), (5, .int (nI i9))]) hx hb dL_law_1069 hl (by decide) rfl (fun ls hl => ?_)
  refine lv_aload_n hx hb dL_law_1071 rfl (lv_at hl 4 rfl) ?_
  have hpm_4063 : (([(oD, .inl (G.2 6, 1, .inr (.inr (.inr (.inl og))))), (o, .inl (G.2 5, 1, .inr (.inl of2_4049)))] ++ (W2_4051 ++ (W2_4059 ++ []))) : va_W).Perm ([] ++ ([(oD, .inl (G.2 6, 1, .inr (.inr (.inr (.inl og))))), (o, .inl (G.2 5, 1, .inr (.inl of2_4049)))] ++ (W2_4051 ++ (W2_4059 ++ [])))) := segs_perm [[(oD, .inl (G.2 6, 1, .inr (.inr (.inr (.inl og)))))], [(o, .inl (G.2 5, 1, .inr (.inl of2_4049)))], W2_4051, W2_4059] [] [0, 1, 2, 3] rfl
  have hF := hF_ofP (wc := []) hD hS hA hpm_4063
  refine go_ctP hS hP hD hpm_4063 hF
      (va_runV (As := []) (rest := []) cf (eX4_thrown l G m0 (if ((o_move (dC M) id d)).1 = 0 then ((((o_move (dC M) id d)).2.2, dS M, min 6 (dK M + 1), hsR (dH M) (dK M) (dC M), dL M, dN M) : DS) else M) (((o_move (dC M) id d)).1) W2_4059 (hq_4061) H.size) (cwV 0 hts (lw_V q1639 q1640 q1641 q58 q1642) rfl rfl rfl (by decide +kernel) ⟨Nat.le_of_ble_eq_true rfl, Nat.le_of_ble_eq_true rfl⟩) (preV_of hKB hE hS hF (MdW.recv hK hq_4061 (seg_at [[(oD, .inl (G.2 6, 1, .inr (.inr (.inr (.inl og)))))], [(o, .inl (G.2 5, 1, .inr (.inl of2_4049)))], W2_4051, W2_4059] 3 rfl hP)) (P_left (P_perm hpm_4063 hP)) ((D_left (D_perm hpm_4063 hD)).weaken (fun _ _ _ _ => trivial)) (roW.nil (seg_at [[(oD, .inl (G.2 6, 1, .inr (.inr (.inr (.inl og)))))], [(o, .inl (G.2 5, 1, .inr (.inl of2_4049)))], W2_4051, W2_4059] 3 rfl hP))) rfl rfl hl.1 rfl (lv_room (Nat.le_of_ble_eq_true rfl)) dL_law_1072 ⟨show cl + (3 + 101) + 0 ≤ 1200144 from by first | decide | omega, show sl + (70 + 5800) + 0 ≤ 5495674 from by first | decide | omega⟩)
      (fun u_ H locs hq hph (hP : va_P G.1 CL (([(oD, .inl (G.2 6, 1, .inr (.inr (.inr (.inl og))))), (o, .inl (G.2 5, 1, .inr (.inl of2_4049)))] ++ (W2_4051 ++ (W2_4059 ++ []))) ++ []) H) (hD : va_D A (([(oD, .inl (G.2 6, 1, .inr (.inr (.inr (.inl og))))), (o, .inl (G.2 5, 1, .inr (.inl of2_4049)))] ++ (W2_4051 ++ (W2_4059 ++ []))) ++ [])) hS hfz hfk => ?_)
  have hpm_4064 : (([(oD, .inl (G.2 6, 1, .inr (.inr (.inr (.inl og))))), (o, .inl (G.2 5, 1, .inr (.inl of2_4049)))] ++ (W2_4051 ++ (W2_4059 ++ []))) ++ [] : va_W).Perm ([(oD, .inl (G.2 6, 1, .inr (.inr (.inr (.inl og))))), (o, .inl (G.2 5, 1, .inr (.inl of2_4049)))] ++ (W2_4051 ++ (W2_4059 ++ []))) := segs_perm2 [[(oD, .inl (G.2 6, 1, .inr (.inr (.inr (.inl og)))))], [(o, .inl (G.2 5, 1, .inr (.inl of2_4049)))], W2_4051, W2_4059] [] [0, 1, 2, 3] rfl
  have hP : va_P G.1 CL ([(oD, .inl (G.2 6, 1, .inr (.inr (.inr (.inl og))))), (o, .inl (G.2 5, 1, .inr (.inl of2_4049)))] ++ (W2_4051 ++ (W2_4059 ++ []))) H := P_perm hpm_4064 hP
  have hD : va_D A ([(oD, .inl (G.2 6, 1, .inr (.inr (.inr (.inl og))))), (o, .inl (G.2 5, 1, .inr (.inl of2_4049)))] ++ (W2_4051 ++ (W2_4059 ++ []))) := D_perm hpm_4064 hD
  refine W.eq (g2 := F0 m 1075 ls [.int (nI (((o_move (dC M) id d)).1))]) rfl ?_
  refine lv_ton (n := ((o_move (dC C) (sx9 xs (i9 + 1)) (sx9 xs (i9 + 2))).1)) (congrArg nI hqs.1.symm) ?_
  refine lv_iload hx hb dL_law_1075 (lv_at hl 1 rfl) ?_
  refine lv_icmp_eq (tgt := 1082) hx hb dL_law_1077 (by decide) (fun _ => ?_) (fun c9 => absurd rfl c9)
  refine lv_iload hx hb dL_law_1082 (lv_at hl 1 rfl) ?_
  refine n_if_ne (tgt := 1099) hx hb (by omega) dL_law_1084 (by decide) (fun c_4065 => ?_) (fun c_4065 => ?_)
  · refine lv_goto (tgt := 2788) hx hb dL_law_1099 (by decide) ?_
    have hpm_4066 : (([(oD, .inl (G.2 6, 1, .inr (.inr (.inr (.inl og))))), (o, .inl (G.2 5, 1, .inr (.inl of2_4049)))] ++ (W2_4051 ++ (W2_4059 ++ []))) : va_W).Perm (([(o, .inl (G.2 5, 1, .inr (.inl of2_4049))), (oD, .inl (G.2 6, 1, .inr (.inr (.inr (.inl og)))))] ++ (W2_4051 ++ (W2_4059 ++ []))) ++ []) := segs_perm [[(oD, .inl (G.2 6, 1, .inr (.inr (.inr (.inl og)))))], [(o, .inl (G.2 5, 1, .inr (.inl of2_4049)))], W2_4051, W2_4059] [1, 0, 2, 3] [] rfl
    have hP : va_P G.1 CL ([(o, .inl (G.2 5, 1, .inr (.inl of2_4049))), (oD, .inl (G.2 6, 1, .inr (.inr (.inr (.inl og)))))] ++ (W2_4051 ++ (W2_4059 ++ []))) H := P_left (P_perm hpm_4066 hP)
    have hD : va_D A ([(o, .inl (G.2 5, 1, .inr (.inl of2_4049))), (oD, .inl (G.2 6, 1, .inr (.inr (.inr (.inl og)))))] ++ (W2_4051 ++ (W2_4059 ++ []))) := D_left (D_perm hpm_4066 hD)
    have hl := lv_sub hl [2, 3, 4, 5, 6, 7] (l' := [(0, .ref b), (1, .ref d), (2, .ref m0), (3, .ref o), (4, .ref oD), (5, .int (nI i9))]) rfl
    exact W.widen (show cl + (3 + 101) ≤ cl + 20000 from by omega) (show sl + (70 + 5800) ≤ sl + 45000 from by omega) (kk ls H locs S2_4050 (if ((o_move (dC M) id d)).1 = 0 then ((((o_move (dC M) id d)).2.2, dS M, min 6 (dK M + 1), hsR (dH M) (dK M) (dC M), dL M, dN M) : DS) else M) (((o_move (dC M) id d)).1) W2_4051 W2_4059 of2_4049 og hP hD hS hl hq_4055 hq_4061 (hLw.mut hqs hq_4053 (o_move_b (dC C) (sx9 xs (i9 + 1)) (sx9 xs (i9 + 2)))))
  · refine lv_aload_n hx hb dL_law_1087 rfl (lv_at hl 5 rfl) ?_
    refine lv_iconst (v := nI 0) hx hb dL_law_1088 (by decide) ?_
    refine r_lald (v := (((o_move (dC C) (sx9 xs (i9 + 1)) (sx9 xs (i9 + 2)))).2.1).toInt64) hx hb hK hP 1 5 rfl rfl (i := 0) (by omega) (by omega) ((hq_4052 (by omega))) dL_law_1089 ?_
    refine lv_iload hx hb dL_law_1090 (lv_at hl 0 rfl) ?_
    refine lv_toi (y := ((o_move (dC C) (sx9 xs (i9 + 1)) (sx9 xs (i9 + 2)))).2.1) ((hq_4060 (hqs.1.symm.trans (by omega))).trans hqs.2.1.symm) ?_
    refine lv_i2l (v := (((o_move (dC C) (sx9 xs (i9 + 1)) (sx9 xs (i9 + 2)))).2.1).toInt64) hx hb dL_law_1092 rfl ?_
    refine W.lcmp hx hb dL_law_1093 ?_
    refine lv_ton (n := 0) (lcmp0 _) ?_
    refine n_if_eq (tgt := 1099) hx hb (by omega) dL_law_1094 (by decide) (fun c_4067 => ?_) (fun c_4067 => absurd c_4067 (by omega))
    refine lv_goto (tgt := 2788) hx hb dL_law_1099 (by decide) ?_
    have hpm_4068 : (([(oD, .inl (G.2 6, 1, .inr (.inr (.inr (.inl og))))), (o, .inl (G.2 5, 1, .inr (.inl of2_4049)))] ++ (W2_4051 ++ (W2_4059 ++ []))) : va_W).Perm (([(o, .inl (G.2 5, 1, .inr (.inl of2_4049))), (oD, .inl (G.2 6, 1, .inr (.inr (.inr (.inl og)))))] ++ (W2_4051 ++ (W2_4059 ++ []))) ++ []) := segs_perm [[(oD, .inl (G.2 6, 1, .inr (.inr (.inr (.inl og)))))], [(o, .inl (G.2 5, 1, .inr (.inl of2_4049)))], W2_4051, W2_4059] [1, 0, 2, 3] [] rfl
    have hP : va_P G.1 CL ([(o, .inl (G.2 5, 1, .inr (.inl of2_4049))), (oD, .inl (G.2 6, 1, .inr (.inr (.inr (.inl og)))))] ++ (W2_4051 ++ (W2_4059 ++ []))) H := P_left (P_perm hpm_4068 hP)
    have hD : va_D A ([(o, .inl (G.2 5, 1, .inr (.inl of2_4049))), (oD, .inl (G.2 6, 1, .inr (.inr (.inr (.inl og)))))] ++ (W2_4051 ++ (W2_4059 ++ []))) := D_left (D_perm hpm_4068 hD)
    have hl := lv_sub hl [2, 3, 4, 5, 6, 7] (l' := [(0, .ref b), (1, .ref d), (2, .ref m0), (3, .ref o), (4, .ref oD), (5, .int (nI i9))]) rfl
    exact W.widen (show cl + (3 + 101) ≤ cl + 20000 from by omega) (show sl + (70 + 5800) ≤ sl + 45000 from by omega) (kk ls H locs S2_4050 (if ((o_move (dC M) id d)).1 = 0 then ((((o_move (dC M) id d)).2.2, dS M, min 6 (dK M + 1), hsR (dH M) (dK M) (dC M), dL M, dN M) : DS) else M) (((o_move (dC M) id d)).1) W2_4051 W2_4059 of2_4049 og hP hD hS hl hq_4055 hq_4061 (hLw.mut hqs hq_4053 (o_move_b (dC C) (sx9 xs (i9 + 1)) (sx9 xs (i9 + 2)))))

set_option maxHeartbeats 4000000 in
theorem lawK_15 {p : Program} {l : Launch} {e : Env} {s : State} {m : MethodId} {below : List Frame} {meth : Method} {c : Code} {G : Gt} {A : Nat → Prop} {b L : Nat} {xs : Nat → Int32} {Q : State → Prop} {d m0 o oD i9 N cl sl : Nat} (hfl : l.stackTraces = false) (F : LwF G A p s m c b L xs) (hi9 : i9 + 4 ≤ L) (hN24 : N ≤ 24) (hcl : cl + 20000 ≤ 1200144) (hsl : sl + 45000 ≤ 5495674) (kk : ∀ (ls : Array Slot) (H : Heap) (locs : List Loc) (C M : DS) (th : Nat) (WD WM : va_W) (of : Nat → Int64) (og : Nat → UInt64), va_P G.1 CL ([(o, .inl (G.2 5, 1, .inr (.inl of))), (oD, .inl (G.2 6, 1, .inr (.inr (.inr (.inl og)))))] ++ (WD ++ (WM ++ []))) H → va_D A ([(o, .inl (G.2 5, 1, .inr (.inl of))), (oD, .inl (G.2 6, 1, .inr (.inr (.inr (.inl og)))))] ++ (WD ++ (WM ++ []))) → va_S A s.heap H locs → lv_has ls 10 [(0, .ref b), (1, .ref d), (2, .ref m0), (3, .ref o), (4, .ref oD), (5, .int (nI i9))] → DyW G d C WD → MdW G m0 M th WM → LawI C M (N + 1) → W p l e room_1 s m #[Value.ref b] below meth c H locs (cl + 20000) (sl + 45000) Q (F0 m 2788 ls [])) {ls : Array Slot} {H : Heap} {locs : List Loc} {C M : DS} {th : Nat} {WD WM : va_W} {of : Nat → Int64} {og : Nat → UInt64} (hP : va_P G.1 CL ([(o, .inl (G.2 5, 1, .inr (.inl of))), (oD, .inl (G.2 6, 1, .inr (.inr (.inr (.inl og)))))] ++ (WD ++ (WM ++ []))) H) (hD : va_D A ([(o, .inl (G.2 5, 1, .inr (.inl of))), (oD, .inl (G.2 6, 1, .inr (.inr (.inr (.inl og)))))] ++ (WD ++ (WM ++ [])))) (hS : va_S A s.heap H locs) (hl : lv_has ls 10 [(0, .ref b), (1, .ref d), (2, .ref m0), (3, .ref o), (4, .ref oD), (5, .int (nI i9))]) (hDy : DyW G d C WD) (hMd : MdW G m0 M th WM) (hLw : LawI C M N) : W p l e room_1 s m #[Value.ref b] below meth c H locs cl sl Q (F0 m 1102 ls []) := by
  obtain ⟨cf, hKB, hE, hA, hX9, hbl, hbA, hNc, hL96⟩ := F
  have hx := cf.1
  have hb := cf.2.1
  have hml := cf.2.2.1
  have hown : s.vm.findClass RX0 = some m.cls := cf.2.2.2.1
  have hts := cf.2.2.2.2
  have hK := hKB.1
  have hIc := hDy.inv.1
  have hIm : Inv (dC M) := Inv_sim hLw.1 hIc
  have hRk : RkOk (dC M) := RkOk_sim hLw.1 (RkOk_srt hDy.inv.2.2)
  have hl := hl
  refine lv_aload_n hx hb dL_law_1102 rfl (lv_at hl 1 rfl) ?_
  refine lv_aload_n hx hb dL_law_1103 rfl (lv_at hl 0 rfl) ?_
  refine lv_iload hx hb dL_law_1104 (lv_at hl 5 rfl) ?_
  refine lv_iconst (v := nI 1) hx hb dL_law_1106 (by decide) ?_
  refine lv_iadd hx hb dL_law_1107 ?_
  refine lv_ton (n := i9 + 1) (nadd (by omega)) ?_
  refine va_sld hx hb hX9 hbl hbA hS (i := nI (i9 + 1)) (vp9 (by omega) hL96) dL_law_1108 ?_
  refine W.eq (g2 := F0 m 1109 ls [.int (sx9 xs (i9 + 1)), .ref d]) rfl ?_
  refine lv_aload_n hx hb dL_law_1109 rfl (lv_at hl 3 rfl) ?_
  have hpm_4069 : (([(o, .inl (G.2 5, 1, .inr (.inl of))), (oD, .inl (G.2 6, 1, .inr (.inr (.inr (.inl og)))))] ++ (WD ++ (WM ++ []))) : va_W).Perm (([(o, .inl (G.2 5, 1, .inr (.inl of)))] ++ (WD ++ [])) ++ ([(oD, .inl (G.2 6, 1, .inr (.inr (.inr (.inl og)))))] ++ (WM ++ []))) := segs_perm [[(o, .inl (G.2 5, 1, .inr (.inl of)))], [(oD, .inl (G.2 6, 1, .inr (.inr (.inr (.inl og)))))], WD, WM] [0, 2] [1, 3] rfl
  have hF := hF_ofP (wc := ([(o, .inl (G.2 5, 1, .inr (.inl of)))] ++ (WD ++ []))) hD hS hA hpm_4069
  refine go_ctP hS hP hD hpm_4069 hF
      (vx_runSW (As := [.ref d, .int (sx9 xs (i9 + 1)), .ref o]) (rest := []) cf (wX0_removeSession l G d C WD o of (sx9 xs (i9 + 1)) (hDy) hfl H.size) (vx_cwSW 3 hts (lw_SW q1183 q1184 q46 q1185) rfl rfl rfl (by decide +kernel) ⟨Nat.le_of_ble_eq_true rfl, Nat.le_of_ble_eq_true rfl⟩) (preS_ofW hNc hKB hE hS hF (P_left (P_perm hpm_4069 hP)) ((D_left (D_perm hpm_4069 hD)).weaken (fun _ _ _ _ => trivial)) trivial) rfl rfl hl.1 rfl (lv_room (Nat.le_of_ble_eq_true rfl)) dL_law_1110 ⟨show cl + (1 + 101) ≤ 1200144 from by first | decide | omega, show sl + (6 + 5800) ≤ 5495674 from by first | decide | omega⟩)
      (fun u_ H locs hq hph (hP : va_P G.1 CL (([(oD, .inl (G.2 6, 1, .inr (.inr (.inr (.inl og)))))] ++ (WM ++ [])) ++ ([(o, .inl (G.2 5, 1, .inr (.inl u_.1)))] ++ (u_.2.2 ++ []))) H) (hD : va_D A (([(oD, .inl (G.2 6, 1, .inr (.inr (.inr (.inl og)))))] ++ (WM ++ [])) ++ ([(o, .inl (G.2 5, 1, .inr (.inl u_.1)))] ++ (u_.2.2 ++ [])))) hS hfz hfk => ?_)
  obtain ⟨of2_4070, S2_4071, W2_4072⟩ := u_
  obtain ⟨hq_4073, hq_4074, hq_4075, hq_4076⟩ : ((o_remSes (dC C) (sx9 xs (i9 + 1))).1 = 0 → of2_4070 0 = ((o_remSes (dC C) (sx9 xs (i9 + 1))).2.1).toInt64) ∧ NxS C (o_remSes (dC C) (sx9 xs (i9 + 1))) S2_4071 ∧ (o_remSes (dC C) (sx9 xs (i9 + 1))).1 < 10 ∧ DyW G d S2_4071 W2_4072 := hq
  have hpm_4077 : (([(oD, .inl (G.2 6, 1, .inr (.inr (.inr (.inl og)))))] ++ (WM ++ [])) ++ ([(o, .inl (G.2 5, 1, .inr (.inl of2_4070)))] ++ (W2_4072 ++ [])) : va_W).Perm ([(oD, .inl (G.2 6, 1, .inr (.inr (.inr (.inl og))))), (o, .inl (G.2 5, 1, .inr (.inl of2_4070)))] ++ (WM ++ (W2_4072 ++ []))) := segs_perm2 [[(oD, .inl (G.2 6, 1, .inr (.inr (.inr (.inl og)))))], WM] [[(o, .inl (G.2 5, 1, .inr (.inl of2_4070)))], W2_4072] [0, 2, 1, 3] rfl
  have hP : va_P G.1 CL ([(oD, .inl (G.2 6, 1, .inr (.inr (.inr (.inl og))))), (o, .inl (G.2 5, 1, .inr (.inl of2_4070)))] ++ (WM ++ (W2_4072 ++ []))) H := P_perm hpm_4077 hP
  have hD : va_D A ([(oD, .inl (G.2 6, 1, .inr (.inr (.inr (.inl og))))), (o, .inl (G.2 5, 1, .inr (.inl of2_4070)))] ++ (WM ++ (W2_4072 ++ []))) := D_perm hpm_4077 hD
  refine W.eq (g2 := F0 m 1113 ls [.int (nI ((o_remSes (dC C) (sx9 xs (i9 + 1))).1))]) rfl ?_
  have hqs : SimR (o_remSes (dC C) (sx9 xs (i9 + 1))) (o_remSes (dC M) id) := o_remSes_sim hLw.1 hIc (sx9 xs (i9 + 1))
  refine lv_istore (lv' := [(6, .int (nI ((o_remSes (dC C) (sx9 xs (i9 + 1))).1))), (0, .ref b), (1, .ref d), (2, .ref m0), (3, .ref o), (4, .ref oD), (5, .int (nI i9))]) hx hb dL_law_1113 hl (by decide) rfl (fun ls hl => ?_)
  refine lv_aload_n hx hb dL_law_1115 rfl (lv_at hl 3 rfl) ?_
  refine lv_aload_n hx hb dL_law_1116 rfl (lv_at hl 1 rfl) ?_
  refine lv_iload hx hb dL_law_1117 (lv_at hl 6 rfl) ?_
  refine lv_iconst (v := nI 1) hx hb dL_law_1119 (by decide) ?_
  refine lv_iadd hx hb dL_law_1120 ?_
  refine lv_ton (n := i9 + 1) (nadd (by omega)) ?_
  refine va_sld hx hb hX9 hbl hbA hS (i := nI (i9 + 1)) (vp9 (by omega) hL96) dL_law_1121 ?_
  refine W.eq (g2 := F0 m 1122 ls [.int (sx9 xs (i9 + 1)), .ref m0]) rfl ?_
  have hpm_4078 : (([(oD, .inl (G.2 6, 1, .inr (.inr (.inr (.inl og))))), (o, .inl (G.2 5, 1, .inr (.inl of2_4070)))] ++ (WM ++ (W2_4072 ++ []))) : va_W).Perm ((WM ++ []) ++ ([(oD, .inl (G.2 6, 1, .inr (.inr (.inr (.inl og))))), (o, .inl (G.2 5, 1, .inr (.inl of2_4070)))] ++ (W2_4072 ++ []))) := segs_perm [[(oD, .inl (G.2 6, 1, .inr (.inr (.inr (.inl og)))))], [(o, .inl (G.2 5, 1, .inr (.inl of2_4070)))], WM, W2_4072] [2] [0, 1, 3] rfl
  have hF := hF_ofP (wc := (WM ++ [])) hD hS hA hpm_4078
  refine go_ctP hS hP hD hpm_4078 hF
      (va_runV (As := [.int (sx9 xs (i9 + 1))]) (rest := []) cf (eX4_removeSession l G m0 M th WM (sx9 xs (i9 + 1)) (hMd) (hIm) H.size) (cwV 1 hts (lw_V q1759 q1760 q1761 q58 q1762) rfl rfl rfl (by decide +kernel) ⟨Nat.le_of_ble_eq_true rfl, Nat.le_of_ble_eq_true rfl⟩) (preV_of hKB hE hS hF (MdW.recv hK hMd (seg_at [[(oD, .inl (G.2 6, 1, .inr (.inr (.inr (.inl og)))))], [(o, .inl (G.2 5, 1, .inr (.inl of2_4070)))], WM, W2_4072] 2 rfl hP)) (P_left (P_perm hpm_4078 hP)) ((D_left (D_perm hpm_4078 hD)).weaken (fun _ _ _ _ => trivial)) trivial) rfl rfl hl.1 rfl (lv_room (Nat.le_of_ble_eq_true rfl)) dL_law_1122 ⟨show cl + (1 + 101) + 0 ≤ 1200144 from by first | decide | omega, show sl + (6 + 5800) + 0 ≤ 5495674 from by first | decide | omega⟩)
      (fun u_ H locs hq hph (hP : va_P G.1 CL (([(oD, .inl (G.2 6, 1, .inr (.inr (.inr (.inl og))))), (o, .inl (G.2 5, 1, .inr (.inl of2_4070)))] ++ (W2_4072 ++ [])) ++ (u_.2 ++ [])) H) (hD : va_D A (([(oD, .inl (G.2 6, 1, .inr (.inr (.inr (.inl og))))), (o, .inl (G.2 5, 1, .inr (.inl of2_4070)))] ++ (W2_4072 ++ [])) ++ (u_.2 ++ []))) hS hfz hfk => ?_)
  obtain ⟨rr_4079, W2_4080⟩ := u_
  obtain ⟨hq_4081, hq_4082⟩ : ((o_remSes (dC M) (sx9 xs (i9 + 1))).1 = 0 → rr_4079 = (o_remSes (dC M) (sx9 xs (i9 + 1))).2.1) ∧ MdW G m0 (if (o_remSes (dC M) (sx9 xs (i9 + 1))).1 = 0 then (((o_remSes (dC M) (sx9 xs (i9 + 1))).2.2, dS M, min 6 (dK M + 1), hsR (dH M) (dK M) (dC M), dL M, dN M) : DS) else M) (o_remSes (dC M) (sx9 xs (i9 + 1))).1 W2_4080 := hq
  have hpm_4083 : (([(oD, .inl (G.2 6, 1, .inr (.inr (.inr (.inl og))))), (o, .inl (G.2 5, 1, .inr (.inl of2_4070)))] ++ (W2_4072 ++ [])) ++ (W2_4080 ++ []) : va_W).Perm ([(oD, .inl (G.2 6, 1, .inr (.inr (.inr (.inl og))))), (o, .inl (G.2 5, 1, .inr (.inl of2_4070)))] ++ (W2_4072 ++ (W2_4080 ++ []))) := segs_perm2 [[(oD, .inl (G.2 6, 1, .inr (.inr (.inr (.inl og)))))], [(o, .inl (G.2 5, 1, .inr (.inl of2_4070)))], W2_4072] [W2_4080] [0, 1, 2, 3] rfl
  have hP : va_P G.1 CL ([(oD, .inl (G.2 6, 1, .inr (.inr (.inr (.inl og))))), (o, .inl (G.2 5, 1, .inr (.inl of2_4070)))] ++ (W2_4072 ++ (W2_4080 ++ []))) H := P_perm hpm_4083 hP
  have hD : va_D A ([(oD, .inl (G.2 6, 1, .inr (.inr (.inr (.inl og))))), (o, .inl (G.2 5, 1, .inr (.inl of2_4070)))] ++ (W2_4072 ++ (W2_4080 ++ []))) := D_perm hpm_4083 hD
  refine W.eq (g2 := F0 m 1125 ls [.int rr_4079]) rfl ?_
  refine lv_istore (lv' := [(7, .int rr_4079), (6, .int (nI ((o_remSes (dC C) (sx9 xs (i9 + 1))).1))), (0, .ref b), (1, .ref d), (2, .ref m0), (3, .ref o), (4, .ref oD), (5, .int (nI i9))]) hx hb dL_law_1125 hl (by decide) rfl (fun ls hl => ?_)
  refine lv_aload_n hx hb dL_law_1127 rfl (lv_at hl 4 rfl) ?_
  have hpm_4084 : (([(oD, .inl (G.2 6, 1, .inr (.inr (.inr (.inl og))))), (o, .inl (G.2 5, 1, .inr (.inl of2_4070)))] ++ (W2_4072 ++ (W2_4080 ++ []))) : va_W).Perm ([] ++ ([(oD, .inl (G.2 6, 1, .inr (.inr (.inr (.inl og))))), (o, .inl (G.2 5, 1, .inr (.inl of2_4070)))] ++ (W2_4072 ++ (W2_4080 ++ [])))) := segs_perm [[(oD, .inl (G.2 6, 1, .inr (.inr (.inr (.inl og)))))], [(o, .inl (G.2 5, 1, .inr (.inl of2_4070)))], W2_4072, W2_4080] [] [0, 1, 2, 3] rfl
  have hF := hF_ofP (wc := []) hD hS hA hpm_4084
  refine go_ctP hS hP hD hpm_4084 hF
      (va_runV (As := []) (rest := []) cf (eX4_thrown l G m0 (if ((o_remSes (dC M) id)).1 = 0 then ((((o_remSes (dC M) id)).2.2, dS M, min 6 (dK M + 1), hsR (dH M) (dK M) (dC M), dL M, dN M) : DS) else M) (((o_remSes (dC M) id)).1) W2_4080 (hq_4082) H.size) (cwV 0 hts (lw_V q1639 q1640 q1641 q58 q1642) rfl rfl rfl (by decide +kernel) ⟨Nat.le_of_ble_eq_true rfl, Nat.le_of_ble_eq_true rfl⟩) (preV_of hKB hE hS hF (MdW.recv hK hq_4082 (seg_at [[(oD, .inl (G.2 6, 1, .inr (.inr (.inr (.inl og)))))], [(o, .inl (G.2 5, 1, .inr (.inl of2_4070)))], W2_4072, W2_4080] 3 rfl hP)) (P_left (P_perm hpm_4084 hP)) ((D_left (D_perm hpm_4084 hD)).weaken (fun _ _ _ _ => trivial)) (roW.nil (seg_at [[(oD, .inl (G.2 6, 1, .inr (.inr (.inr (.inl og)))))], [(o, .inl (G.2 5, 1, .inr (.inl of2_4070)))], W2_4072, W2_4080] 3 rfl hP))) rfl rfl hl.1 rfl (lv_room (Nat.le_of_ble_eq_true rfl)) dL_law_1128 ⟨show cl + (1 + 101) + 0 ≤ 1200144 from by first | decide | omega, show sl + (6 + 5800) + 0 ≤ 5495674 from by first | decide | omega⟩)
      (fun u_ H locs hq hph (hP : va_P G.1 CL (([(oD, .inl (G.2 6, 1, .inr (.inr (.inr (.inl og))))), (o, .inl (G.2 5, 1, .inr (.inl of2_4070)))] ++ (W2_4072 ++ (W2_4080 ++ []))) ++ []) H) (hD : va_D A (([(oD, .inl (G.2 6, 1, .inr (.inr (.inr (.inl og))))), (o, .inl (G.2 5, 1, .inr (.inl of2_4070)))] ++ (W2_4072 ++ (W2_4080 ++ []))) ++ [])) hS hfz hfk => ?_)
  have hpm_4085 : (([(oD, .inl (G.2 6, 1, .inr (.inr (.inr (.inl og))))), (o, .inl (G.2 5, 1, .inr (.inl of2_4070)))] ++ (W2_4072 ++ (W2_4080 ++ []))) ++ [] : va_W).Perm ([(oD, .inl (G.2 6, 1, .inr (.inr (.inr (.inl og))))), (o, .inl (G.2 5, 1, .inr (.inl of2_4070)))] ++ (W2_4072 ++ (W2_4080 ++ []))) := segs_perm2 [[(oD, .inl (G.2 6, 1, .inr (.inr (.inr (.inl og)))))], [(o, .inl (G.2 5, 1, .inr (.inl of2_4070)))], W2_4072, W2_4080] [] [0, 1, 2, 3] rfl
  have hP : va_P G.1 CL ([(oD, .inl (G.2 6, 1, .inr (.inr (.inr (.inl og))))), (o, .inl (G.2 5, 1, .inr (.inl of2_4070)))] ++ (W2_4072 ++ (W2_4080 ++ []))) H := P_perm hpm_4085 hP
  have hD : va_D A ([(oD, .inl (G.2 6, 1, .inr (.inr (.inr (.inl og))))), (o, .inl (G.2 5, 1, .inr (.inl of2_4070)))] ++ (W2_4072 ++ (W2_4080 ++ []))) := D_perm hpm_4085 hD
  refine W.eq (g2 := F0 m 1131 ls [.int (nI (((o_remSes (dC M) id)).1))]) rfl ?_
  refine lv_ton (n := ((o_remSes (dC C) (sx9 xs (i9 + 1))).1)) (congrArg nI hqs.1.symm) ?_
  refine lv_iload hx hb dL_law_1131 (lv_at hl 1 rfl) ?_
  refine lv_icmp_eq (tgt := 1138) hx hb dL_law_1133 (by decide) (fun _ => ?_) (fun c9 => absurd rfl c9)
  refine lv_iload hx hb dL_law_1138 (lv_at hl 1 rfl) ?_
  refine n_if_ne (tgt := 1155) hx hb (by omega) dL_law_1140 (by decide) (fun c_4086 => ?_) (fun c_4086 => ?_)
  · refine lv_goto (tgt := 2788) hx hb dL_law_1155 (by decide) ?_
    have hpm_4087 : (([(oD, .inl (G.2 6, 1, .inr (.inr (.inr (.inl og))))), (o, .inl (G.2 5, 1, .inr (.inl of2_4070)))] ++ (W2_4072 ++ (W2_4080 ++ []))) : va_W).Perm (([(o, .inl (G.2 5, 1, .inr (.inl of2_4070))), (oD, .inl (G.2 6, 1, .inr (.inr (.inr (.inl og)))))] ++ (W2_4072 ++ (W2_4080 ++ []))) ++ []) := segs_perm [[(oD, .inl (G.2 6, 1, .inr (.inr (.inr (.inl og)))))], [(o, .inl (G.2 5, 1, .inr (.inl of2_4070)))], W2_4072, W2_4080] [1, 0, 2, 3] [] rfl
    have hP : va_P G.1 CL ([(o, .inl (G.2 5, 1, .inr (.inl of2_4070))), (oD, .inl (G.2 6, 1, .inr (.inr (.inr (.inl og)))))] ++ (W2_4072 ++ (W2_4080 ++ []))) H := P_left (P_perm hpm_4087 hP)
    have hD : va_D A ([(o, .inl (G.2 5, 1, .inr (.inl of2_4070))), (oD, .inl (G.2 6, 1, .inr (.inr (.inr (.inl og)))))] ++ (W2_4072 ++ (W2_4080 ++ []))) := D_left (D_perm hpm_4087 hD)
    have hl := lv_sub hl [2, 3, 4, 5, 6, 7] (l' := [(0, .ref b), (1, .ref d), (2, .ref m0), (3, .ref o), (4, .ref oD), (5, .int (nI i9))]) rfl
    exact W.widen (show cl + (1 + 101) ≤ cl + 20000 from by omega) (show sl + (6 + 5800) ≤ sl + 45000 from by omega) (kk ls H locs S2_4071 (if ((o_remSes (dC M) id)).1 = 0 then ((((o_remSes (dC M) id)).2.2, dS M, min 6 (dK M + 1), hsR (dH M) (dK M) (dC M), dL M, dN M) : DS) else M) (((o_remSes (dC M) id)).1) W2_4072 W2_4080 of2_4070 og hP hD hS hl hq_4076 hq_4082 (hLw.mut hqs hq_4074 (o_remSes_b (dC C) (sx9 xs (i9 + 1)))))
  · refine lv_aload_n hx hb dL_law_1143 rfl (lv_at hl 5 rfl) ?_
    refine lv_iconst (v := nI 0) hx hb dL_law_1144 (by decide) ?_
    refine r_lald (v := (((o_remSes (dC C) (sx9 xs (i9 + 1)))).2.1).toInt64) hx hb hK hP 1 5 rfl rfl (i := 0) (by omega) (by omega) ((hq_4073 (by omega))) dL_law_1145 ?_
    refine lv_iload hx hb dL_law_1146 (lv_at hl 0 rfl) ?_
    refine lv_toi (y := ((o_remSes (dC C) (sx9 xs (i9 + 1)))).2.1) ((hq_4081 (hqs.1.symm.trans (by omega))).trans hqs.2.1.symm) ?_
    refine lv_i2l (v := (((o_remSes (dC C) (sx9 xs (i9 + 1)))).2.1).toInt64) hx hb dL_law_1148 rfl ?_
    refine W.lcmp hx hb dL_law_1149 ?_
    refine lv_ton (n := 0) (lcmp0 _) ?_
    refine n_if_eq (tgt := 1155) hx hb (by omega) dL_law_1150 (by decide) (fun c_4088 => ?_) (fun c_4088 => absurd c_4088 (by omega))
    refine lv_goto (tgt := 2788) hx hb dL_law_1155 (by decide) ?_
    have hpm_4089 : (([(oD, .inl (G.2 6, 1, .inr (.inr (.inr (.inl og))))), (o, .inl (G.2 5, 1, .inr (.inl of2_4070)))] ++ (W2_4072 ++ (W2_4080 ++ []))) : va_W).Perm (([(o, .inl (G.2 5, 1, .inr (.inl of2_4070))), (oD, .inl (G.2 6, 1, .inr (.inr (.inr (.inl og)))))] ++ (W2_4072 ++ (W2_4080 ++ []))) ++ []) := segs_perm [[(oD, .inl (G.2 6, 1, .inr (.inr (.inr (.inl og)))))], [(o, .inl (G.2 5, 1, .inr (.inl of2_4070)))], W2_4072, W2_4080] [1, 0, 2, 3] [] rfl
    have hP : va_P G.1 CL ([(o, .inl (G.2 5, 1, .inr (.inl of2_4070))), (oD, .inl (G.2 6, 1, .inr (.inr (.inr (.inl og)))))] ++ (W2_4072 ++ (W2_4080 ++ []))) H := P_left (P_perm hpm_4089 hP)
    have hD : va_D A ([(o, .inl (G.2 5, 1, .inr (.inl of2_4070))), (oD, .inl (G.2 6, 1, .inr (.inr (.inr (.inl og)))))] ++ (W2_4072 ++ (W2_4080 ++ []))) := D_left (D_perm hpm_4089 hD)
    have hl := lv_sub hl [2, 3, 4, 5, 6, 7] (l' := [(0, .ref b), (1, .ref d), (2, .ref m0), (3, .ref o), (4, .ref oD), (5, .int (nI i9))]) rfl
    exact W.widen (show cl + (1 + 101) ≤ cl + 20000 from by omega) (show sl + (6 + 5800) ≤ sl + 45000 from by omega) (kk ls H locs S2_4071 (if ((o_remSes (dC M) id)).1 = 0 then ((((o_remSes (dC M) id)).2.2, dS M, min 6 (dK M + 1), hsR (dH M) (dK M) (dC M), dL M, dN M) : DS) else M) (((o_remSes (dC M) id)).1) W2_4072 W2_4080 of2_4070 og hP hD hS hl hq_4076 hq_4082 (hLw.mut hqs hq_4074 (o_remSes_b (dC C) (sx9 xs (i9 + 1)))))

set_option maxHeartbeats 4000000 in
theorem lawK_16 {p : Program} {l : Launch} {e : Env} {s : State} {m : MethodId} {below : List Frame} {meth : Method} {c : Code} {G : Gt} {A : Nat → Prop} {b L : Nat} {xs : Nat → Int32} {Q : State → Prop} {d m0 o oD i9 N cl sl : Nat} (hfl : l.stackTraces = false) (F : LwF G A p s m c b L xs) (hi9 : i9 + 4 ≤ L) (hN24 : N ≤ 24) (hcl : cl + 20000 ≤ 1200144) (hsl : sl + 45000 ≤ 5495674) (kk : ∀ (ls : Array Slot) (H : Heap) (locs : List Loc) (C M : DS) (th : Nat) (WD WM : va_W) (of : Nat → Int64) (og : Nat → UInt64), va_P G.1 CL ([(o, .inl (G.2 5, 1, .inr (.inl of))), (oD, .inl (G.2 6, 1, .inr (.inr (.inr (.inl og)))))] ++ (WD ++ (WM ++ []))) H → va_D A ([(o, .inl (G.2 5, 1, .inr (.inl of))), (oD, .inl (G.2 6, 1, .inr (.inr (.inr (.inl og)))))] ++ (WD ++ (WM ++ []))) → va_S A s.heap H locs → lv_has ls 10 [(0, .ref b), (1, .ref d), (2, .ref m0), (3, .ref o), (4, .ref oD), (5, .int (nI i9))] → DyW G d C WD → MdW G m0 M th WM → LawI C M (N + 1) → W p l e room_1 s m #[Value.ref b] below meth c H locs (cl + 20000) (sl + 45000) Q (F0 m 2788 ls [])) {ls : Array Slot} {H : Heap} {locs : List Loc} {C M : DS} {th : Nat} {WD WM : va_W} {of : Nat → Int64} {og : Nat → UInt64} (hP : va_P G.1 CL ([(o, .inl (G.2 5, 1, .inr (.inl of))), (oD, .inl (G.2 6, 1, .inr (.inr (.inr (.inl og)))))] ++ (WD ++ (WM ++ []))) H) (hD : va_D A ([(o, .inl (G.2 5, 1, .inr (.inl of))), (oD, .inl (G.2 6, 1, .inr (.inr (.inr (.inl og)))))] ++ (WD ++ (WM ++ [])))) (hS : va_S A s.heap H locs) (hl : lv_has ls 10 [(0, .ref b), (1, .ref d), (2, .ref m0), (3, .ref o), (4, .ref oD), (5, .int (nI i9))]) (hDy : DyW G d C WD) (hMd : MdW G m0 M th WM) (hLw : LawI C M N) : W p l e room_1 s m #[Value.ref b] below meth c H locs cl sl Q (F0 m 1158 ls []) := by
  obtain ⟨cf, hKB, hE, hA, hX9, hbl, hbA, hNc, hL96⟩ := F
  have hx := cf.1
  have hb := cf.2.1
  have hml := cf.2.2.1
  have hown : s.vm.findClass RX0 = some m.cls := cf.2.2.2.1
  have hts := cf.2.2.2.2
  have hK := hKB.1
  have hIc := hDy.inv.1
  have hIm : Inv (dC M) := Inv_sim hLw.1 hIc
  have hRk : RkOk (dC M) := RkOk_sim hLw.1 (RkOk_srt hDy.inv.2.2)
  have hl := hl
  refine lv_aload_n hx hb dL_law_1158 rfl (lv_at hl 1 rfl) ?_
  have hpm_4090 : (([(o, .inl (G.2 5, 1, .inr (.inl of))), (oD, .inl (G.2 6, 1, .inr (.inr (.inr (.inl og)))))] ++ (WD ++ (WM ++ []))) : va_W).Perm ((WD ++ []) ++ ([(o, .inl (G.2 5, 1, .inr (.inl of))), (oD, .inl (G.2 6, 1, .inr (.inr (.inr (.inl og)))))] ++ (WM ++ []))) := segs_perm [[(o, .inl (G.2 5, 1, .inr (.inl of)))], [(oD, .inl (G.2 6, 1, .inr (.inr (.inr (.inl og)))))], WD, WM] [2] [0, 1, 3] rfl
  have hF := hF_ofP (wc := (WD ++ [])) hD hS hA hpm_4090
  refine go_ctP hS hP hD hpm_4090 hF
      (va_runV (As := []) (rest := []) cf (dX1_sessionCount l G d C WD (hDy) H.size) (cwV 0 hts (lw_V q267 q268 q269 q47 q270) rfl rfl rfl (by decide +kernel) ⟨Nat.le_of_ble_eq_true rfl, Nat.le_of_ble_eq_true rfl⟩) (preV_of hKB hE hS hF (DyW.recv hK hDy (seg_at [[(o, .inl (G.2 5, 1, .inr (.inl of)))], [(oD, .inl (G.2 6, 1, .inr (.inr (.inr (.inl og)))))], WD, WM] 2 rfl hP)) (P_left (P_perm hpm_4090 hP)) ((D_left (D_perm hpm_4090 hD)).weaken (fun _ _ _ _ => trivial)) trivial) rfl rfl hl.1 rfl (lv_room (Nat.le_of_ble_eq_true rfl)) dL_law_1159 ⟨show cl + 1 ≤ 1200144 from by first | decide | omega, show sl + 2 ≤ 5495674 from by first | decide | omega⟩)
      (fun u_ H locs hq hph (hP : va_P G.1 CL (([(o, .inl (G.2 5, 1, .inr (.inl of))), (oD, .inl (G.2 6, 1, .inr (.inr (.inr (.inl og)))))] ++ (WM ++ [])) ++ (u_.2 ++ [])) H) (hD : va_D A (([(o, .inl (G.2 5, 1, .inr (.inl of))), (oD, .inl (G.2 6, 1, .inr (.inr (.inr (.inl og)))))] ++ (WM ++ [])) ++ (u_.2 ++ []))) hS hfz hfk => ?_)
  obtain ⟨rr_4091, W2_4092⟩ := u_
  obtain ⟨hq_4093, hq_4094⟩ : q_sessionCount (dC C) = (0, rr_4091) ∧ DyW G d C W2_4092 := hq
  have hpm_4095 : (([(o, .inl (G.2 5, 1, .inr (.inl of))), (oD, .inl (G.2 6, 1, .inr (.inr (.inr (.inl og)))))] ++ (WM ++ [])) ++ (W2_4092 ++ []) : va_W).Perm ([(o, .inl (G.2 5, 1, .inr (.inl of))), (oD, .inl (G.2 6, 1, .inr (.inr (.inr (.inl og)))))] ++ (WM ++ (W2_4092 ++ []))) := segs_perm2 [[(o, .inl (G.2 5, 1, .inr (.inl of)))], [(oD, .inl (G.2 6, 1, .inr (.inr (.inr (.inl og)))))], WM] [W2_4092] [0, 1, 2, 3] rfl
  have hP : va_P G.1 CL ([(o, .inl (G.2 5, 1, .inr (.inl of))), (oD, .inl (G.2 6, 1, .inr (.inr (.inr (.inl og)))))] ++ (WM ++ (W2_4092 ++ []))) H := P_perm hpm_4095 hP
  have hD : va_D A ([(o, .inl (G.2 5, 1, .inr (.inl of))), (oD, .inl (G.2 6, 1, .inr (.inr (.inr (.inl og)))))] ++ (WM ++ (W2_4092 ++ []))) := D_perm hpm_4095 hD
  refine W.eq (g2 := F0 m 1162 ls [.int rr_4091]) rfl ?_
  have hqs : (q_sessionCount (dC M)) = (q_sessionCount (dC C)) := q_sessionCount_sim hLw.1.symm hIm 
  refine lv_toi (y := ((q_sessionCount (dC C))).2) ((congrArg Prod.snd hq_4093).symm) ?_
  refine lv_aload_n hx hb dL_law_1162 rfl (lv_at hl 2 rfl) ?_
  have hpm_4096 : (([(o, .inl (G.2 5, 1, .inr (.inl of))), (oD, .inl (G.2 6, 1, .inr (.inr (.inr (.inl og)))))] ++ (WM ++ (W2_4092 ++ []))) : va_W).Perm ((WM ++ []) ++ ([(o, .inl (G.2 5, 1, .inr (.inl of))), (oD, .inl (G.2 6, 1, .inr (.inr (.inr (.inl og)))))] ++ (W2_4092 ++ []))) := segs_perm [[(o, .inl (G.2 5, 1, .inr (.inl of)))], [(oD, .inl (G.2 6, 1, .inr (.inr (.inr (.inl og)))))], WM, W2_4092] [2] [0, 1, 3] rfl
  have hF := hF_ofP (wc := (WM ++ [])) hD hS hA hpm_4096
  refine go_ctP hS hP hD hpm_4096 hF
      (va_runV (As := []) (rest := [.int (((q_sessionCount (dC C))).2)]) cf (eX4_sessionCount l G m0 M th WM (hMd) (hIm) H.size) (cwV 0 hts (lw_V q1763 q1764 q1765 q58 q1766) rfl rfl rfl (by decide +kernel) ⟨Nat.le_of_ble_eq_true rfl, Nat.le_of_ble_eq_true rfl⟩) (preV_of hKB hE hS hF (MdW.recv hK hMd (seg_at [[(o, .inl (G.2 5, 1, .inr (.inl of)))], [(oD, .inl (G.2 6, 1, .inr (.inr (.inr (.inl og)))))], WM, W2_4092] 2 rfl hP)) (P_left (P_perm hpm_4096 hP)) ((D_left (D_perm hpm_4096 hD)).weaken (fun _ _ _ _ => trivial)) trivial) rfl rfl hl.1 rfl (lv_room (Nat.le_of_ble_eq_true rfl)) dL_law_1163 ⟨show cl + 1 + 0 ≤ 1200144 from by first | decide | omega, show sl + 2 + 0 ≤ 5495674 from by first | decide | omega⟩)
      (fun u_ H locs hq hph (hP : va_P G.1 CL (([(o, .inl (G.2 5, 1, .inr (.inl of))), (oD, .inl (G.2 6, 1, .inr (.inr (.inr (.inl og)))))] ++ (W2_4092 ++ [])) ++ (u_.2 ++ [])) H) (hD : va_D A (([(o, .inl (G.2 5, 1, .inr (.inl of))), (oD, .inl (G.2 6, 1, .inr (.inr (.inr (.inl og)))))] ++ (W2_4092 ++ [])) ++ (u_.2 ++ []))) hS hfz hfk => ?_)
  obtain ⟨rr_4097, W2_4098⟩ := u_
  obtain ⟨hq_4099, hq_4100⟩ : ((q_sessionCount (dC M)).1 = 0 → rr_4097 = (q_sessionCount (dC M)).2) ∧ MdW G m0 M (q_sessionCount (dC M)).1 W2_4098 := hq
  have hpm_4101 : (([(o, .inl (G.2 5, 1, .inr (.inl of))), (oD, .inl (G.2 6, 1, .inr (.inr (.inr (.inl og)))))] ++ (W2_4092 ++ [])) ++ (W2_4098 ++ []) : va_W).Perm ([(o, .inl (G.2 5, 1, .inr (.inl of))), (oD, .inl (G.2 6, 1, .inr (.inr (.inr (.inl og)))))] ++ (W2_4092 ++ (W2_4098 ++ []))) := segs_perm2 [[(o, .inl (G.2 5, 1, .inr (.inl of)))], [(oD, .inl (G.2 6, 1, .inr (.inr (.inr (.inl og)))))], W2_4092] [W2_4098] [0, 1, 2, 3] rfl
  have hP : va_P G.1 CL ([(o, .inl (G.2 5, 1, .inr (.inl of))), (oD, .inl (G.2 6, 1, .inr (.inr (.inr (.inl og)))))] ++ (W2_4092 ++ (W2_4098 ++ []))) H := P_perm hpm_4101 hP
  have hD : va_D A ([(o, .inl (G.2 5, 1, .inr (.inl of))), (oD, .inl (G.2 6, 1, .inr (.inr (.inr (.inl og)))))] ++ (W2_4092 ++ (W2_4098 ++ []))) := D_perm hpm_4101 hD
  refine W.eq (g2 := F0 m 1166 ls [.int rr_4097, .int (((q_sessionCount (dC C))).2)]) rfl ?_
  refine lv_toi (y := ((q_sessionCount (dC C))).2) ((hq_4099 (by rw [hqs, hq_4093])).trans (by rw [hqs])) ?_
  refine lv_icmp_eq (tgt := 2788) hx hb dL_law_1166 (by decide) (fun _ => ?_) (fun c9 => absurd rfl c9)
  have hpm_4102 : (([(o, .inl (G.2 5, 1, .inr (.inl of))), (oD, .inl (G.2 6, 1, .inr (.inr (.inr (.inl og)))))] ++ (W2_4092 ++ (W2_4098 ++ []))) : va_W).Perm (([(o, .inl (G.2 5, 1, .inr (.inl of))), (oD, .inl (G.2 6, 1, .inr (.inr (.inr (.inl og)))))] ++ (W2_4092 ++ (W2_4098 ++ []))) ++ []) := segs_perm [[(o, .inl (G.2 5, 1, .inr (.inl of)))], [(oD, .inl (G.2 6, 1, .inr (.inr (.inr (.inl og)))))], W2_4092, W2_4098] [0, 1, 2, 3] [] rfl
  have hP : va_P G.1 CL ([(o, .inl (G.2 5, 1, .inr (.inl of))), (oD, .inl (G.2 6, 1, .inr (.inr (.inr (.inl og)))))] ++ (W2_4092 ++ (W2_4098 ++ []))) H := P_left (P_perm hpm_4102 hP)
  have hD : va_D A ([(o, .inl (G.2 5, 1, .inr (.inl of))), (oD, .inl (G.2 6, 1, .inr (.inr (.inr (.inl og)))))] ++ (W2_4092 ++ (W2_4098 ++ []))) := D_left (D_perm hpm_4102 hD)
  have hl := lv_sub hl [0, 1, 2, 3, 4, 5] (l' := [(0, .ref b), (1, .ref d), (2, .ref m0), (3, .ref o), (4, .ref oD), (5, .int (nI i9))]) rfl
  exact W.widen (show cl + 1 ≤ cl + 20000 from by omega) (show sl + 2 ≤ sl + 45000 from by omega) (kk ls H locs C M (((q_sessionCount (dC M))).1) W2_4092 W2_4098 of og hP hD hS hl hq_4094 hq_4100 hLw.up)

set_option maxHeartbeats 4000000 in
theorem lawK_17 {p : Program} {l : Launch} {e : Env} {s : State} {m : MethodId} {below : List Frame} {meth : Method} {c : Code} {G : Gt} {A : Nat → Prop} {b L : Nat} {xs : Nat → Int32} {Q : State → Prop} {d m0 o oD i9 N cl sl : Nat} (hfl : l.stackTraces = false) (F : LwF G A p s m c b L xs) (hi9 : i9 + 4 ≤ L) (hN24 : N ≤ 24) (hcl : cl + 20000 ≤ 1200144) (hsl : sl + 45000 ≤ 5495674) (kk : ∀ (ls : Array Slot) (H : Heap) (locs : List Loc) (C M : DS) (th : Nat) (WD WM : va_W) (of : Nat → Int64) (og : Nat → UInt64), va_P G.1 CL ([(o, .inl (G.2 5, 1, .inr (.inl of))), (oD, .inl (G.2 6, 1, .inr (.inr (.inr (.inl og)))))] ++ (WD ++ (WM ++ []))) H → va_D A ([(o, .inl (G.2 5, 1, .inr (.inl of))), (oD, .inl (G.2 6, 1, .inr (.inr (.inr (.inl og)))))] ++ (WD ++ (WM ++ []))) → va_S A s.heap H locs → lv_has ls 10 [(0, .ref b), (1, .ref d), (2, .ref m0), (3, .ref o), (4, .ref oD), (5, .int (nI i9))] → DyW G d C WD → MdW G m0 M th WM → LawI C M (N + 1) → W p l e room_1 s m #[Value.ref b] below meth c H locs (cl + 20000) (sl + 45000) Q (F0 m 2788 ls [])) {ls : Array Slot} {H : Heap} {locs : List Loc} {C M : DS} {th : Nat} {WD WM : va_W} {of : Nat → Int64} {og : Nat → UInt64} (hP : va_P G.1 CL ([(o, .inl (G.2 5, 1, .inr (.inl of))), (oD, .inl (G.2 6, 1, .inr (.inr (.inr (.inl og)))))] ++ (WD ++ (WM ++ []))) H) (hD : va_D A ([(o, .inl (G.2 5, 1, .inr (.inl of))), (oD, .inl (G.2 6, 1, .inr (.inr (.inr (.inl og)))))] ++ (WD ++ (WM ++ [])))) (hS : va_S A s.heap H locs) (hl : lv_has ls 10 [(0, .ref b), (1, .ref d), (2, .ref m0), (3, .ref o), (4, .ref oD), (5, .int (nI i9))]) (hDy : DyW G d C WD) (hMd : MdW G m0 M th WM) (hLw : LawI C M N) : W p l e room_1 s m #[Value.ref b] below meth c H locs cl sl Q (F0 m 1171 ls []) := by
  obtain ⟨cf, hKB, hE, hA, hX9, hbl, hbA, hNc, hL96⟩ := F
  have hx := cf.1
  have hb := cf.2.1
  have hml := cf.2.2.1
  have hown : s.vm.findClass RX0 = some m.cls := cf.2.2.2.1
  have hts := cf.2.2.2.2
  have hK := hKB.1
  have hIc := hDy.inv.1
  have hIm : Inv (dC M) := Inv_sim hLw.1 hIc
  have hRk : RkOk (dC M) := RkOk_sim hLw.1 (RkOk_srt hDy.inv.2.2)
  have hl := hl
  refine lv_aload_n hx hb dL_law_1171 rfl (lv_at hl 1 rfl) ?_
  refine lv_aload_n hx hb dL_law_1172 rfl (lv_at hl 0 rfl) ?_
  refine lv_iload hx hb dL_law_1173 (lv_at hl 5 rfl) ?_
  refine lv_iconst (v := nI 1) hx hb dL_law_1175 (by decide) ?_
  refine lv_iadd hx hb dL_law_1176 ?_
  refine lv_ton (n := i9 + 1) (nadd (by omega)) ?_
  refine va_sld hx hb hX9 hbl hbA hS (i := nI (i9 + 1)) (vp9 (by omega) hL96) dL_law_1177 ?_
  refine W.eq (g2 := F0 m 1178 ls [.int (sx9 xs (i9 + 1)), .ref d]) rfl ?_
  refine lv_aload_n hx hb dL_law_1178 rfl (lv_at hl 3 rfl) ?_
  have hpm_4103 : (([(o, .inl (G.2 5, 1, .inr (.inl of))), (oD, .inl (G.2 6, 1, .inr (.inr (.inr (.inl og)))))] ++ (WD ++ (WM ++ []))) : va_W).Perm (([(o, .inl (G.2 5, 1, .inr (.inl of)))] ++ (WD ++ [])) ++ ([(oD, .inl (G.2 6, 1, .inr (.inr (.inr (.inl og)))))] ++ (WM ++ []))) := segs_perm [[(o, .inl (G.2 5, 1, .inr (.inl of)))], [(oD, .inl (G.2 6, 1, .inr (.inr (.inr (.inl og)))))], WD, WM] [0, 2] [1, 3] rfl
  have hF := hF_ofP (wc := ([(o, .inl (G.2 5, 1, .inr (.inl of)))] ++ (WD ++ []))) hD hS hA hpm_4103
  refine go_ctP hS hP hD hpm_4103 hF
      (vx_runSW (As := [.ref d, .int (sx9 xs (i9 + 1)), .ref o]) (rest := []) cf (wX0_sessionAt l G d C WD o of (sx9 xs (i9 + 1)) (hDy) hfl H.size) (vx_cwSW 3 hts (lw_SW q1194 q1195 q46 q1196) rfl rfl rfl (by decide +kernel) ⟨Nat.le_of_ble_eq_true rfl, Nat.le_of_ble_eq_true rfl⟩) (preS_ofW hNc hKB hE hS hF (P_left (P_perm hpm_4103 hP)) ((D_left (D_perm hpm_4103 hD)).weaken (fun _ _ _ _ => trivial)) trivial) rfl rfl hl.1 rfl (lv_room (Nat.le_of_ble_eq_true rfl)) dL_law_1179 ⟨show cl + 2 ≤ 1200144 from by first | decide | omega, show sl + 8 ≤ 5495674 from by first | decide | omega⟩)
      (fun u_ H locs hq hph (hP : va_P G.1 CL (([(oD, .inl (G.2 6, 1, .inr (.inr (.inr (.inl og)))))] ++ (WM ++ [])) ++ ([(o, .inl (G.2 5, 1, .inr (.inl u_.1)))] ++ (u_.2 ++ []))) H) (hD : va_D A (([(oD, .inl (G.2 6, 1, .inr (.inr (.inr (.inl og)))))] ++ (WM ++ [])) ++ ([(o, .inl (G.2 5, 1, .inr (.inl u_.1)))] ++ (u_.2 ++ [])))) hS hfz hfk => ?_)
  obtain ⟨of2_4104, W2_4105⟩ := u_
  obtain ⟨hq_4106, hq_4107, hq_4108⟩ : ((q_sAt (dC C) (sx9 xs (i9 + 1))).1 = 0 → of2_4104 0 = ((q_sAt (dC C) (sx9 xs (i9 + 1))).2).toInt64) ∧ (q_sAt (dC C) (sx9 xs (i9 + 1))).1 < 10 ∧ DyW G d C W2_4105 := hq
  have hpm_4109 : (([(oD, .inl (G.2 6, 1, .inr (.inr (.inr (.inl og)))))] ++ (WM ++ [])) ++ ([(o, .inl (G.2 5, 1, .inr (.inl of2_4104)))] ++ (W2_4105 ++ [])) : va_W).Perm ([(oD, .inl (G.2 6, 1, .inr (.inr (.inr (.inl og))))), (o, .inl (G.2 5, 1, .inr (.inl of2_4104)))] ++ (WM ++ (W2_4105 ++ []))) := segs_perm2 [[(oD, .inl (G.2 6, 1, .inr (.inr (.inr (.inl og)))))], WM] [[(o, .inl (G.2 5, 1, .inr (.inl of2_4104)))], W2_4105] [0, 2, 1, 3] rfl
  have hP : va_P G.1 CL ([(oD, .inl (G.2 6, 1, .inr (.inr (.inr (.inl og))))), (o, .inl (G.2 5, 1, .inr (.inl of2_4104)))] ++ (WM ++ (W2_4105 ++ []))) H := P_perm hpm_4109 hP
  have hD : va_D A ([(oD, .inl (G.2 6, 1, .inr (.inr (.inr (.inl og))))), (o, .inl (G.2 5, 1, .inr (.inl of2_4104)))] ++ (WM ++ (W2_4105 ++ []))) := D_perm hpm_4109 hD
  refine W.eq (g2 := F0 m 1182 ls [.int (nI ((q_sAt (dC C) (sx9 xs (i9 + 1))).1))]) rfl ?_
  have hqs : (q_sAt (dC M) (sx9 xs (i9 + 1))) = (q_sAt (dC C) (sx9 xs (i9 + 1))) := q_sAt_sim hLw.1.symm hIm hRk (sx9 xs (i9 + 1))
  refine lv_istore (lv' := [(6, .int (nI ((q_sAt (dC C) (sx9 xs (i9 + 1))).1))), (0, .ref b), (1, .ref d), (2, .ref m0), (3, .ref o), (4, .ref oD), (5, .int (nI i9))]) hx hb dL_law_1182 hl (by decide) rfl (fun ls hl => ?_)
  refine lv_aload_n hx hb dL_law_1184 rfl (lv_at hl 3 rfl) ?_
  refine lv_aload_n hx hb dL_law_1185 rfl (lv_at hl 1 rfl) ?_
  refine lv_iload hx hb dL_law_1186 (lv_at hl 6 rfl) ?_
  refine lv_iconst (v := nI 1) hx hb dL_law_1188 (by decide) ?_
  refine lv_iadd hx hb dL_law_1189 ?_
  refine lv_ton (n := i9 + 1) (nadd (by omega)) ?_
  refine va_sld hx hb hX9 hbl hbA hS (i := nI (i9 + 1)) (vp9 (by omega) hL96) dL_law_1190 ?_
  refine W.eq (g2 := F0 m 1191 ls [.int (sx9 xs (i9 + 1)), .ref m0]) rfl ?_
  have hpm_4110 : (([(oD, .inl (G.2 6, 1, .inr (.inr (.inr (.inl og))))), (o, .inl (G.2 5, 1, .inr (.inl of2_4104)))] ++ (WM ++ (W2_4105 ++ []))) : va_W).Perm ((WM ++ []) ++ ([(oD, .inl (G.2 6, 1, .inr (.inr (.inr (.inl og))))), (o, .inl (G.2 5, 1, .inr (.inl of2_4104)))] ++ (W2_4105 ++ []))) := segs_perm [[(oD, .inl (G.2 6, 1, .inr (.inr (.inr (.inl og)))))], [(o, .inl (G.2 5, 1, .inr (.inl of2_4104)))], WM, W2_4105] [2] [0, 1, 3] rfl
  have hF := hF_ofP (wc := (WM ++ [])) hD hS hA hpm_4110
  refine go_ctP hS hP hD hpm_4110 hF
      (va_runV (As := [.int (sx9 xs (i9 + 1))]) (rest := []) cf (eX4_sessionAt l G m0 M th WM (sx9 xs (i9 + 1)) (hMd) (hIm) (hRk) H.size) (cwV 1 hts (lw_V q1767 q1768 q1769 q58 q1770) rfl rfl rfl (by decide +kernel) ⟨Nat.le_of_ble_eq_true rfl, Nat.le_of_ble_eq_true rfl⟩) (preV_of hKB hE hS hF (MdW.recv hK hMd (seg_at [[(oD, .inl (G.2 6, 1, .inr (.inr (.inr (.inl og)))))], [(o, .inl (G.2 5, 1, .inr (.inl of2_4104)))], WM, W2_4105] 2 rfl hP)) (P_left (P_perm hpm_4110 hP)) ((D_left (D_perm hpm_4110 hD)).weaken (fun _ _ _ _ => trivial)) trivial) rfl rfl hl.1 rfl (lv_room (Nat.le_of_ble_eq_true rfl)) dL_law_1191 ⟨show cl + 2 + 0 ≤ 1200144 from by first | decide | omega, show sl + 8 + 0 ≤ 5495674 from by first | decide | omega⟩)
      (fun u_ H locs hq hph (hP : va_P G.1 CL (([(oD, .inl (G.2 6, 1, .inr (.inr (.inr (.inl og))))), (o, .inl (G.2 5, 1, .inr (.inl of2_4104)))] ++ (W2_4105 ++ [])) ++ (u_.2 ++ [])) H) (hD : va_D A (([(oD, .inl (G.2 6, 1, .inr (.inr (.inr (.inl og))))), (o, .inl (G.2 5, 1, .inr (.inl of2_4104)))] ++ (W2_4105 ++ [])) ++ (u_.2 ++ []))) hS hfz hfk => ?_)
  obtain ⟨rr_4111, W2_4112⟩ := u_
  obtain ⟨hq_4113, hq_4114⟩ : ((q_sAt (dC M) (sx9 xs (i9 + 1))).1 = 0 → rr_4111 = (q_sAt (dC M) (sx9 xs (i9 + 1))).2) ∧ MdW G m0 M (q_sAt (dC M) (sx9 xs (i9 + 1))).1 W2_4112 := hq
  have hpm_4115 : (([(oD, .inl (G.2 6, 1, .inr (.inr (.inr (.inl og))))), (o, .inl (G.2 5, 1, .inr (.inl of2_4104)))] ++ (W2_4105 ++ [])) ++ (W2_4112 ++ []) : va_W).Perm ([(oD, .inl (G.2 6, 1, .inr (.inr (.inr (.inl og))))), (o, .inl (G.2 5, 1, .inr (.inl of2_4104)))] ++ (W2_4105 ++ (W2_4112 ++ []))) := segs_perm2 [[(oD, .inl (G.2 6, 1, .inr (.inr (.inr (.inl og)))))], [(o, .inl (G.2 5, 1, .inr (.inl of2_4104)))], W2_4105] [W2_4112] [0, 1, 2, 3] rfl
  have hP : va_P G.1 CL ([(oD, .inl (G.2 6, 1, .inr (.inr (.inr (.inl og))))), (o, .inl (G.2 5, 1, .inr (.inl of2_4104)))] ++ (W2_4105 ++ (W2_4112 ++ []))) H := P_perm hpm_4115 hP
  have hD : va_D A ([(oD, .inl (G.2 6, 1, .inr (.inr (.inr (.inl og))))), (o, .inl (G.2 5, 1, .inr (.inl of2_4104)))] ++ (W2_4105 ++ (W2_4112 ++ []))) := D_perm hpm_4115 hD
  refine W.eq (g2 := F0 m 1194 ls [.int rr_4111]) rfl ?_
  refine lv_istore (lv' := [(7, .int rr_4111), (6, .int (nI ((q_sAt (dC C) (sx9 xs (i9 + 1))).1))), (0, .ref b), (1, .ref d), (2, .ref m0), (3, .ref o), (4, .ref oD), (5, .int (nI i9))]) hx hb dL_law_1194 hl (by decide) rfl (fun ls hl => ?_)
  refine lv_aload_n hx hb dL_law_1196 rfl (lv_at hl 4 rfl) ?_
  have hpm_4116 : (([(oD, .inl (G.2 6, 1, .inr (.inr (.inr (.inl og))))), (o, .inl (G.2 5, 1, .inr (.inl of2_4104)))] ++ (W2_4105 ++ (W2_4112 ++ []))) : va_W).Perm ([] ++ ([(oD, .inl (G.2 6, 1, .inr (.inr (.inr (.inl og))))), (o, .inl (G.2 5, 1, .inr (.inl of2_4104)))] ++ (W2_4105 ++ (W2_4112 ++ [])))) := segs_perm [[(oD, .inl (G.2 6, 1, .inr (.inr (.inr (.inl og)))))], [(o, .inl (G.2 5, 1, .inr (.inl of2_4104)))], W2_4105, W2_4112] [] [0, 1, 2, 3] rfl
  have hF := hF_ofP (wc := []) hD hS hA hpm_4116
  refine go_ctP hS hP hD hpm_4116 hF
      (va_runV (As := []) (rest := []) cf (eX4_thrown l G m0 M (((q_sAt (dC M) (sx9 xs (i9 + 1)))).1) W2_4112 (hq_4114) H.size) (cwV 0 hts (lw_V q1639 q1640 q1641 q58 q1642) rfl rfl rfl (by decide +kernel) ⟨Nat.le_of_ble_eq_true rfl, Nat.le_of_ble_eq_true rfl⟩) (preV_of hKB hE hS hF (MdW.recv hK hq_4114 (seg_at [[(oD, .inl (G.2 6, 1, .inr (.inr (.inr (.inl og)))))], [(o, .inl (G.2 5, 1, .inr (.inl of2_4104)))], W2_4105, W2_4112] 3 rfl hP)) (P_left (P_perm hpm_4116 hP)) ((D_left (D_perm hpm_4116 hD)).weaken (fun _ _ _ _ => trivial)) (roW.nil (seg_at [[(oD, .inl (G.2 6, 1, .inr (.inr (.inr (.inl og)))))], [(o, .inl (G.2 5, 1, .inr (.inl of2_4104)))], W2_4105, W2_4112] 3 rfl hP))) rfl rfl hl.1 rfl (lv_room (Nat.le_of_ble_eq_true rfl)) dL_law_1197 ⟨show cl + 2 + 0 ≤ 1200144 from by first | decide | omega, show sl + 8 + 0 ≤ 5495674 from by first | decide | omega⟩)
      (fun u_ H locs hq hph (hP : va_P G.1 CL (([(oD, .inl (G.2 6, 1, .inr (.inr (.inr (.inl og))))), (o, .inl (G.2 5, 1, .inr (.inl of2_4104)))] ++ (W2_4105 ++ (W2_4112 ++ []))) ++ []) H) (hD : va_D A (([(oD, .inl (G.2 6, 1, .inr (.inr (.inr (.inl og))))), (o, .inl (G.2 5, 1, .inr (.inl of2_4104)))] ++ (W2_4105 ++ (W2_4112 ++ []))) ++ [])) hS hfz hfk => ?_)
  have hpm_4117 : (([(oD, .inl (G.2 6, 1, .inr (.inr (.inr (.inl og))))), (o, .inl (G.2 5, 1, .inr (.inl of2_4104)))] ++ (W2_4105 ++ (W2_4112 ++ []))) ++ [] : va_W).Perm ([(oD, .inl (G.2 6, 1, .inr (.inr (.inr (.inl og))))), (o, .inl (G.2 5, 1, .inr (.inl of2_4104)))] ++ (W2_4105 ++ (W2_4112 ++ []))) := segs_perm2 [[(oD, .inl (G.2 6, 1, .inr (.inr (.inr (.inl og)))))], [(o, .inl (G.2 5, 1, .inr (.inl of2_4104)))], W2_4105, W2_4112] [] [0, 1, 2, 3] rfl
  have hP : va_P G.1 CL ([(oD, .inl (G.2 6, 1, .inr (.inr (.inr (.inl og))))), (o, .inl (G.2 5, 1, .inr (.inl of2_4104)))] ++ (W2_4105 ++ (W2_4112 ++ []))) H := P_perm hpm_4117 hP
  have hD : va_D A ([(oD, .inl (G.2 6, 1, .inr (.inr (.inr (.inl og))))), (o, .inl (G.2 5, 1, .inr (.inl of2_4104)))] ++ (W2_4105 ++ (W2_4112 ++ []))) := D_perm hpm_4117 hD
  refine W.eq (g2 := F0 m 1200 ls [.int (nI (((q_sAt (dC M) (sx9 xs (i9 + 1)))).1))]) rfl ?_
  refine lv_ton (n := ((q_sAt (dC C) (sx9 xs (i9 + 1))).1)) (congrArg nI (by rw [hqs])) ?_
  refine lv_iload hx hb dL_law_1200 (lv_at hl 1 rfl) ?_
  refine lv_icmp_eq (tgt := 1207) hx hb dL_law_1202 (by decide) (fun _ => ?_) (fun c9 => absurd rfl c9)
  refine lv_iload hx hb dL_law_1207 (lv_at hl 1 rfl) ?_
  refine n_if_ne (tgt := 1224) hx hb (by omega) dL_law_1209 (by decide) (fun c_4118 => ?_) (fun c_4118 => ?_)
  · refine lv_goto (tgt := 2788) hx hb dL_law_1224 (by decide) ?_
    have hpm_4119 : (([(oD, .inl (G.2 6, 1, .inr (.inr (.inr (.inl og))))), (o, .inl (G.2 5, 1, .inr (.inl of2_4104)))] ++ (W2_4105 ++ (W2_4112 ++ []))) : va_W).Perm (([(o, .inl (G.2 5, 1, .inr (.inl of2_4104))), (oD, .inl (G.2 6, 1, .inr (.inr (.inr (.inl og)))))] ++ (W2_4105 ++ (W2_4112 ++ []))) ++ []) := segs_perm [[(oD, .inl (G.2 6, 1, .inr (.inr (.inr (.inl og)))))], [(o, .inl (G.2 5, 1, .inr (.inl of2_4104)))], W2_4105, W2_4112] [1, 0, 2, 3] [] rfl
    have hP : va_P G.1 CL ([(o, .inl (G.2 5, 1, .inr (.inl of2_4104))), (oD, .inl (G.2 6, 1, .inr (.inr (.inr (.inl og)))))] ++ (W2_4105 ++ (W2_4112 ++ []))) H := P_left (P_perm hpm_4119 hP)
    have hD : va_D A ([(o, .inl (G.2 5, 1, .inr (.inl of2_4104))), (oD, .inl (G.2 6, 1, .inr (.inr (.inr (.inl og)))))] ++ (W2_4105 ++ (W2_4112 ++ []))) := D_left (D_perm hpm_4119 hD)
    have hl := lv_sub hl [2, 3, 4, 5, 6, 7] (l' := [(0, .ref b), (1, .ref d), (2, .ref m0), (3, .ref o), (4, .ref oD), (5, .int (nI i9))]) rfl
    exact W.widen (show cl + 2 ≤ cl + 20000 from by omega) (show sl + 8 ≤ sl + 45000 from by omega) (kk ls H locs C M (((q_sAt (dC M) (sx9 xs (i9 + 1)))).1) W2_4105 W2_4112 of2_4104 og hP hD hS hl hq_4108 hq_4114 hLw.up)
  · refine lv_aload_n hx hb dL_law_1212 rfl (lv_at hl 5 rfl) ?_
    refine lv_iconst (v := nI 0) hx hb dL_law_1213 (by decide) ?_
    refine r_lald (v := (((q_sAt (dC C) (sx9 xs (i9 + 1)))).2).toInt64) hx hb hK hP 1 5 rfl rfl (i := 0) (by omega) (by omega) ((hq_4106 (by omega))) dL_law_1214 ?_
    refine lv_iload hx hb dL_law_1215 (lv_at hl 0 rfl) ?_
    refine lv_toi (y := ((q_sAt (dC C) (sx9 xs (i9 + 1)))).2) ((hq_4113 (by rw [hqs]; omega)).trans (by rw [hqs])) ?_
    refine lv_i2l (v := (((q_sAt (dC C) (sx9 xs (i9 + 1)))).2).toInt64) hx hb dL_law_1217 rfl ?_
    refine W.lcmp hx hb dL_law_1218 ?_
    refine lv_ton (n := 0) (lcmp0 _) ?_
    refine n_if_eq (tgt := 1224) hx hb (by omega) dL_law_1219 (by decide) (fun c_4120 => ?_) (fun c_4120 => absurd c_4120 (by omega))
    refine lv_goto (tgt := 2788) hx hb dL_law_1224 (by decide) ?_
    have hpm_4121 : (([(oD, .inl (G.2 6, 1, .inr (.inr (.inr (.inl og))))), (o, .inl (G.2 5, 1, .inr (.inl of2_4104)))] ++ (W2_4105 ++ (W2_4112 ++ []))) : va_W).Perm (([(o, .inl (G.2 5, 1, .inr (.inl of2_4104))), (oD, .inl (G.2 6, 1, .inr (.inr (.inr (.inl og)))))] ++ (W2_4105 ++ (W2_4112 ++ []))) ++ []) := segs_perm [[(oD, .inl (G.2 6, 1, .inr (.inr (.inr (.inl og)))))], [(o, .inl (G.2 5, 1, .inr (.inl of2_4104)))], W2_4105, W2_4112] [1, 0, 2, 3] [] rfl
    have hP : va_P G.1 CL ([(o, .inl (G.2 5, 1, .inr (.inl of2_4104))), (oD, .inl (G.2 6, 1, .inr (.inr (.inr (.inl og)))))] ++ (W2_4105 ++ (W2_4112 ++ []))) H := P_left (P_perm hpm_4121 hP)
    have hD : va_D A ([(o, .inl (G.2 5, 1, .inr (.inl of2_4104))), (oD, .inl (G.2 6, 1, .inr (.inr (.inr (.inl og)))))] ++ (W2_4105 ++ (W2_4112 ++ []))) := D_left (D_perm hpm_4121 hD)
    have hl := lv_sub hl [2, 3, 4, 5, 6, 7] (l' := [(0, .ref b), (1, .ref d), (2, .ref m0), (3, .ref o), (4, .ref oD), (5, .int (nI i9))]) rfl
    exact W.widen (show cl + 2 ≤ cl + 20000 from by omega) (show sl + 8 ≤ sl + 45000 from by omega) (kk ls H locs C M (((q_sAt (dC M) (sx9 xs (i9 + 1)))).1) W2_4105 W2_4112 of2_4104 og hP hD hS hl hq_4108 hq_4114 hLw.up)

set_option maxHeartbeats 4000000 in
theorem lawK_18 {p : Program} {l : Launch} {e : Env} {s : State} {m : MethodId} {below : List Frame} {meth : Method} {c : Code} {G : Gt} {A : Nat → Prop} {b L : Nat} {xs : Nat → Int32} {Q : State → Prop} {d m0 o oD i9 N cl sl : Nat} (hfl : l.stackTraces = false) (F : LwF G A p s m c b L xs) (hi9 : i9 + 4 ≤ L) (hN24 : N ≤ 24) (hcl : cl + 20000 ≤ 1200144) (hsl : sl + 45000 ≤ 5495674) (kk : ∀ (ls : Array Slot) (H : Heap) (locs : List Loc) (C M : DS) (th : Nat) (WD WM : va_W) (of : Nat → Int64) (og : Nat → UInt64), va_P G.1 CL ([(o, .inl (G.2 5, 1, .inr (.inl of))), (oD, .inl (G.2 6, 1, .inr (.inr (.inr (.inl og)))))] ++ (WD ++ (WM ++ []))) H → va_D A ([(o, .inl (G.2 5, 1, .inr (.inl of))), (oD, .inl (G.2 6, 1, .inr (.inr (.inr (.inl og)))))] ++ (WD ++ (WM ++ []))) → va_S A s.heap H locs → lv_has ls 10 [(0, .ref b), (1, .ref d), (2, .ref m0), (3, .ref o), (4, .ref oD), (5, .int (nI i9))] → DyW G d C WD → MdW G m0 M th WM → LawI C M (N + 1) → W p l e room_1 s m #[Value.ref b] below meth c H locs (cl + 20000) (sl + 45000) Q (F0 m 2788 ls [])) {ls : Array Slot} {H : Heap} {locs : List Loc} {C M : DS} {th : Nat} {WD WM : va_W} {of : Nat → Int64} {og : Nat → UInt64} (hP : va_P G.1 CL ([(o, .inl (G.2 5, 1, .inr (.inl of))), (oD, .inl (G.2 6, 1, .inr (.inr (.inr (.inl og)))))] ++ (WD ++ (WM ++ []))) H) (hD : va_D A ([(o, .inl (G.2 5, 1, .inr (.inl of))), (oD, .inl (G.2 6, 1, .inr (.inr (.inr (.inl og)))))] ++ (WD ++ (WM ++ [])))) (hS : va_S A s.heap H locs) (hl : lv_has ls 10 [(0, .ref b), (1, .ref d), (2, .ref m0), (3, .ref o), (4, .ref oD), (5, .int (nI i9))]) (hDy : DyW G d C WD) (hMd : MdW G m0 M th WM) (hLw : LawI C M N) : W p l e room_1 s m #[Value.ref b] below meth c H locs cl sl Q (F0 m 1227 ls []) := by
  obtain ⟨cf, hKB, hE, hA, hX9, hbl, hbA, hNc, hL96⟩ := F
  have hx := cf.1
  have hb := cf.2.1
  have hml := cf.2.2.1
  have hown : s.vm.findClass RX0 = some m.cls := cf.2.2.2.1
  have hts := cf.2.2.2.2
  have hK := hKB.1
  have hIc := hDy.inv.1
  have hIm : Inv (dC M) := Inv_sim hLw.1 hIc
  have hRk : RkOk (dC M) := RkOk_sim hLw.1 (RkOk_srt hDy.inv.2.2)
  have hl := hl
  refine lv_aload_n hx hb dL_law_1227 rfl (lv_at hl 1 rfl) ?_
  refine lv_aload_n hx hb dL_law_1228 rfl (lv_at hl 0 rfl) ?_
  refine lv_iload hx hb dL_law_1229 (lv_at hl 5 rfl) ?_
  refine lv_iconst (v := nI 1) hx hb dL_law_1231 (by decide) ?_
  refine lv_iadd hx hb dL_law_1232 ?_
  refine lv_ton (n := i9 + 1) (nadd (by omega)) ?_
  refine va_sld hx hb hX9 hbl hbA hS (i := nI (i9 + 1)) (vp9 (by omega) hL96) dL_law_1233 ?_
  refine W.eq (g2 := F0 m 1234 ls [.int (sx9 xs (i9 + 1)), .ref d]) rfl ?_
  refine lv_aload_n hx hb dL_law_1234 rfl (lv_at hl 3 rfl) ?_
  have hpm_4122 : (([(o, .inl (G.2 5, 1, .inr (.inl of))), (oD, .inl (G.2 6, 1, .inr (.inr (.inr (.inl og)))))] ++ (WD ++ (WM ++ []))) : va_W).Perm (([(o, .inl (G.2 5, 1, .inr (.inl of)))] ++ (WD ++ [])) ++ ([(oD, .inl (G.2 6, 1, .inr (.inr (.inr (.inl og)))))] ++ (WM ++ []))) := segs_perm [[(o, .inl (G.2 5, 1, .inr (.inl of)))], [(oD, .inl (G.2 6, 1, .inr (.inr (.inr (.inl og)))))], WD, WM] [0, 2] [1, 3] rfl
  have hF := hF_ofP (wc := ([(o, .inl (G.2 5, 1, .inr (.inl of)))] ++ (WD ++ []))) hD hS hA hpm_4122
  refine go_ctP hS hP hD hpm_4122 hF
      (vx_runSW (As := [.ref d, .int (sx9 xs (i9 + 1)), .ref o]) (rest := []) cf (wX0_dayOf l G d C WD o of (sx9 xs (i9 + 1)) (hDy) hfl H.size) (vx_cwSW 3 hts (lw_SW q1225 q1226 q46 q1227) rfl rfl rfl (by decide +kernel) ⟨Nat.le_of_ble_eq_true rfl, Nat.le_of_ble_eq_true rfl⟩) (preS_ofW hNc hKB hE hS hF (P_left (P_perm hpm_4122 hP)) ((D_left (D_perm hpm_4122 hD)).weaken (fun _ _ _ _ => trivial)) trivial) rfl rfl hl.1 rfl (lv_room (Nat.le_of_ble_eq_true rfl)) dL_law_1235 ⟨show cl + 2 ≤ 1200144 from by first | decide | omega, show sl + 8 ≤ 5495674 from by first | decide | omega⟩)
      (fun u_ H locs hq hph (hP : va_P G.1 CL (([(oD, .inl (G.2 6, 1, .inr (.inr (.inr (.inl og)))))] ++ (WM ++ [])) ++ ([(o, .inl (G.2 5, 1, .inr (.inl u_.1)))] ++ (u_.2 ++ []))) H) (hD : va_D A (([(oD, .inl (G.2 6, 1, .inr (.inr (.inr (.inl og)))))] ++ (WM ++ [])) ++ ([(o, .inl (G.2 5, 1, .inr (.inl u_.1)))] ++ (u_.2 ++ [])))) hS hfz hfk => ?_)
  obtain ⟨of2_4123, W2_4124⟩ := u_
  obtain ⟨hq_4125, hq_4126, hq_4127⟩ : ((q_dayOf (dC C) (sx9 xs (i9 + 1))).1 = 0 → of2_4123 0 = ((q_dayOf (dC C) (sx9 xs (i9 + 1))).2).toInt64) ∧ (q_dayOf (dC C) (sx9 xs (i9 + 1))).1 < 10 ∧ DyW G d C W2_4124 := hq
  have hpm_4128 : (([(oD, .inl (G.2 6, 1, .inr (.inr (.inr (.inl og)))))] ++ (WM ++ [])) ++ ([(o, .inl (G.2 5, 1, .inr (.inl of2_4123)))] ++ (W2_4124 ++ [])) : va_W).Perm ([(oD, .inl (G.2 6, 1, .inr (.inr (.inr (.inl og))))), (o, .inl (G.2 5, 1, .inr (.inl of2_4123)))] ++ (WM ++ (W2_4124 ++ []))) := segs_perm2 [[(oD, .inl (G.2 6, 1, .inr (.inr (.inr (.inl og)))))], WM] [[(o, .inl (G.2 5, 1, .inr (.inl of2_4123)))], W2_4124] [0, 2, 1, 3] rfl
  have hP : va_P G.1 CL ([(oD, .inl (G.2 6, 1, .inr (.inr (.inr (.inl og))))), (o, .inl (G.2 5, 1, .inr (.inl of2_4123)))] ++ (WM ++ (W2_4124 ++ []))) H := P_perm hpm_4128 hP
  have hD : va_D A ([(oD, .inl (G.2 6, 1, .inr (.inr (.inr (.inl og))))), (o, .inl (G.2 5, 1, .inr (.inl of2_4123)))] ++ (WM ++ (W2_4124 ++ []))) := D_perm hpm_4128 hD
  refine W.eq (g2 := F0 m 1238 ls [.int (nI ((q_dayOf (dC C) (sx9 xs (i9 + 1))).1))]) rfl ?_
  have hqs : (q_dayOf (dC M) id) = (q_dayOf (dC C) (sx9 xs (i9 + 1))) := q_dayOf_sim hLw.1.symm hIm (sx9 xs (i9 + 1))
  refine lv_istore (lv' := [(6, .int (nI ((q_dayOf (dC C) (sx9 xs (i9 + 1))).1))), (0, .ref b), (1, .ref d), (2, .ref m0), (3, .ref o), (4, .ref oD), (5, .int (nI i9))]) hx hb dL_law_1238 hl (by decide) rfl (fun ls hl => ?_)
  refine lv_aload_n hx hb dL_law_1240 rfl (lv_at hl 3 rfl) ?_
  refine lv_aload_n hx hb dL_law_1241 rfl (lv_at hl 1 rfl) ?_
  refine lv_iload hx hb dL_law_1242 (lv_at hl 6 rfl) ?_
  refine lv_iconst (v := nI 1) hx hb dL_law_1244 (by decide) ?_
  refine lv_iadd hx hb dL_law_1245 ?_
  refine lv_ton (n := i9 + 1) (nadd (by omega)) ?_
  refine va_sld hx hb hX9 hbl hbA hS (i := nI (i9 + 1)) (vp9 (by omega) hL96) dL_law_1246 ?_
  refine W.eq (g2 := F0 m 1247 ls [.int (sx9 xs (i9 + 1)), .ref m0]) rfl ?_
  have hpm_4129 : (([(oD, .inl (G.2 6, 1, .inr (.inr (.inr (.inl og))))), (o, .inl (G.2 5, 1, .inr (.inl of2_4123)))] ++ (WM ++ (W2_4124 ++ []))) : va_W).Perm ((WM ++ []) ++ ([(oD, .inl (G.2 6, 1, .inr (.inr (.inr (.inl og))))), (o, .inl (G.2 5, 1, .inr (.inl of2_4123)))] ++ (W2_4124 ++ []))) := segs_perm [[(oD, .inl (G.2 6, 1, .inr (.inr (.inr (.inl og)))))], [(o, .inl (G.2 5, 1, .inr (.inl of2_4123)))], WM, W2_4124] [2] [0, 1, 3] rfl
  have hF := hF_ofP (wc := (WM ++ [])) hD hS hA hpm_4129
  refine go_ctP hS hP hD hpm_4129 hF
      (va_runV (As := [.int (sx9 xs (i9 + 1))]) (rest := []) cf (eX4_dayOf l G m0 M th WM (sx9 xs (i9 + 1)) (hMd) (hIm) H.size) (cwV 1 hts (lw_V q1775 q1776 q1777 q58 q1778) rfl rfl rfl (by decide +kernel) ⟨Nat.le_of_ble_eq_true rfl, Nat.le_of_ble_eq_true rfl⟩) (preV_of hKB hE hS hF (MdW.recv hK hMd (seg_at [[(oD, .inl (G.2 6, 1, .inr (.inr (.inr (.inl og)))))], [(o, .inl (G.2 5, 1, .inr (.inl of2_4123)))], WM, W2_4124] 2 rfl hP)) (P_left (P_perm hpm_4129 hP)) ((D_left (D_perm hpm_4129 hD)).weaken (fun _ _ _ _ => trivial)) trivial) rfl rfl hl.1 rfl (lv_room (Nat.le_of_ble_eq_true rfl)) dL_law_1247 ⟨show cl + 2 + 0 ≤ 1200144 from by first | decide | omega, show sl + 8 + 0 ≤ 5495674 from by first | decide | omega⟩)
      (fun u_ H locs hq hph (hP : va_P G.1 CL (([(oD, .inl (G.2 6, 1, .inr (.inr (.inr (.inl og))))), (o, .inl (G.2 5, 1, .inr (.inl of2_4123)))] ++ (W2_4124 ++ [])) ++ (u_.2 ++ [])) H) (hD : va_D A (([(oD, .inl (G.2 6, 1, .inr (.inr (.inr (.inl og))))), (o, .inl (G.2 5, 1, .inr (.inl of2_4123)))] ++ (W2_4124 ++ [])) ++ (u_.2 ++ []))) hS hfz hfk => ?_)
  obtain ⟨rr_4130, W2_4131⟩ := u_
  obtain ⟨hq_4132, hq_4133⟩ : ((q_dayOf (dC M) (sx9 xs (i9 + 1))).1 = 0 → rr_4130 = (q_dayOf (dC M) (sx9 xs (i9 + 1))).2) ∧ MdW G m0 M (q_dayOf (dC M) (sx9 xs (i9 + 1))).1 W2_4131 := hq
  have hpm_4134 : (([(oD, .inl (G.2 6, 1, .inr (.inr (.inr (.inl og))))), (o, .inl (G.2 5, 1, .inr (.inl of2_4123)))] ++ (W2_4124 ++ [])) ++ (W2_4131 ++ []) : va_W).Perm ([(oD, .inl (G.2 6, 1, .inr (.inr (.inr (.inl og))))), (o, .inl (G.2 5, 1, .inr (.inl of2_4123)))] ++ (W2_4124 ++ (W2_4131 ++ []))) := segs_perm2 [[(oD, .inl (G.2 6, 1, .inr (.inr (.inr (.inl og)))))], [(o, .inl (G.2 5, 1, .inr (.inl of2_4123)))], W2_4124] [W2_4131] [0, 1, 2, 3] rfl
  have hP : va_P G.1 CL ([(oD, .inl (G.2 6, 1, .inr (.inr (.inr (.inl og))))), (o, .inl (G.2 5, 1, .inr (.inl of2_4123)))] ++ (W2_4124 ++ (W2_4131 ++ []))) H := P_perm hpm_4134 hP
  have hD : va_D A ([(oD, .inl (G.2 6, 1, .inr (.inr (.inr (.inl og))))), (o, .inl (G.2 5, 1, .inr (.inl of2_4123)))] ++ (W2_4124 ++ (W2_4131 ++ []))) := D_perm hpm_4134 hD
  refine W.eq (g2 := F0 m 1250 ls [.int rr_4130]) rfl ?_
  refine lv_istore (lv' := [(7, .int rr_4130), (6, .int (nI ((q_dayOf (dC C) (sx9 xs (i9 + 1))).1))), (0, .ref b), (1, .ref d), (2, .ref m0), (3, .ref o), (4, .ref oD), (5, .int (nI i9))]) hx hb dL_law_1250 hl (by decide) rfl (fun ls hl => ?_)
  refine lv_aload_n hx hb dL_law_1252 rfl (lv_at hl 4 rfl) ?_
  have hpm_4135 : (([(oD, .inl (G.2 6, 1, .inr (.inr (.inr (.inl og))))), (o, .inl (G.2 5, 1, .inr (.inl of2_4123)))] ++ (W2_4124 ++ (W2_4131 ++ []))) : va_W).Perm ([] ++ ([(oD, .inl (G.2 6, 1, .inr (.inr (.inr (.inl og))))), (o, .inl (G.2 5, 1, .inr (.inl of2_4123)))] ++ (W2_4124 ++ (W2_4131 ++ [])))) := segs_perm [[(oD, .inl (G.2 6, 1, .inr (.inr (.inr (.inl og)))))], [(o, .inl (G.2 5, 1, .inr (.inl of2_4123)))], W2_4124, W2_4131] [] [0, 1, 2, 3] rfl
  have hF := hF_ofP (wc := []) hD hS hA hpm_4135
  refine go_ctP hS hP hD hpm_4135 hF
      (va_runV (As := []) (rest := []) cf (eX4_thrown l G m0 M (((q_dayOf (dC M) id)).1) W2_4131 (hq_4133) H.size) (cwV 0 hts (lw_V q1639 q1640 q1641 q58 q1642) rfl rfl rfl (by decide +kernel) ⟨Nat.le_of_ble_eq_true rfl, Nat.le_of_ble_eq_true rfl⟩) (preV_of hKB hE hS hF (MdW.recv hK hq_4133 (seg_at [[(oD, .inl (G.2 6, 1, .inr (.inr (.inr (.inl og)))))], [(o, .inl (G.2 5, 1, .inr (.inl of2_4123)))], W2_4124, W2_4131] 3 rfl hP)) (P_left (P_perm hpm_4135 hP)) ((D_left (D_perm hpm_4135 hD)).weaken (fun _ _ _ _ => trivial)) (roW.nil (seg_at [[(oD, .inl (G.2 6, 1, .inr (.inr (.inr (.inl og)))))], [(o, .inl (G.2 5, 1, .inr (.inl of2_4123)))], W2_4124, W2_4131] 3 rfl hP))) rfl rfl hl.1 rfl (lv_room (Nat.le_of_ble_eq_true rfl)) dL_law_1253 ⟨show cl + 2 + 0 ≤ 1200144 from by first | decide | omega, show sl + 8 + 0 ≤ 5495674 from by first | decide | omega⟩)
      (fun u_ H locs hq hph (hP : va_P G.1 CL (([(oD, .inl (G.2 6, 1, .inr (.inr (.inr (.inl og))))), (o, .inl (G.2 5, 1, .inr (.inl of2_4123)))] ++ (W2_4124 ++ (W2_4131 ++ []))) ++ []) H) (hD : va_D A (([(oD, .inl (G.2 6, 1, .inr (.inr (.inr (.inl og))))), (o, .inl (G.2 5, 1, .inr (.inl of2_4123)))] ++ (W2_4124 ++ (W2_4131 ++ []))) ++ [])) hS hfz hfk => ?_)
  have hpm_4136 : (([(oD, .inl (G.2 6, 1, .inr (.inr (.inr (.inl og))))), (o, .inl (G.2 5, 1, .inr (.inl of2_4123)))] ++ (W2_4124 ++ (W2_4131 ++ []))) ++ [] : va_W).Perm ([(oD, .inl (G.2 6, 1, .inr (.inr (.inr (.inl og))))), (o, .inl (G.2 5, 1, .inr (.inl of2_4123)))] ++ (W2_4124 ++ (W2_4131 ++ []))) := segs_perm2 [[(oD, .inl (G.2 6, 1, .inr (.inr (.inr (.inl og)))))], [(o, .inl (G.2 5, 1, .inr (.inl of2_4123)))], W2_4124, W2_4131] [] [0, 1, 2, 3] rfl
  have hP : va_P G.1 CL ([(oD, .inl (G.2 6, 1, .inr (.inr (.inr (.inl og))))), (o, .inl (G.2 5, 1, .inr (.inl of2_4123)))] ++ (W2_4124 ++ (W2_4131 ++ []))) H := P_perm hpm_4136 hP
  have hD : va_D A ([(oD, .inl (G.2 6, 1, .inr (.inr (.inr (.inl og))))), (o, .inl (G.2 5, 1, .inr (.inl of2_4123)))] ++ (W2_4124 ++ (W2_4131 ++ []))) := D_perm hpm_4136 hD
  refine W.eq (g2 := F0 m 1256 ls [.int (nI (((q_dayOf (dC M) id)).1))]) rfl ?_
  refine lv_ton (n := ((q_dayOf (dC C) (sx9 xs (i9 + 1))).1)) (congrArg nI (by rw [hqs])) ?_
  refine lv_iload hx hb dL_law_1256 (lv_at hl 1 rfl) ?_
  refine lv_icmp_eq (tgt := 1263) hx hb dL_law_1258 (by decide) (fun _ => ?_) (fun c9 => absurd rfl c9)
  refine lv_iload hx hb dL_law_1263 (lv_at hl 1 rfl) ?_
  refine n_if_ne (tgt := 1280) hx hb (by omega) dL_law_1265 (by decide) (fun c_4137 => ?_) (fun c_4137 => ?_)
  · refine lv_goto (tgt := 2788) hx hb dL_law_1280 (by decide) ?_
    have hpm_4138 : (([(oD, .inl (G.2 6, 1, .inr (.inr (.inr (.inl og))))), (o, .inl (G.2 5, 1, .inr (.inl of2_4123)))] ++ (W2_4124 ++ (W2_4131 ++ []))) : va_W).Perm (([(o, .inl (G.2 5, 1, .inr (.inl of2_4123))), (oD, .inl (G.2 6, 1, .inr (.inr (.inr (.inl og)))))] ++ (W2_4124 ++ (W2_4131 ++ []))) ++ []) := segs_perm [[(oD, .inl (G.2 6, 1, .inr (.inr (.inr (.inl og)))))], [(o, .inl (G.2 5, 1, .inr (.inl of2_4123)))], W2_4124, W2_4131] [1, 0, 2, 3] [] rfl
    have hP : va_P G.1 CL ([(o, .inl (G.2 5, 1, .inr (.inl of2_4123))), (oD, .inl (G.2 6, 1, .inr (.inr (.inr (.inl og)))))] ++ (W2_4124 ++ (W2_4131 ++ []))) H := P_left (P_perm hpm_4138 hP)
    have hD : va_D A ([(o, .inl (G.2 5, 1, .inr (.inl of2_4123))), (oD, .inl (G.2 6, 1, .inr (.inr (.inr (.inl og)))))] ++ (W2_4124 ++ (W2_4131 ++ []))) := D_left (D_perm hpm_4138 hD)
    have hl := lv_sub hl [2, 3, 4, 5, 6, 7] (l' := [(0, .ref b), (1, .ref d), (2, .ref m0), (3, .ref o), (4, .ref oD), (5, .int (nI i9))]) rfl
    exact W.widen (show cl + 2 ≤ cl + 20000 from by omega) (show sl + 8 ≤ sl + 45000 from by omega) (kk ls H locs C M (((q_dayOf (dC M) id)).1) W2_4124 W2_4131 of2_4123 og hP hD hS hl hq_4127 hq_4133 hLw.up)
  · refine lv_aload_n hx hb dL_law_1268 rfl (lv_at hl 5 rfl) ?_
    refine lv_iconst (v := nI 0) hx hb dL_law_1269 (by decide) ?_
    refine r_lald (v := (((q_dayOf (dC C) (sx9 xs (i9 + 1)))).2).toInt64) hx hb hK hP 1 5 rfl rfl (i := 0) (by omega) (by omega) ((hq_4125 (by omega))) dL_law_1270 ?_
    refine lv_iload hx hb dL_law_1271 (lv_at hl 0 rfl) ?_
    refine lv_toi (y := ((q_dayOf (dC C) (sx9 xs (i9 + 1)))).2) ((hq_4132 (by rw [hqs]; omega)).trans (by rw [hqs])) ?_
    refine lv_i2l (v := (((q_dayOf (dC C) (sx9 xs (i9 + 1)))).2).toInt64) hx hb dL_law_1273 rfl ?_
    refine W.lcmp hx hb dL_law_1274 ?_
    refine lv_ton (n := 0) (lcmp0 _) ?_
    refine n_if_eq (tgt := 1280) hx hb (by omega) dL_law_1275 (by decide) (fun c_4139 => ?_) (fun c_4139 => absurd c_4139 (by omega))
    refine lv_goto (tgt := 2788) hx hb dL_law_1280 (by decide) ?_
    have hpm_4140 : (([(oD, .inl (G.2 6, 1, .inr (.inr (.inr (.inl og))))), (o, .inl (G.2 5, 1, .inr (.inl of2_4123)))] ++ (W2_4124 ++ (W2_4131 ++ []))) : va_W).Perm (([(o, .inl (G.2 5, 1, .inr (.inl of2_4123))), (oD, .inl (G.2 6, 1, .inr (.inr (.inr (.inl og)))))] ++ (W2_4124 ++ (W2_4131 ++ []))) ++ []) := segs_perm [[(oD, .inl (G.2 6, 1, .inr (.inr (.inr (.inl og)))))], [(o, .inl (G.2 5, 1, .inr (.inl of2_4123)))], W2_4124, W2_4131] [1, 0, 2, 3] [] rfl
    have hP : va_P G.1 CL ([(o, .inl (G.2 5, 1, .inr (.inl of2_4123))), (oD, .inl (G.2 6, 1, .inr (.inr (.inr (.inl og)))))] ++ (W2_4124 ++ (W2_4131 ++ []))) H := P_left (P_perm hpm_4140 hP)
    have hD : va_D A ([(o, .inl (G.2 5, 1, .inr (.inl of2_4123))), (oD, .inl (G.2 6, 1, .inr (.inr (.inr (.inl og)))))] ++ (W2_4124 ++ (W2_4131 ++ []))) := D_left (D_perm hpm_4140 hD)
    have hl := lv_sub hl [2, 3, 4, 5, 6, 7] (l' := [(0, .ref b), (1, .ref d), (2, .ref m0), (3, .ref o), (4, .ref oD), (5, .int (nI i9))]) rfl
    exact W.widen (show cl + 2 ≤ cl + 20000 from by omega) (show sl + 8 ≤ sl + 45000 from by omega) (kk ls H locs C M (((q_dayOf (dC M) id)).1) W2_4124 W2_4131 of2_4123 og hP hD hS hl hq_4127 hq_4133 hLw.up)

set_option maxHeartbeats 4000000 in
theorem lawK_19 {p : Program} {l : Launch} {e : Env} {s : State} {m : MethodId} {below : List Frame} {meth : Method} {c : Code} {G : Gt} {A : Nat → Prop} {b L : Nat} {xs : Nat → Int32} {Q : State → Prop} {d m0 o oD i9 N cl sl : Nat} (hfl : l.stackTraces = false) (F : LwF G A p s m c b L xs) (hi9 : i9 + 4 ≤ L) (hN24 : N ≤ 24) (hcl : cl + 20000 ≤ 1200144) (hsl : sl + 45000 ≤ 5495674) (kk : ∀ (ls : Array Slot) (H : Heap) (locs : List Loc) (C M : DS) (th : Nat) (WD WM : va_W) (of : Nat → Int64) (og : Nat → UInt64), va_P G.1 CL ([(o, .inl (G.2 5, 1, .inr (.inl of))), (oD, .inl (G.2 6, 1, .inr (.inr (.inr (.inl og)))))] ++ (WD ++ (WM ++ []))) H → va_D A ([(o, .inl (G.2 5, 1, .inr (.inl of))), (oD, .inl (G.2 6, 1, .inr (.inr (.inr (.inl og)))))] ++ (WD ++ (WM ++ []))) → va_S A s.heap H locs → lv_has ls 10 [(0, .ref b), (1, .ref d), (2, .ref m0), (3, .ref o), (4, .ref oD), (5, .int (nI i9))] → DyW G d C WD → MdW G m0 M th WM → LawI C M (N + 1) → W p l e room_1 s m #[Value.ref b] below meth c H locs (cl + 20000) (sl + 45000) Q (F0 m 2788 ls [])) {ls : Array Slot} {H : Heap} {locs : List Loc} {C M : DS} {th : Nat} {WD WM : va_W} {of : Nat → Int64} {og : Nat → UInt64} (hP : va_P G.1 CL ([(o, .inl (G.2 5, 1, .inr (.inl of))), (oD, .inl (G.2 6, 1, .inr (.inr (.inr (.inl og)))))] ++ (WD ++ (WM ++ []))) H) (hD : va_D A ([(o, .inl (G.2 5, 1, .inr (.inl of))), (oD, .inl (G.2 6, 1, .inr (.inr (.inr (.inl og)))))] ++ (WD ++ (WM ++ [])))) (hS : va_S A s.heap H locs) (hl : lv_has ls 10 [(0, .ref b), (1, .ref d), (2, .ref m0), (3, .ref o), (4, .ref oD), (5, .int (nI i9))]) (hDy : DyW G d C WD) (hMd : MdW G m0 M th WM) (hLw : LawI C M N) : W p l e room_1 s m #[Value.ref b] below meth c H locs cl sl Q (F0 m 1283 ls []) := by
  obtain ⟨cf, hKB, hE, hA, hX9, hbl, hbA, hNc, hL96⟩ := F
  have hx := cf.1
  have hb := cf.2.1
  have hml := cf.2.2.1
  have hown : s.vm.findClass RX0 = some m.cls := cf.2.2.2.1
  have hts := cf.2.2.2.2
  have hK := hKB.1
  have hIc := hDy.inv.1
  have hIm : Inv (dC M) := Inv_sim hLw.1 hIc
  have hRk : RkOk (dC M) := RkOk_sim hLw.1 (RkOk_srt hDy.inv.2.2)
  have hl := hl
  refine lv_aload_n hx hb dL_law_1283 rfl (lv_at hl 1 rfl) ?_
  refine lv_aload_n hx hb dL_law_1284 rfl (lv_at hl 0 rfl) ?_
  refine lv_iload hx hb dL_law_1285 (lv_at hl 5 rfl) ?_
  refine lv_iconst (v := nI 1) hx hb dL_law_1287 (by decide) ?_
  refine lv_iadd hx hb dL_law_1288 ?_
  refine lv_ton (n := i9 + 1) (nadd (by omega)) ?_
  refine va_sld hx hb hX9 hbl hbA hS (i := nI (i9 + 1)) (vp9 (by omega) hL96) dL_law_1289 ?_
  refine W.eq (g2 := F0 m 1290 ls [.int (sx9 xs (i9 + 1)), .ref d]) rfl ?_
  refine lv_aload_n hx hb dL_law_1290 rfl (lv_at hl 3 rfl) ?_
  have hpm_4141 : (([(o, .inl (G.2 5, 1, .inr (.inl of))), (oD, .inl (G.2 6, 1, .inr (.inr (.inr (.inl og)))))] ++ (WD ++ (WM ++ []))) : va_W).Perm (([(o, .inl (G.2 5, 1, .inr (.inl of)))] ++ (WD ++ [])) ++ ([(oD, .inl (G.2 6, 1, .inr (.inr (.inr (.inl og)))))] ++ (WM ++ []))) := segs_perm [[(o, .inl (G.2 5, 1, .inr (.inl of)))], [(oD, .inl (G.2 6, 1, .inr (.inr (.inr (.inl og)))))], WD, WM] [0, 2] [1, 3] rfl
  have hF := hF_ofP (wc := ([(o, .inl (G.2 5, 1, .inr (.inl of)))] ++ (WD ++ []))) hD hS hA hpm_4141
  refine go_ctP hS hP hD hpm_4141 hF
      (vx_runSW (As := [.ref d, .int (sx9 xs (i9 + 1)), .ref o]) (rest := []) cf (wX0_minutesOf l G d C WD o of (sx9 xs (i9 + 1)) (hDy) hfl H.size) (vx_cwSW 3 hts (lw_SW q1237 q1238 q46 q1239) rfl rfl rfl (by decide +kernel) ⟨Nat.le_of_ble_eq_true rfl, Nat.le_of_ble_eq_true rfl⟩) (preS_ofW hNc hKB hE hS hF (P_left (P_perm hpm_4141 hP)) ((D_left (D_perm hpm_4141 hD)).weaken (fun _ _ _ _ => trivial)) trivial) rfl rfl hl.1 rfl (lv_room (Nat.le_of_ble_eq_true rfl)) dL_law_1291 ⟨show cl + 2 ≤ 1200144 from by first | decide | omega, show sl + 8 ≤ 5495674 from by first | decide | omega⟩)
      (fun u_ H locs hq hph (hP : va_P G.1 CL (([(oD, .inl (G.2 6, 1, .inr (.inr (.inr (.inl og)))))] ++ (WM ++ [])) ++ ([(o, .inl (G.2 5, 1, .inr (.inl u_.1)))] ++ (u_.2 ++ []))) H) (hD : va_D A (([(oD, .inl (G.2 6, 1, .inr (.inr (.inr (.inl og)))))] ++ (WM ++ [])) ++ ([(o, .inl (G.2 5, 1, .inr (.inl u_.1)))] ++ (u_.2 ++ [])))) hS hfz hfk => ?_)
  obtain ⟨of2_4142, W2_4143⟩ := u_
  obtain ⟨hq_4144, hq_4145, hq_4146⟩ : ((q_minOf (dC C) (sx9 xs (i9 + 1))).1 = 0 → of2_4142 0 = ((q_minOf (dC C) (sx9 xs (i9 + 1))).2).toInt64) ∧ (q_minOf (dC C) (sx9 xs (i9 + 1))).1 < 10 ∧ DyW G d C W2_4143 := hq
  have hpm_4147 : (([(oD, .inl (G.2 6, 1, .inr (.inr (.inr (.inl og)))))] ++ (WM ++ [])) ++ ([(o, .inl (G.2 5, 1, .inr (.inl of2_4142)))] ++ (W2_4143 ++ [])) : va_W).Perm ([(oD, .inl (G.2 6, 1, .inr (.inr (.inr (.inl og))))), (o, .inl (G.2 5, 1, .inr (.inl of2_4142)))] ++ (WM ++ (W2_4143 ++ []))) := segs_perm2 [[(oD, .inl (G.2 6, 1, .inr (.inr (.inr (.inl og)))))], WM] [[(o, .inl (G.2 5, 1, .inr (.inl of2_4142)))], W2_4143] [0, 2, 1, 3] rfl
  have hP : va_P G.1 CL ([(oD, .inl (G.2 6, 1, .inr (.inr (.inr (.inl og))))), (o, .inl (G.2 5, 1, .inr (.inl of2_4142)))] ++ (WM ++ (W2_4143 ++ []))) H := P_perm hpm_4147 hP
  have hD : va_D A ([(oD, .inl (G.2 6, 1, .inr (.inr (.inr (.inl og))))), (o, .inl (G.2 5, 1, .inr (.inl of2_4142)))] ++ (WM ++ (W2_4143 ++ []))) := D_perm hpm_4147 hD
  refine W.eq (g2 := F0 m 1294 ls [.int (nI ((q_minOf (dC C) (sx9 xs (i9 + 1))).1))]) rfl ?_
  have hqs : (q_minOf (dC M) id) = (q_minOf (dC C) (sx9 xs (i9 + 1))) := q_minOf_sim hLw.1.symm hIm (sx9 xs (i9 + 1))
  refine lv_istore (lv' := [(6, .int (nI ((q_minOf (dC C) (sx9 xs (i9 + 1))).1))), (0, .ref b), (1, .ref d), (2, .ref m0), (3, .ref o), (4, .ref oD), (5, .int (nI i9))]) hx hb dL_law_1294 hl (by decide) rfl (fun ls hl => ?_)
  refine lv_aload_n hx hb dL_law_1296 rfl (lv_at hl 3 rfl) ?_
  refine lv_aload_n hx hb dL_law_1297 rfl (lv_at hl 1 rfl) ?_
  refine lv_iload hx hb dL_law_1298 (lv_at hl 6 rfl) ?_
  refine lv_iconst (v := nI 1) hx hb dL_law_1300 (by decide) ?_
  refine lv_iadd hx hb dL_law_1301 ?_
  refine lv_ton (n := i9 + 1) (nadd (by omega)) ?_
  refine va_sld hx hb hX9 hbl hbA hS (i := nI (i9 + 1)) (vp9 (by omega) hL96) dL_law_1302 ?_
  refine W.eq (g2 := F0 m 1303 ls [.int (sx9 xs (i9 + 1)), .ref m0]) rfl ?_
  have hpm_4148 : (([(oD, .inl (G.2 6, 1, .inr (.inr (.inr (.inl og))))), (o, .inl (G.2 5, 1, .inr (.inl of2_4142)))] ++ (WM ++ (W2_4143 ++ []))) : va_W).Perm ((WM ++ []) ++ ([(oD, .inl (G.2 6, 1, .inr (.inr (.inr (.inl og))))), (o, .inl (G.2 5, 1, .inr (.inl of2_4142)))] ++ (W2_4143 ++ []))) := segs_perm [[(oD, .inl (G.2 6, 1, .inr (.inr (.inr (.inl og)))))], [(o, .inl (G.2 5, 1, .inr (.inl of2_4142)))], WM, W2_4143] [2] [0, 1, 3] rfl
  have hF := hF_ofP (wc := (WM ++ [])) hD hS hA hpm_4148
  refine go_ctP hS hP hD hpm_4148 hF
      (va_runV (As := [.int (sx9 xs (i9 + 1))]) (rest := []) cf (eX4_minutesOf l G m0 M th WM (sx9 xs (i9 + 1)) (hMd) (hIm) H.size) (cwV 1 hts (lw_V q1779 q1780 q1781 q58 q1782) rfl rfl rfl (by decide +kernel) ⟨Nat.le_of_ble_eq_true rfl, Nat.le_of_ble_eq_true rfl⟩) (preV_of hKB hE hS hF (MdW.recv hK hMd (seg_at [[(oD, .inl (G.2 6, 1, .inr (.inr (.inr (.inl og)))))], [(o, .inl (G.2 5, 1, .inr (.inl of2_4142)))], WM, W2_4143] 2 rfl hP)) (P_left (P_perm hpm_4148 hP)) ((D_left (D_perm hpm_4148 hD)).weaken (fun _ _ _ _ => trivial)) trivial) rfl rfl hl.1 rfl (lv_room (Nat.le_of_ble_eq_true rfl)) dL_law_1303 ⟨show cl + 2 + 0 ≤ 1200144 from by first | decide | omega, show sl + 8 + 0 ≤ 5495674 from by first | decide | omega⟩)
      (fun u_ H locs hq hph (hP : va_P G.1 CL (([(oD, .inl (G.2 6, 1, .inr (.inr (.inr (.inl og))))), (o, .inl (G.2 5, 1, .inr (.inl of2_4142)))] ++ (W2_4143 ++ [])) ++ (u_.2 ++ [])) H) (hD : va_D A (([(oD, .inl (G.2 6, 1, .inr (.inr (.inr (.inl og))))), (o, .inl (G.2 5, 1, .inr (.inl of2_4142)))] ++ (W2_4143 ++ [])) ++ (u_.2 ++ []))) hS hfz hfk => ?_)
  obtain ⟨rr_4149, W2_4150⟩ := u_
  obtain ⟨hq_4151, hq_4152⟩ : ((q_minOf (dC M) (sx9 xs (i9 + 1))).1 = 0 → rr_4149 = (q_minOf (dC M) (sx9 xs (i9 + 1))).2) ∧ MdW G m0 M (q_minOf (dC M) (sx9 xs (i9 + 1))).1 W2_4150 := hq
  have hpm_4153 : (([(oD, .inl (G.2 6, 1, .inr (.inr (.inr (.inl og))))), (o, .inl (G.2 5, 1, .inr (.inl of2_4142)))] ++ (W2_4143 ++ [])) ++ (W2_4150 ++ []) : va_W).Perm ([(oD, .inl (G.2 6, 1, .inr (.inr (.inr (.inl og))))), (o, .inl (G.2 5, 1, .inr (.inl of2_4142)))] ++ (W2_4143 ++ (W2_4150 ++ []))) := segs_perm2 [[(oD, .inl (G.2 6, 1, .inr (.inr (.inr (.inl og)))))], [(o, .inl (G.2 5, 1, .inr (.inl of2_4142)))], W2_4143] [W2_4150] [0, 1, 2, 3] rfl
  have hP : va_P G.1 CL ([(oD, .inl (G.2 6, 1, .inr (.inr (.inr (.inl og))))), (o, .inl (G.2 5, 1, .inr (.inl of2_4142)))] ++ (W2_4143 ++ (W2_4150 ++ []))) H := P_perm hpm_4153 hP
  have hD : va_D A ([(oD, .inl (G.2 6, 1, .inr (.inr (.inr (.inl og))))), (o, .inl (G.2 5, 1, .inr (.inl of2_4142)))] ++ (W2_4143 ++ (W2_4150 ++ []))) := D_perm hpm_4153 hD
  refine W.eq (g2 := F0 m 1306 ls [.int rr_4149]) rfl ?_
  refine lv_istore (lv' := [(7, .int rr_4149), (6, .int (nI ((q_minOf (dC C) (sx9 xs (i9 + 1))).1))), (0, .ref b), (1, .ref d), (2, .ref m0), (3, .ref o), (4, .ref oD), (5, .int (nI i9))]) hx hb dL_law_1306 hl (by decide) rfl (fun ls hl => ?_)
  refine lv_aload_n hx hb dL_law_1308 rfl (lv_at hl 4 rfl) ?_
  have hpm_4154 : (([(oD, .inl (G.2 6, 1, .inr (.inr (.inr (.inl og))))), (o, .inl (G.2 5, 1, .inr (.inl of2_4142)))] ++ (W2_4143 ++ (W2_4150 ++ []))) : va_W).Perm ([] ++ ([(oD, .inl (G.2 6, 1, .inr (.inr (.inr (.inl og))))), (o, .inl (G.2 5, 1, .inr (.inl of2_4142)))] ++ (W2_4143 ++ (W2_4150 ++ [])))) := segs_perm [[(oD, .inl (G.2 6, 1, .inr (.inr (.inr (.inl og)))))], [(o, .inl (G.2 5, 1, .inr (.inl of2_4142)))], W2_4143, W2_4150] [] [0, 1, 2, 3] rfl
  have hF := hF_ofP (wc := []) hD hS hA hpm_4154
  refine go_ctP hS hP hD hpm_4154 hF
      (va_runV (As := []) (rest := []) cf (eX4_thrown l G m0 M (((q_minOf (dC M) id)).1) W2_4150 (hq_4152) H.size) (cwV 0 hts (lw_V q1639 q1640 q1641 q58 q1642) rfl rfl rfl (by decide +kernel) ⟨Nat.le_of_ble_eq_true rfl, Nat.le_of_ble_eq_true rfl⟩) (preV_of hKB hE hS hF (MdW.recv hK hq_4152 (seg_at [[(oD, .inl (G.2 6, 1, .inr (.inr (.inr (.inl og)))))], [(o, .inl (G.2 5, 1, .inr (.inl of2_4142)))], W2_4143, W2_4150] 3 rfl hP)) (P_left (P_perm hpm_4154 hP)) ((D_left (D_perm hpm_4154 hD)).weaken (fun _ _ _ _ => trivial)) (roW.nil (seg_at [[(oD, .inl (G.2 6, 1, .inr (.inr (.inr (.inl og)))))], [(o, .inl (G.2 5, 1, .inr (.inl of2_4142)))], W2_4143, W2_4150] 3 rfl hP))) rfl rfl hl.1 rfl (lv_room (Nat.le_of_ble_eq_true rfl)) dL_law_1309 ⟨show cl + 2 + 0 ≤ 1200144 from by first | decide | omega, show sl + 8 + 0 ≤ 5495674 from by first | decide | omega⟩)
      (fun u_ H locs hq hph (hP : va_P G.1 CL (([(oD, .inl (G.2 6, 1, .inr (.inr (.inr (.inl og))))), (o, .inl (G.2 5, 1, .inr (.inl of2_4142)))] ++ (W2_4143 ++ (W2_4150 ++ []))) ++ []) H) (hD : va_D A (([(oD, .inl (G.2 6, 1, .inr (.inr (.inr (.inl og))))), (o, .inl (G.2 5, 1, .inr (.inl of2_4142)))] ++ (W2_4143 ++ (W2_4150 ++ []))) ++ [])) hS hfz hfk => ?_)
  have hpm_4155 : (([(oD, .inl (G.2 6, 1, .inr (.inr (.inr (.inl og))))), (o, .inl (G.2 5, 1, .inr (.inl of2_4142)))] ++ (W2_4143 ++ (W2_4150 ++ []))) ++ [] : va_W).Perm ([(oD, .inl (G.2 6, 1, .inr (.inr (.inr (.inl og))))), (o, .inl (G.2 5, 1, .inr (.inl of2_4142)))] ++ (W2_4143 ++ (W2_4150 ++ []))) := segs_perm2 [[(oD, .inl (G.2 6, 1, .inr (.inr (.inr (.inl og)))))], [(o, .inl (G.2 5, 1, .inr (.inl of2_4142)))], W2_4143, W2_4150] [] [0, 1, 2, 3] rfl
  have hP : va_P G.1 CL ([(oD, .inl (G.2 6, 1, .inr (.inr (.inr (.inl og))))), (o, .inl (G.2 5, 1, .inr (.inl of2_4142)))] ++ (W2_4143 ++ (W2_4150 ++ []))) H := P_perm hpm_4155 hP
  have hD : va_D A ([(oD, .inl (G.2 6, 1, .inr (.inr (.inr (.inl og))))), (o, .inl (G.2 5, 1, .inr (.inl of2_4142)))] ++ (W2_4143 ++ (W2_4150 ++ []))) := D_perm hpm_4155 hD
  refine W.eq (g2 := F0 m 1312 ls [.int (nI (((q_minOf (dC M) id)).1))]) rfl ?_
  refine lv_ton (n := ((q_minOf (dC C) (sx9 xs (i9 + 1))).1)) (congrArg nI (by rw [hqs])) ?_
  refine lv_iload hx hb dL_law_1312 (lv_at hl 1 rfl) ?_
  refine lv_icmp_eq (tgt := 1319) hx hb dL_law_1314 (by decide) (fun _ => ?_) (fun c9 => absurd rfl c9)
  refine lv_iload hx hb dL_law_1319 (lv_at hl 1 rfl) ?_
  refine n_if_ne (tgt := 1336) hx hb (by omega) dL_law_1321 (by decide) (fun c_4156 => ?_) (fun c_4156 => ?_)
  · refine lv_goto (tgt := 2788) hx hb dL_law_1336 (by decide) ?_
    have hpm_4157 : (([(oD, .inl (G.2 6, 1, .inr (.inr (.inr (.inl og))))), (o, .inl (G.2 5, 1, .inr (.inl of2_4142)))] ++ (W2_4143 ++ (W2_4150 ++ []))) : va_W).Perm (([(o, .inl (G.2 5, 1, .inr (.inl of2_4142))), (oD, .inl (G.2 6, 1, .inr (.inr (.inr (.inl og)))))] ++ (W2_4143 ++ (W2_4150 ++ []))) ++ []) := segs_perm [[(oD, .inl (G.2 6, 1, .inr (.inr (.inr (.inl og)))))], [(o, .inl (G.2 5, 1, .inr (.inl of2_4142)))], W2_4143, W2_4150] [1, 0, 2, 3] [] rfl
    have hP : va_P G.1 CL ([(o, .inl (G.2 5, 1, .inr (.inl of2_4142))), (oD, .inl (G.2 6, 1, .inr (.inr (.inr (.inl og)))))] ++ (W2_4143 ++ (W2_4150 ++ []))) H := P_left (P_perm hpm_4157 hP)
    have hD : va_D A ([(o, .inl (G.2 5, 1, .inr (.inl of2_4142))), (oD, .inl (G.2 6, 1, .inr (.inr (.inr (.inl og)))))] ++ (W2_4143 ++ (W2_4150 ++ []))) := D_left (D_perm hpm_4157 hD)
    have hl := lv_sub hl [2, 3, 4, 5, 6, 7] (l' := [(0, .ref b), (1, .ref d), (2, .ref m0), (3, .ref o), (4, .ref oD), (5, .int (nI i9))]) rfl
    exact W.widen (show cl + 2 ≤ cl + 20000 from by omega) (show sl + 8 ≤ sl + 45000 from by omega) (kk ls H locs C M (((q_minOf (dC M) id)).1) W2_4143 W2_4150 of2_4142 og hP hD hS hl hq_4146 hq_4152 hLw.up)
  · refine lv_aload_n hx hb dL_law_1324 rfl (lv_at hl 5 rfl) ?_
    refine lv_iconst (v := nI 0) hx hb dL_law_1325 (by decide) ?_
    refine r_lald (v := (((q_minOf (dC C) (sx9 xs (i9 + 1)))).2).toInt64) hx hb hK hP 1 5 rfl rfl (i := 0) (by omega) (by omega) ((hq_4144 (by omega))) dL_law_1326 ?_
    refine lv_iload hx hb dL_law_1327 (lv_at hl 0 rfl) ?_
    refine lv_toi (y := ((q_minOf (dC C) (sx9 xs (i9 + 1)))).2) ((hq_4151 (by rw [hqs]; omega)).trans (by rw [hqs])) ?_
    refine lv_i2l (v := (((q_minOf (dC C) (sx9 xs (i9 + 1)))).2).toInt64) hx hb dL_law_1329 rfl ?_
    refine W.lcmp hx hb dL_law_1330 ?_
    refine lv_ton (n := 0) (lcmp0 _) ?_
    refine n_if_eq (tgt := 1336) hx hb (by omega) dL_law_1331 (by decide) (fun c_4158 => ?_) (fun c_4158 => absurd c_4158 (by omega))
    refine lv_goto (tgt := 2788) hx hb dL_law_1336 (by decide) ?_
    have hpm_4159 : (([(oD, .inl (G.2 6, 1, .inr (.inr (.inr (.inl og))))), (o, .inl (G.2 5, 1, .inr (.inl of2_4142)))] ++ (W2_4143 ++ (W2_4150 ++ []))) : va_W).Perm (([(o, .inl (G.2 5, 1, .inr (.inl of2_4142))), (oD, .inl (G.2 6, 1, .inr (.inr (.inr (.inl og)))))] ++ (W2_4143 ++ (W2_4150 ++ []))) ++ []) := segs_perm [[(oD, .inl (G.2 6, 1, .inr (.inr (.inr (.inl og)))))], [(o, .inl (G.2 5, 1, .inr (.inl of2_4142)))], W2_4143, W2_4150] [1, 0, 2, 3] [] rfl
    have hP : va_P G.1 CL ([(o, .inl (G.2 5, 1, .inr (.inl of2_4142))), (oD, .inl (G.2 6, 1, .inr (.inr (.inr (.inl og)))))] ++ (W2_4143 ++ (W2_4150 ++ []))) H := P_left (P_perm hpm_4159 hP)
    have hD : va_D A ([(o, .inl (G.2 5, 1, .inr (.inl of2_4142))), (oD, .inl (G.2 6, 1, .inr (.inr (.inr (.inl og)))))] ++ (W2_4143 ++ (W2_4150 ++ []))) := D_left (D_perm hpm_4159 hD)
    have hl := lv_sub hl [2, 3, 4, 5, 6, 7] (l' := [(0, .ref b), (1, .ref d), (2, .ref m0), (3, .ref o), (4, .ref oD), (5, .int (nI i9))]) rfl
    exact W.widen (show cl + 2 ≤ cl + 20000 from by omega) (show sl + 8 ≤ sl + 45000 from by omega) (kk ls H locs C M (((q_minOf (dC M) id)).1) W2_4143 W2_4150 of2_4142 og hP hD hS hl hq_4146 hq_4152 hLw.up)

set_option maxHeartbeats 4000000 in
theorem lawK_20 {p : Program} {l : Launch} {e : Env} {s : State} {m : MethodId} {below : List Frame} {meth : Method} {c : Code} {G : Gt} {A : Nat → Prop} {b L : Nat} {xs : Nat → Int32} {Q : State → Prop} {d m0 o oD i9 N cl sl : Nat} (hfl : l.stackTraces = false) (F : LwF G A p s m c b L xs) (hi9 : i9 + 4 ≤ L) (hN24 : N ≤ 24) (hcl : cl + 20000 ≤ 1200144) (hsl : sl + 45000 ≤ 5495674) (kk : ∀ (ls : Array Slot) (H : Heap) (locs : List Loc) (C M : DS) (th : Nat) (WD WM : va_W) (of : Nat → Int64) (og : Nat → UInt64), va_P G.1 CL ([(o, .inl (G.2 5, 1, .inr (.inl of))), (oD, .inl (G.2 6, 1, .inr (.inr (.inr (.inl og)))))] ++ (WD ++ (WM ++ []))) H → va_D A ([(o, .inl (G.2 5, 1, .inr (.inl of))), (oD, .inl (G.2 6, 1, .inr (.inr (.inr (.inl og)))))] ++ (WD ++ (WM ++ []))) → va_S A s.heap H locs → lv_has ls 10 [(0, .ref b), (1, .ref d), (2, .ref m0), (3, .ref o), (4, .ref oD), (5, .int (nI i9))] → DyW G d C WD → MdW G m0 M th WM → LawI C M (N + 1) → W p l e room_1 s m #[Value.ref b] below meth c H locs (cl + 20000) (sl + 45000) Q (F0 m 2788 ls [])) {ls : Array Slot} {H : Heap} {locs : List Loc} {C M : DS} {th : Nat} {WD WM : va_W} {of : Nat → Int64} {og : Nat → UInt64} (hP : va_P G.1 CL ([(o, .inl (G.2 5, 1, .inr (.inl of))), (oD, .inl (G.2 6, 1, .inr (.inr (.inr (.inl og)))))] ++ (WD ++ (WM ++ []))) H) (hD : va_D A ([(o, .inl (G.2 5, 1, .inr (.inl of))), (oD, .inl (G.2 6, 1, .inr (.inr (.inr (.inl og)))))] ++ (WD ++ (WM ++ [])))) (hS : va_S A s.heap H locs) (hl : lv_has ls 10 [(0, .ref b), (1, .ref d), (2, .ref m0), (3, .ref o), (4, .ref oD), (5, .int (nI i9))]) (hDy : DyW G d C WD) (hMd : MdW G m0 M th WM) (hLw : LawI C M N) : W p l e room_1 s m #[Value.ref b] below meth c H locs cl sl Q (F0 m 1339 ls []) := by
  obtain ⟨cf, hKB, hE, hA, hX9, hbl, hbA, hNc, hL96⟩ := F
  have hx := cf.1
  have hb := cf.2.1
  have hml := cf.2.2.1
  have hown : s.vm.findClass RX0 = some m.cls := cf.2.2.2.1
  have hts := cf.2.2.2.2
  have hK := hKB.1
  have hIc := hDy.inv.1
  have hIm : Inv (dC M) := Inv_sim hLw.1 hIc
  have hRk : RkOk (dC M) := RkOk_sim hLw.1 (RkOk_srt hDy.inv.2.2)
  have hl := hl
  refine lv_aload_n hx hb dL_law_1339 rfl (lv_at hl 1 rfl) ?_
  refine lv_aload_n hx hb dL_law_1340 rfl (lv_at hl 0 rfl) ?_
  refine lv_iload hx hb dL_law_1341 (lv_at hl 5 rfl) ?_
  refine lv_iconst (v := nI 1) hx hb dL_law_1343 (by decide) ?_
  refine lv_iadd hx hb dL_law_1344 ?_
  refine lv_ton (n := i9 + 1) (nadd (by omega)) ?_
  refine va_sld hx hb hX9 hbl hbA hS (i := nI (i9 + 1)) (vp9 (by omega) hL96) dL_law_1345 ?_
  refine W.eq (g2 := F0 m 1346 ls [.int (sx9 xs (i9 + 1)), .ref d]) rfl ?_
  refine lv_aload_n hx hb dL_law_1346 rfl (lv_at hl 0 rfl) ?_
  refine lv_iload hx hb dL_law_1347 (lv_at hl 5 rfl) ?_
  refine lv_iconst (v := nI 2) hx hb dL_law_1349 (by decide) ?_
  refine lv_iadd hx hb dL_law_1350 ?_
  refine lv_ton (n := i9 + 2) (nadd (by omega)) ?_
  refine va_sld hx hb hX9 hbl hbA hS (i := nI (i9 + 2)) (vp9 (by omega) hL96) dL_law_1351 ?_
  refine W.eq (g2 := F0 m 1352 ls [.int (sx9 xs (i9 + 2)), .int (sx9 xs (i9 + 1)), .ref d]) rfl ?_
  refine lv_aload_n hx hb dL_law_1352 rfl (lv_at hl 3 rfl) ?_
  have hpm_4160 : (([(o, .inl (G.2 5, 1, .inr (.inl of))), (oD, .inl (G.2 6, 1, .inr (.inr (.inr (.inl og)))))] ++ (WD ++ (WM ++ []))) : va_W).Perm (([(o, .inl (G.2 5, 1, .inr (.inl of)))] ++ (WD ++ [])) ++ ([(oD, .inl (G.2 6, 1, .inr (.inr (.inr (.inl og)))))] ++ (WM ++ []))) := segs_perm [[(o, .inl (G.2 5, 1, .inr (.inl of)))], [(oD, .inl (G.2 6, 1, .inr (.inr (.inr (.inl og)))))], WD, WM] [0, 2] [1, 3] rfl
  have hF := hF_ofP (wc := ([(o, .inl (G.2 5, 1, .inr (.inl of)))] ++ (WD ++ []))) hD hS hA hpm_4160
  refine go_ctP hS hP hD hpm_4160 hF
      (vx_runSW (As := [.ref d, .int (sx9 xs (i9 + 1)), .int (sx9 xs (i9 + 2)), .ref o]) (rest := []) cf (wX0_minutesInZone l G d C WD o of (sx9 xs (i9 + 1)) (sx9 xs (i9 + 2)) (hDy) hfl H.size) (vx_cwSW 4 hts (lw_SW q1245 q1246 q46 q1247) rfl rfl rfl (by decide +kernel) ⟨Nat.le_of_ble_eq_true rfl, Nat.le_of_ble_eq_true rfl⟩) (preS_ofW hNc hKB hE hS hF (P_left (P_perm hpm_4160 hP)) ((D_left (D_perm hpm_4160 hD)).weaken (fun _ _ _ _ => trivial)) trivial) rfl rfl hl.1 rfl (lv_room (Nat.le_of_ble_eq_true rfl)) dL_law_1353 ⟨show cl + 4 ≤ 1200144 from by first | decide | omega, show sl + 20 ≤ 5495674 from by first | decide | omega⟩)
      (fun u_ H locs hq hph (hP : va_P G.1 CL (([(oD, .inl (G.2 6, 1, .inr (.inr (.inr (.inl og)))))] ++ (WM ++ [])) ++ ([(o, .inl (G.2 5, 1, .inr (.inl u_.1)))] ++ (u_.2 ++ []))) H) (hD : va_D A (([(oD, .inl (G.2 6, 1, .inr (.inr (.inr (.inl og)))))] ++ (WM ++ [])) ++ ([(o, .inl (G.2 5, 1, .inr (.inl u_.1)))] ++ (u_.2 ++ [])))) hS hfz hfk => ?_)
  obtain ⟨of2_4161, W2_4162⟩ := u_
  obtain ⟨hq_4163, hq_4164, hq_4165⟩ : ((q_minZ (dC C) (sx9 xs (i9 + 1)) (sx9 xs (i9 + 2))).1 = 0 → of2_4161 0 = ((q_minZ (dC C) (sx9 xs (i9 + 1)) (sx9 xs (i9 + 2))).2).toInt64) ∧ (q_minZ (dC C) (sx9 xs (i9 + 1)) (sx9 xs (i9 + 2))).1 < 10 ∧ DyW G d C W2_4162 := hq
  have hpm_4166 : (([(oD, .inl (G.2 6, 1, .inr (.inr (.inr (.inl og)))))] ++ (WM ++ [])) ++ ([(o, .inl (G.2 5, 1, .inr (.inl of2_4161)))] ++ (W2_4162 ++ [])) : va_W).Perm ([(oD, .inl (G.2 6, 1, .inr (.inr (.inr (.inl og))))), (o, .inl (G.2 5, 1, .inr (.inl of2_4161)))] ++ (WM ++ (W2_4162 ++ []))) := segs_perm2 [[(oD, .inl (G.2 6, 1, .inr (.inr (.inr (.inl og)))))], WM] [[(o, .inl (G.2 5, 1, .inr (.inl of2_4161)))], W2_4162] [0, 2, 1, 3] rfl
  have hP : va_P G.1 CL ([(oD, .inl (G.2 6, 1, .inr (.inr (.inr (.inl og))))), (o, .inl (G.2 5, 1, .inr (.inl of2_4161)))] ++ (WM ++ (W2_4162 ++ []))) H := P_perm hpm_4166 hP
  have hD : va_D A ([(oD, .inl (G.2 6, 1, .inr (.inr (.inr (.inl og))))), (o, .inl (G.2 5, 1, .inr (.inl of2_4161)))] ++ (WM ++ (W2_4162 ++ []))) := D_perm hpm_4166 hD
  refine W.eq (g2 := F0 m 1356 ls [.int (nI ((q_minZ (dC C) (sx9 xs (i9 + 1)) (sx9 xs (i9 + 2))).1))]) rfl ?_
  have hqs : (q_minZ (dC M) id z) = (q_minZ (dC C) (sx9 xs (i9 + 1)) (sx9 xs (i9 + 2))) := q_minZ_sim hLw.1.symm hIm (sx9 xs (i9 + 1)) (sx9 xs (i9 + 2))
  refine lv_istore (lv' := [(6, .int (nI ((q_minZ (dC C) (sx9 xs (i9 + 1)) (sx9 xs (i9 + 2))).1))), (0, .ref b), (1, .ref d), (2, .ref m0), (3, .ref o), (4, .ref oD), (5, .int (nI i9))]) hx hb dL_law_1356 hl (by decide) rfl (fun ls hl => ?_)
  refine lv_aload_n hx hb dL_law_1358 rfl (lv_at hl 3 rfl) ?_
  refine lv_aload_n hx hb dL_law_1359 rfl (lv_at hl 1 rfl) ?_
  refine lv_iload hx hb dL_law_1360 (lv_at hl 6 rfl) ?_
  refine lv_iconst (v := nI 1) hx hb dL_law_1362 (by decide) ?_
  refine lv_iadd hx hb dL_law_1363 ?_
  refine lv_ton (n := i9 + 1) (nadd (by omega)) ?_
  refine va_sld hx hb hX9 hbl hbA hS (i := nI (i9 + 1)) (vp9 (by omega) hL96) dL_law_1364 ?_
  refine W.eq (g2 := F0 m 1365 ls [.int (sx9 xs (i9 + 1)), .ref m0]) rfl ?_
  refine lv_aload_n hx hb dL_law_1365 rfl (lv_at hl 1 rfl) ?_
  refine lv_iload hx hb dL_law_1366 (lv_at hl 6 rfl) ?_
  refine lv_iconst (v := nI 2) hx hb dL_law_1368 (by decide) ?_
  refine lv_iadd hx hb dL_law_1369 ?_
  refine lv_ton (n := i9 + 2) (nadd (by omega)) ?_
  refine va_sld hx hb hX9 hbl hbA hS (i := nI (i9 + 2)) (vp9 (by omega) hL96) dL_law_1370 ?_
  refine W.eq (g2 := F0 m 1371 ls [.int (sx9 xs (i9 + 2)), .int (sx9 xs (i9 + 1)), .ref m0]) rfl ?_
  have hpm_4167 : (([(oD, .inl (G.2 6, 1, .inr (.inr (.inr (.inl og))))), (o, .inl (G.2 5, 1, .inr (.inl of2_4161)))] ++ (WM ++ (W2_4162 ++ []))) : va_W).Perm ((WM ++ []) ++ ([(oD, .inl (G.2 6, 1, .inr (.inr (.inr (.inl og))))), (o, .inl (G.2 5, 1, .inr (.inl of2_4161)))] ++ (W2_4162 ++ []))) := segs_perm [[(oD, .inl (G.2 6, 1, .inr (.inr (.inr (.inl og)))))], [(o, .inl (G.2 5, 1, .inr (.inl of2_4161)))], WM, W2_4162] [2] [0, 1, 3] rfl
  have hF := hF_ofP (wc := (WM ++ [])) hD hS hA hpm_4167
  refine go_ctP hS hP hD hpm_4167 hF
      (va_runV (As := [.int (sx9 xs (i9 + 1)), .int (sx9 xs (i9 + 2))]) (rest := []) cf (eX4_minutesInZone l G m0 M th WM (sx9 xs (i9 + 1)) (sx9 xs (i9 + 2)) (hMd) (hIm) H.size) (cwV 2 hts (lw_V q1783 q1784 q1785 q58 q1786) rfl rfl rfl (by decide +kernel) ⟨Nat.le_of_ble_eq_true rfl, Nat.le_of_ble_eq_true rfl⟩) (preV_of hKB hE hS hF (MdW.recv hK hMd (seg_at [[(oD, .inl (G.2 6, 1, .inr (.inr (.inr (.inl og)))))], [(o, .inl (G.2 5, 1, .inr (.inl of2_4161)))], WM, W2_4162] 2 rfl hP)) (P_left (P_perm hpm_4167 hP)) ((D_left (D_perm hpm_4167 hD)).weaken (fun _ _ _ _ => trivial)) trivial) rfl rfl hl.1 rfl (lv_room (Nat.le_of_ble_eq_true rfl)) dL_law_1371 ⟨show cl + 4 + 0 ≤ 1200144 from by first | decide | omega, show sl + 20 + 0 ≤ 5495674 from by first | decide | omega⟩)
      (fun u_ H locs hq hph (hP : va_P G.1 CL (([(oD, .inl (G.2 6, 1, .inr (.inr (.inr (.inl og))))), (o, .inl (G.2 5, 1, .inr (.inl of2_4161)))] ++ (W2_4162 ++ [])) ++ (u_.2 ++ [])) H) (hD : va_D A (([(oD, .inl (G.2 6, 1, .inr (.inr (.inr (.inl og))))), (o, .inl (G.2 5, 1, .inr (.inl of2_4161)))] ++ (W2_4162 ++ [])) ++ (u_.2 ++ []))) hS hfz hfk => ?_)
  obtain ⟨rr_4168, W2_4169⟩ := u_
  obtain ⟨hq_4170, hq_4171⟩ : ((q_minZ (dC M) (sx9 xs (i9 + 1)) (sx9 xs (i9 + 2))).1 = 0 → rr_4168 = (q_minZ (dC M) (sx9 xs (i9 + 1)) (sx9 xs (i9 + 2))).2) ∧ MdW G m0 M (q_minZ (dC M) (sx9 xs (i9 + 1)) (sx9 xs (i9 + 2))).1 W2_4169 := hq
  have hpm_4172 : (([(oD, .inl (G.2 6, 1, .inr (.inr (.inr (.inl og))))), (o, .inl (G.2 5, 1, .inr (.inl of2_4161)))] ++ (W2_4162 ++ [])) ++ (W2_4169 ++ []) : va_W).Perm ([(oD, .inl (G.2 6, 1, .inr (.inr (.inr (.inl og))))), (o, .inl (G.2 5, 1, .inr (.inl of2_4161)))] ++ (W2_4162 ++ (W2_4169 ++ []))) := segs_perm2 [[(oD, .inl (G.2 6, 1, .inr (.inr (.inr (.inl og)))))], [(o, .inl (G.2 5, 1, .inr (.inl of2_4161)))], W2_4162] [W2_4169] [0, 1, 2, 3] rfl
  have hP : va_P G.1 CL ([(oD, .inl (G.2 6, 1, .inr (.inr (.inr (.inl og))))), (o, .inl (G.2 5, 1, .inr (.inl of2_4161)))] ++ (W2_4162 ++ (W2_4169 ++ []))) H := P_perm hpm_4172 hP
  have hD : va_D A ([(oD, .inl (G.2 6, 1, .inr (.inr (.inr (.inl og))))), (o, .inl (G.2 5, 1, .inr (.inl of2_4161)))] ++ (W2_4162 ++ (W2_4169 ++ []))) := D_perm hpm_4172 hD
  refine W.eq (g2 := F0 m 1374 ls [.int rr_4168]) rfl ?_
  refine lv_istore (lv' := [(7, .int rr_4168), (6, .int (nI ((q_minZ (dC C) (sx9 xs (i9 + 1)) (sx9 xs (i9 + 2))).1))), (0, .ref b), (1, .ref d), (2, .ref m0), (3, .ref o), (4, .ref oD), (5, .int (nI i9))]) hx hb dL_law_1374 hl (by decide) rfl (fun ls hl => ?_)
  refine lv_aload_n hx hb dL_law_1376 rfl (lv_at hl 4 rfl) ?_
  have hpm_4173 : (([(oD, .inl (G.2 6, 1, .inr (.inr (.inr (.inl og))))), (o, .inl (G.2 5, 1, .inr (.inl of2_4161)))] ++ (W2_4162 ++ (W2_4169 ++ []))) : va_W).Perm ([] ++ ([(oD, .inl (G.2 6, 1, .inr (.inr (.inr (.inl og))))), (o, .inl (G.2 5, 1, .inr (.inl of2_4161)))] ++ (W2_4162 ++ (W2_4169 ++ [])))) := segs_perm [[(oD, .inl (G.2 6, 1, .inr (.inr (.inr (.inl og)))))], [(o, .inl (G.2 5, 1, .inr (.inl of2_4161)))], W2_4162, W2_4169] [] [0, 1, 2, 3] rfl
  have hF := hF_ofP (wc := []) hD hS hA hpm_4173
  refine go_ctP hS hP hD hpm_4173 hF
      (va_runV (As := []) (rest := []) cf (eX4_thrown l G m0 M (((q_minZ (dC M) id z)).1) W2_4169 (hq_4171) H.size) (cwV 0 hts (lw_V q1639 q1640 q1641 q58 q1642) rfl rfl rfl (by decide +kernel) ⟨Nat.le_of_ble_eq_true rfl, Nat.le_of_ble_eq_true rfl⟩) (preV_of hKB hE hS hF (MdW.recv hK hq_4171 (seg_at [[(oD, .inl (G.2 6, 1, .inr (.inr (.inr (.inl og)))))], [(o, .inl (G.2 5, 1, .inr (.inl of2_4161)))], W2_4162, W2_4169] 3 rfl hP)) (P_left (P_perm hpm_4173 hP)) ((D_left (D_perm hpm_4173 hD)).weaken (fun _ _ _ _ => trivial)) (roW.nil (seg_at [[(oD, .inl (G.2 6, 1, .inr (.inr (.inr (.inl og)))))], [(o, .inl (G.2 5, 1, .inr (.inl of2_4161)))], W2_4162, W2_4169] 3 rfl hP))) rfl rfl hl.1 rfl (lv_room (Nat.le_of_ble_eq_true rfl)) dL_law_1377 ⟨show cl + 4 + 0 ≤ 1200144 from by first | decide | omega, show sl + 20 + 0 ≤ 5495674 from by first | decide | omega⟩)
      (fun u_ H locs hq hph (hP : va_P G.1 CL (([(oD, .inl (G.2 6, 1, .inr (.inr (.inr (.inl og))))), (o, .inl (G.2 5, 1, .inr (.inl of2_4161)))] ++ (W2_4162 ++ (W2_4169 ++ []))) ++ []) H) (hD : va_D A (([(oD, .inl (G.2 6, 1, .inr (.inr (.inr (.inl og))))), (o, .inl (G.2 5, 1, .inr (.inl of2_4161)))] ++ (W2_4162 ++ (W2_4169 ++ []))) ++ [])) hS hfz hfk => ?_)
  have hpm_4174 : (([(oD, .inl (G.2 6, 1, .inr (.inr (.inr (.inl og))))), (o, .inl (G.2 5, 1, .inr (.inl of2_4161)))] ++ (W2_4162 ++ (W2_4169 ++ []))) ++ [] : va_W).Perm ([(oD, .inl (G.2 6, 1, .inr (.inr (.inr (.inl og))))), (o, .inl (G.2 5, 1, .inr (.inl of2_4161)))] ++ (W2_4162 ++ (W2_4169 ++ []))) := segs_perm2 [[(oD, .inl (G.2 6, 1, .inr (.inr (.inr (.inl og)))))], [(o, .inl (G.2 5, 1, .inr (.inl of2_4161)))], W2_4162, W2_4169] [] [0, 1, 2, 3] rfl
  have hP : va_P G.1 CL ([(oD, .inl (G.2 6, 1, .inr (.inr (.inr (.inl og))))), (o, .inl (G.2 5, 1, .inr (.inl of2_4161)))] ++ (W2_4162 ++ (W2_4169 ++ []))) H := P_perm hpm_4174 hP
  have hD : va_D A ([(oD, .inl (G.2 6, 1, .inr (.inr (.inr (.inl og))))), (o, .inl (G.2 5, 1, .inr (.inl of2_4161)))] ++ (W2_4162 ++ (W2_4169 ++ []))) := D_perm hpm_4174 hD
  refine W.eq (g2 := F0 m 1380 ls [.int (nI (((q_minZ (dC M) id z)).1))]) rfl ?_
  refine lv_ton (n := ((q_minZ (dC C) (sx9 xs (i9 + 1)) (sx9 xs (i9 + 2))).1)) (congrArg nI (by rw [hqs])) ?_
  refine lv_iload hx hb dL_law_1380 (lv_at hl 1 rfl) ?_
  refine lv_icmp_eq (tgt := 1387) hx hb dL_law_1382 (by decide) (fun _ => ?_) (fun c9 => absurd rfl c9)
  refine lv_iload hx hb dL_law_1387 (lv_at hl 1 rfl) ?_
  refine n_if_ne (tgt := 1404) hx hb (by omega) dL_law_1389 (by decide) (fun c_4175 => ?_) (fun c_4175 => ?_)
  · refine lv_goto (tgt := 2788) hx hb dL_law_1404 (by decide) ?_
    have hpm_4176 : (([(oD, .inl (G.2 6, 1, .inr (.inr (.inr (.inl og))))), (o, .inl (G.2 5, 1, .inr (.inl of2_4161)))] ++ (W2_4162 ++ (W2_4169 ++ []))) : va_W).Perm (([(o, .inl (G.2 5, 1, .inr (.inl of2_4161))), (oD, .inl (G.2 6, 1, .inr (.inr (.inr (.inl og)))))] ++ (W2_4162 ++ (W2_4169 ++ []))) ++ []) := segs_perm [[(oD, .inl (G.2 6, 1, .inr (.inr (.inr (.inl og)))))], [(o, .inl (G.2 5, 1, .inr (.inl of2_4161)))], W2_4162, W2_4169] [1, 0, 2, 3] [] rfl
    have hP : va_P G.1 CL ([(o, .inl (G.2 5, 1, .inr (.inl of2_4161))), (oD, .inl (G.2 6, 1, .inr (.inr (.inr (.inl og)))))] ++ (W2_4162 ++ (W2_4169 ++ []))) H := P_left (P_perm hpm_4176 hP)
    have hD : va_D A ([(o, .inl (G.2 5, 1, .inr (.inl of2_4161))), (oD, .inl (G.2 6, 1, .inr (.inr (.inr (.inl og)))))] ++ (W2_4162 ++ (W2_4169 ++ []))) := D_left (D_perm hpm_4176 hD)
    have hl := lv_sub hl [2, 3, 4, 5, 6, 7] (l' := [(0, .ref b), (1, .ref d), (2, .ref m0), (3, .ref o), (4, .ref oD), (5, .int (nI i9))]) rfl
    exact W.widen (show cl + 4 ≤ cl + 20000 from by omega) (show sl + 20 ≤ sl + 45000 from by omega) (kk ls H locs C M (((q_minZ (dC M) id z)).1) W2_4162 W2_4169 of2_4161 og hP hD hS hl hq_4165 hq_4171 hLw.up)
  · refine lv_aload_n hx hb dL_law_1392 rfl (lv_at hl 5 rfl) ?_
    refine lv_iconst (v := nI 0) hx hb dL_law_1393 (by decide) ?_
    refine r_lald (v := (((q_minZ (dC C) (sx9 xs (i9 + 1)) (sx9 xs (i9 + 2)))).2).toInt64) hx hb hK hP 1 5 rfl rfl (i := 0) (by omega) (by omega) ((hq_4163 (by omega))) dL_law_1394 ?_
    refine lv_iload hx hb dL_law_1395 (lv_at hl 0 rfl) ?_
    refine lv_toi (y := ((q_minZ (dC C) (sx9 xs (i9 + 1)) (sx9 xs (i9 + 2)))).2) ((hq_4170 (by rw [hqs]; omega)).trans (by rw [hqs])) ?_
    refine lv_i2l (v := (((q_minZ (dC C) (sx9 xs (i9 + 1)) (sx9 xs (i9 + 2)))).2).toInt64) hx hb dL_law_1397 rfl ?_
    refine W.lcmp hx hb dL_law_1398 ?_
    refine lv_ton (n := 0) (lcmp0 _) ?_
    refine n_if_eq (tgt := 1404) hx hb (by omega) dL_law_1399 (by decide) (fun c_4177 => ?_) (fun c_4177 => absurd c_4177 (by omega))
    refine lv_goto (tgt := 2788) hx hb dL_law_1404 (by decide) ?_
    have hpm_4178 : (([(oD, .inl (G.2 6, 1, .inr (.inr (.inr (.inl og))))), (o, .inl (G.2 5, 1, .inr (.inl of2_4161)))] ++ (W2_4162 ++ (W2_4169 ++ []))) : va_W).Perm (([(o, .inl (G.2 5, 1, .inr (.inl of2_4161))), (oD, .inl (G.2 6, 1, .inr (.inr (.inr (.inl og)))))] ++ (W2_4162 ++ (W2_4169 ++ []))) ++ []) := segs_perm [[(oD, .inl (G.2 6, 1, .inr (.inr (.inr (.inl og)))))], [(o, .inl (G.2 5, 1, .inr (.inl of2_4161)))], W2_4162, W2_4169] [1, 0, 2, 3] [] rfl
    have hP : va_P G.1 CL ([(o, .inl (G.2 5, 1, .inr (.inl of2_4161))), (oD, .inl (G.2 6, 1, .inr (.inr (.inr (.inl og)))))] ++ (W2_4162 ++ (W2_4169 ++ []))) H := P_left (P_perm hpm_4178 hP)
    have hD : va_D A ([(o, .inl (G.2 5, 1, .inr (.inl of2_4161))), (oD, .inl (G.2 6, 1, .inr (.inr (.inr (.inl og)))))] ++ (W2_4162 ++ (W2_4169 ++ []))) := D_left (D_perm hpm_4178 hD)
    have hl := lv_sub hl [2, 3, 4, 5, 6, 7] (l' := [(0, .ref b), (1, .ref d), (2, .ref m0), (3, .ref o), (4, .ref oD), (5, .int (nI i9))]) rfl
    exact W.widen (show cl + 4 ≤ cl + 20000 from by omega) (show sl + 20 ≤ sl + 45000 from by omega) (kk ls H locs C M (((q_minZ (dC M) id z)).1) W2_4162 W2_4169 of2_4161 og hP hD hS hl hq_4165 hq_4171 hLw.up)

set_option maxHeartbeats 4000000 in
theorem lawK_21 {p : Program} {l : Launch} {e : Env} {s : State} {m : MethodId} {below : List Frame} {meth : Method} {c : Code} {G : Gt} {A : Nat → Prop} {b L : Nat} {xs : Nat → Int32} {Q : State → Prop} {d m0 o oD i9 N cl sl : Nat} (hfl : l.stackTraces = false) (F : LwF G A p s m c b L xs) (hi9 : i9 + 4 ≤ L) (hN24 : N ≤ 24) (hcl : cl + 20000 ≤ 1200144) (hsl : sl + 45000 ≤ 5495674) (kk : ∀ (ls : Array Slot) (H : Heap) (locs : List Loc) (C M : DS) (th : Nat) (WD WM : va_W) (of : Nat → Int64) (og : Nat → UInt64), va_P G.1 CL ([(o, .inl (G.2 5, 1, .inr (.inl of))), (oD, .inl (G.2 6, 1, .inr (.inr (.inr (.inl og)))))] ++ (WD ++ (WM ++ []))) H → va_D A ([(o, .inl (G.2 5, 1, .inr (.inl of))), (oD, .inl (G.2 6, 1, .inr (.inr (.inr (.inl og)))))] ++ (WD ++ (WM ++ []))) → va_S A s.heap H locs → lv_has ls 10 [(0, .ref b), (1, .ref d), (2, .ref m0), (3, .ref o), (4, .ref oD), (5, .int (nI i9))] → DyW G d C WD → MdW G m0 M th WM → LawI C M (N + 1) → W p l e room_1 s m #[Value.ref b] below meth c H locs (cl + 20000) (sl + 45000) Q (F0 m 2788 ls [])) {ls : Array Slot} {H : Heap} {locs : List Loc} {C M : DS} {th : Nat} {WD WM : va_W} {of : Nat → Int64} {og : Nat → UInt64} (hP : va_P G.1 CL ([(o, .inl (G.2 5, 1, .inr (.inl of))), (oD, .inl (G.2 6, 1, .inr (.inr (.inr (.inl og)))))] ++ (WD ++ (WM ++ []))) H) (hD : va_D A ([(o, .inl (G.2 5, 1, .inr (.inl of))), (oD, .inl (G.2 6, 1, .inr (.inr (.inr (.inl og)))))] ++ (WD ++ (WM ++ [])))) (hS : va_S A s.heap H locs) (hl : lv_has ls 10 [(0, .ref b), (1, .ref d), (2, .ref m0), (3, .ref o), (4, .ref oD), (5, .int (nI i9))]) (hDy : DyW G d C WD) (hMd : MdW G m0 M th WM) (hLw : LawI C M N) : W p l e room_1 s m #[Value.ref b] below meth c H locs cl sl Q (F0 m 1407 ls []) := by
  obtain ⟨cf, hKB, hE, hA, hX9, hbl, hbA, hNc, hL96⟩ := F
  have hx := cf.1
  have hb := cf.2.1
  have hml := cf.2.2.1
  have hown : s.vm.findClass RX0 = some m.cls := cf.2.2.2.1
  have hts := cf.2.2.2.2
  have hK := hKB.1
  have hIc := hDy.inv.1
  have hIm : Inv (dC M) := Inv_sim hLw.1 hIc
  have hRk : RkOk (dC M) := RkOk_sim hLw.1 (RkOk_srt hDy.inv.2.2)
  have hl := hl
  refine lv_aload_n hx hb dL_law_1407 rfl (lv_at hl 1 rfl) ?_
  refine lv_aload_n hx hb dL_law_1408 rfl (lv_at hl 0 rfl) ?_
  refine lv_iload hx hb dL_law_1409 (lv_at hl 5 rfl) ?_
  refine lv_iconst (v := nI 1) hx hb dL_law_1411 (by decide) ?_
  refine lv_iadd hx hb dL_law_1412 ?_
  refine lv_ton (n := i9 + 1) (nadd (by omega)) ?_
  refine va_sld hx hb hX9 hbl hbA hS (i := nI (i9 + 1)) (vp9 (by omega) hL96) dL_law_1413 ?_
  refine W.eq (g2 := F0 m 1414 ls [.int (sx9 xs (i9 + 1)), .ref d]) rfl ?_
  refine lv_aload_n hx hb dL_law_1414 rfl (lv_at hl 3 rfl) ?_
  have hpm_4179 : (([(o, .inl (G.2 5, 1, .inr (.inl of))), (oD, .inl (G.2 6, 1, .inr (.inr (.inr (.inl og)))))] ++ (WD ++ (WM ++ []))) : va_W).Perm (([(o, .inl (G.2 5, 1, .inr (.inl of)))] ++ (WD ++ [])) ++ ([(oD, .inl (G.2 6, 1, .inr (.inr (.inr (.inl og)))))] ++ (WM ++ []))) := segs_perm [[(o, .inl (G.2 5, 1, .inr (.inl of)))], [(oD, .inl (G.2 6, 1, .inr (.inr (.inr (.inl og)))))], WD, WM] [0, 2] [1, 3] rfl
  have hF := hF_ofP (wc := ([(o, .inl (G.2 5, 1, .inr (.inl of)))] ++ (WD ++ []))) hD hS hA hpm_4179
  refine go_ctP hS hP hD hpm_4179 hF
      (vx_runSW (As := [.ref d, .int (sx9 xs (i9 + 1)), .ref o]) (rest := []) cf (wX0_loadOf l G d C WD o of (sx9 xs (i9 + 1)) (hDy) hfl H.size) (vx_cwSW 3 hts (lw_SW q1256 q1257 q46 q1258) rfl rfl rfl (by decide +kernel) ⟨Nat.le_of_ble_eq_true rfl, Nat.le_of_ble_eq_true rfl⟩) (preS_ofW hNc hKB hE hS hF (P_left (P_perm hpm_4179 hP)) ((D_left (D_perm hpm_4179 hD)).weaken (fun _ _ _ _ => trivial)) trivial) rfl rfl hl.1 rfl (lv_room (Nat.le_of_ble_eq_true rfl)) dL_law_1415 ⟨show cl + 3 ≤ 1200144 from by first | decide | omega, show sl + 12 ≤ 5495674 from by first | decide | omega⟩)
      (fun u_ H locs hq hph (hP : va_P G.1 CL (([(oD, .inl (G.2 6, 1, .inr (.inr (.inr (.inl og)))))] ++ (WM ++ [])) ++ ([(o, .inl (G.2 5, 1, .inr (.inl u_.1)))] ++ (u_.2 ++ []))) H) (hD : va_D A (([(oD, .inl (G.2 6, 1, .inr (.inr (.inr (.inl og)))))] ++ (WM ++ [])) ++ ([(o, .inl (G.2 5, 1, .inr (.inl u_.1)))] ++ (u_.2 ++ [])))) hS hfz hfk => ?_)
  obtain ⟨of2_4180, W2_4181⟩ := u_
  obtain ⟨hq_4182, hq_4183, hq_4184⟩ : ((q_loadOf (dC C) (sx9 xs (i9 + 1))).1 = 0 → of2_4180 0 = ((q_loadOf (dC C) (sx9 xs (i9 + 1))).2).toInt64) ∧ (q_loadOf (dC C) (sx9 xs (i9 + 1))).1 < 10 ∧ DyW G d C W2_4181 := hq
  have hpm_4185 : (([(oD, .inl (G.2 6, 1, .inr (.inr (.inr (.inl og)))))] ++ (WM ++ [])) ++ ([(o, .inl (G.2 5, 1, .inr (.inl of2_4180)))] ++ (W2_4181 ++ [])) : va_W).Perm ([(oD, .inl (G.2 6, 1, .inr (.inr (.inr (.inl og))))), (o, .inl (G.2 5, 1, .inr (.inl of2_4180)))] ++ (WM ++ (W2_4181 ++ []))) := segs_perm2 [[(oD, .inl (G.2 6, 1, .inr (.inr (.inr (.inl og)))))], WM] [[(o, .inl (G.2 5, 1, .inr (.inl of2_4180)))], W2_4181] [0, 2, 1, 3] rfl
  have hP : va_P G.1 CL ([(oD, .inl (G.2 6, 1, .inr (.inr (.inr (.inl og))))), (o, .inl (G.2 5, 1, .inr (.inl of2_4180)))] ++ (WM ++ (W2_4181 ++ []))) H := P_perm hpm_4185 hP
  have hD : va_D A ([(oD, .inl (G.2 6, 1, .inr (.inr (.inr (.inl og))))), (o, .inl (G.2 5, 1, .inr (.inl of2_4180)))] ++ (WM ++ (W2_4181 ++ []))) := D_perm hpm_4185 hD
  refine W.eq (g2 := F0 m 1418 ls [.int (nI ((q_loadOf (dC C) (sx9 xs (i9 + 1))).1))]) rfl ?_
  have hqs : (q_loadOf (dC M) id) = (q_loadOf (dC C) (sx9 xs (i9 + 1))) := q_loadOf_sim hLw.1.symm hIm (sx9 xs (i9 + 1))
  refine lv_istore (lv' := [(6, .int (nI ((q_loadOf (dC C) (sx9 xs (i9 + 1))).1))), (0, .ref b), (1, .ref d), (2, .ref m0), (3, .ref o), (4, .ref oD), (5, .int (nI i9))]) hx hb dL_law_1418 hl (by decide) rfl (fun ls hl => ?_)
  refine lv_aload_n hx hb dL_law_1420 rfl (lv_at hl 3 rfl) ?_
  refine lv_aload_n hx hb dL_law_1421 rfl (lv_at hl 1 rfl) ?_
  refine lv_iload hx hb dL_law_1422 (lv_at hl 6 rfl) ?_
  refine lv_iconst (v := nI 1) hx hb dL_law_1424 (by decide) ?_
  refine lv_iadd hx hb dL_law_1425 ?_
  refine lv_ton (n := i9 + 1) (nadd (by omega)) ?_
  refine va_sld hx hb hX9 hbl hbA hS (i := nI (i9 + 1)) (vp9 (by omega) hL96) dL_law_1426 ?_
  refine W.eq (g2 := F0 m 1427 ls [.int (sx9 xs (i9 + 1)), .ref m0]) rfl ?_
  have hpm_4186 : (([(oD, .inl (G.2 6, 1, .inr (.inr (.inr (.inl og))))), (o, .inl (G.2 5, 1, .inr (.inl of2_4180)))] ++ (WM ++ (W2_4181 ++ []))) : va_W).Perm ((WM ++ []) ++ ([(oD, .inl (G.2 6, 1, .inr (.inr (.inr (.inl og))))), (o, .inl (G.2 5, 1, .inr (.inl of2_4180)))] ++ (W2_4181 ++ []))) := segs_perm [[(oD, .inl (G.2 6, 1, .inr (.inr (.inr (.inl og)))))], [(o, .inl (G.2 5, 1, .inr (.inl of2_4180)))], WM, W2_4181] [2] [0, 1, 3] rfl
  have hF := hF_ofP (wc := (WM ++ [])) hD hS hA hpm_4186
  refine go_ctP hS hP hD hpm_4186 hF
      (va_runV (As := [.int (sx9 xs (i9 + 1))]) (rest := []) cf (eX4_loadOf l G m0 M th WM (sx9 xs (i9 + 1)) (hMd) (hIm) H.size) (cwV 1 hts (lw_V q1787 q1788 q1789 q58 q1790) rfl rfl rfl (by decide +kernel) ⟨Nat.le_of_ble_eq_true rfl, Nat.le_of_ble_eq_true rfl⟩) (preV_of hKB hE hS hF (MdW.recv hK hMd (seg_at [[(oD, .inl (G.2 6, 1, .inr (.inr (.inr (.inl og)))))], [(o, .inl (G.2 5, 1, .inr (.inl of2_4180)))], WM, W2_4181] 2 rfl hP)) (P_left (P_perm hpm_4186 hP)) ((D_left (D_perm hpm_4186 hD)).weaken (fun _ _ _ _ => trivial)) trivial) rfl rfl hl.1 rfl (lv_room (Nat.le_of_ble_eq_true rfl)) dL_law_1427 ⟨show cl + 3 + 0 ≤ 1200144 from by first | decide | omega, show sl + 12 + 0 ≤ 5495674 from by first | decide | omega⟩)
      (fun u_ H locs hq hph (hP : va_P G.1 CL (([(oD, .inl (G.2 6, 1, .inr (.inr (.inr (.inl og))))), (o, .inl (G.2 5, 1, .inr (.inl of2_4180)))] ++ (W2_4181 ++ [])) ++ (u_.2 ++ [])) H) (hD : va_D A (([(oD, .inl (G.2 6, 1, .inr (.inr (.inr (.inl og))))), (o, .inl (G.2 5, 1, .inr (.inl of2_4180)))] ++ (W2_4181 ++ [])) ++ (u_.2 ++ []))) hS hfz hfk => ?_)
  obtain ⟨rr_4187, W2_4188⟩ := u_
  obtain ⟨hq_4189, hq_4190⟩ : ((q_loadOf (dC M) (sx9 xs (i9 + 1))).1 = 0 → rr_4187 = (q_loadOf (dC M) (sx9 xs (i9 + 1))).2) ∧ MdW G m0 M (q_loadOf (dC M) (sx9 xs (i9 + 1))).1 W2_4188 := hq
  have hpm_4191 : (([(oD, .inl (G.2 6, 1, .inr (.inr (.inr (.inl og))))), (o, .inl (G.2 5, 1, .inr (.inl of2_4180)))] ++ (W2_4181 ++ [])) ++ (W2_4188 ++ []) : va_W).Perm ([(oD, .inl (G.2 6, 1, .inr (.inr (.inr (.inl og))))), (o, .inl (G.2 5, 1, .inr (.inl of2_4180)))] ++ (W2_4181 ++ (W2_4188 ++ []))) := segs_perm2 [[(oD, .inl (G.2 6, 1, .inr (.inr (.inr (.inl og)))))], [(o, .inl (G.2 5, 1, .inr (.inl of2_4180)))], W2_4181] [W2_4188] [0, 1, 2, 3] rfl
  have hP : va_P G.1 CL ([(oD, .inl (G.2 6, 1, .inr (.inr (.inr (.inl og))))), (o, .inl (G.2 5, 1, .inr (.inl of2_4180)))] ++ (W2_4181 ++ (W2_4188 ++ []))) H := P_perm hpm_4191 hP
  have hD : va_D A ([(oD, .inl (G.2 6, 1, .inr (.inr (.inr (.inl og))))), (o, .inl (G.2 5, 1, .inr (.inl of2_4180)))] ++ (W2_4181 ++ (W2_4188 ++ []))) := D_perm hpm_4191 hD
  refine W.eq (g2 := F0 m 1430 ls [.int rr_4187]) rfl ?_
  refine lv_istore (lv' := [(7, .int rr_4187), (6, .int (nI ((q_loadOf (dC C) (sx9 xs (i9 + 1))).1))), (0, .ref b), (1, .ref d), (2, .ref m0), (3, .ref o), (4, .ref oD), (5, .int (nI i9))]) hx hb dL_law_1430 hl (by decide) rfl (fun ls hl => ?_)
  refine lv_aload_n hx hb dL_law_1432 rfl (lv_at hl 4 rfl) ?_
  have hpm_4192 : (([(oD, .inl (G.2 6, 1, .inr (.inr (.inr (.inl og))))), (o, .inl (G.2 5, 1, .inr (.inl of2_4180)))] ++ (W2_4181 ++ (W2_4188 ++ []))) : va_W).Perm ([] ++ ([(oD, .inl (G.2 6, 1, .inr (.inr (.inr (.inl og))))), (o, .inl (G.2 5, 1, .inr (.inl of2_4180)))] ++ (W2_4181 ++ (W2_4188 ++ [])))) := segs_perm [[(oD, .inl (G.2 6, 1, .inr (.inr (.inr (.inl og)))))], [(o, .inl (G.2 5, 1, .inr (.inl of2_4180)))], W2_4181, W2_4188] [] [0, 1, 2, 3] rfl
  have hF := hF_ofP (wc := []) hD hS hA hpm_4192
  refine go_ctP hS hP hD hpm_4192 hF
      (va_runV (As := []) (rest := []) cf (eX4_thrown l G m0 M (((q_loadOf (dC M) id)).1) W2_4188 (hq_4190) H.size) (cwV 0 hts (lw_V q1639 q1640 q1641 q58 q1642) rfl rfl rfl (by decide +kernel) ⟨Nat.le_of_ble_eq_true rfl, Nat.le_of_ble_eq_true rfl⟩) (preV_of hKB hE hS hF (MdW.recv hK hq_4190 (seg_at [[(oD, .inl (G.2 6, 1, .inr (.inr (.inr (.inl og)))))], [(o, .inl (G.2 5, 1, .inr (.inl of2_4180)))], W2_4181, W2_4188] 3 rfl hP)) (P_left (P_perm hpm_4192 hP)) ((D_left (D_perm hpm_4192 hD)).weaken (fun _ _ _ _ => trivial)) (roW.nil (seg_at [[(oD, .inl (G.2 6, 1, .inr (.inr (.inr (.inl og)))))], [(o, .inl (G.2 5, 1, .inr (.inl of2_4180)))], W2_4181, W2_4188] 3 rfl hP))) rfl rfl hl.1 rfl (lv_room (Nat.le_of_ble_eq_true rfl)) dL_law_1433 ⟨show cl + 3 + 0 ≤ 1200144 from by first | decide | omega, show sl + 12 + 0 ≤ 5495674 from by first | decide | omega⟩)
      (fun u_ H locs hq hph (hP : va_P G.1 CL (([(oD, .inl (G.2 6, 1, .inr (.inr (.inr (.inl og))))), (o, .inl (G.2 5, 1, .inr (.inl of2_4180)))] ++ (W2_4181 ++ (W2_4188 ++ []))) ++ []) H) (hD : va_D A (([(oD, .inl (G.2 6, 1, .inr (.inr (.inr (.inl og))))), (o, .inl (G.2 5, 1, .inr (.inl of2_4180)))] ++ (W2_4181 ++ (W2_4188 ++ []))) ++ [])) hS hfz hfk => ?_)
  have hpm_4193 : (([(oD, .inl (G.2 6, 1, .inr (.inr (.inr (.inl og))))), (o, .inl (G.2 5, 1, .inr (.inl of2_4180)))] ++ (W2_4181 ++ (W2_4188 ++ []))) ++ [] : va_W).Perm ([(oD, .inl (G.2 6, 1, .inr (.inr (.inr (.inl og))))), (o, .inl (G.2 5, 1, .inr (.inl of2_4180)))] ++ (W2_4181 ++ (W2_4188 ++ []))) := segs_perm2 [[(oD, .inl (G.2 6, 1, .inr (.inr (.inr (.inl og)))))], [(o, .inl (G.2 5, 1, .inr (.inl of2_4180)))], W2_4181, W2_4188] [] [0, 1, 2, 3] rfl
  have hP : va_P G.1 CL ([(oD, .inl (G.2 6, 1, .inr (.inr (.inr (.inl og))))), (o, .inl (G.2 5, 1, .inr (.inl of2_4180)))] ++ (W2_4181 ++ (W2_4188 ++ []))) H := P_perm hpm_4193 hP
  have hD : va_D A ([(oD, .inl (G.2 6, 1, .inr (.inr (.inr (.inl og))))), (o, .inl (G.2 5, 1, .inr (.inl of2_4180)))] ++ (W2_4181 ++ (W2_4188 ++ []))) := D_perm hpm_4193 hD
  refine W.eq (g2 := F0 m 1436 ls [.int (nI (((q_loadOf (dC M) id)).1))]) rfl ?_
  refine lv_ton (n := ((q_loadOf (dC C) (sx9 xs (i9 + 1))).1)) (congrArg nI (by rw [hqs])) ?_
  refine lv_iload hx hb dL_law_1436 (lv_at hl 1 rfl) ?_
  refine lv_icmp_eq (tgt := 1443) hx hb dL_law_1438 (by decide) (fun _ => ?_) (fun c9 => absurd rfl c9)
  refine lv_iload hx hb dL_law_1443 (lv_at hl 1 rfl) ?_
  refine n_if_ne (tgt := 1460) hx hb (by omega) dL_law_1445 (by decide) (fun c_4194 => ?_) (fun c_4194 => ?_)
  · refine lv_goto (tgt := 2788) hx hb dL_law_1460 (by decide) ?_
    have hpm_4195 : (([(oD, .inl (G.2 6, 1, .inr (.inr (.inr (.inl og))))), (o, .inl (G.2 5, 1, .inr (.inl of2_4180)))] ++ (W2_4181 ++ (W2_4188 ++ []))) : va_W).Perm (([(o, .inl (G.2 5, 1, .inr (.inl of2_4180))), (oD, .inl (G.2 6, 1, .inr (.inr (.inr (.inl og)))))] ++ (W2_4181 ++ (W2_4188 ++ []))) ++ []) := segs_perm [[(oD, .inl (G.2 6, 1, .inr (.inr (.inr (.inl og)))))], [(o, .inl (G.2 5, 1, .inr (.inl of2_4180)))], W2_4181, W2_4188] [1, 0, 2, 3] [] rfl
    have hP : va_P G.1 CL ([(o, .inl (G.2 5, 1, .inr (.inl of2_4180))), (oD, .inl (G.2 6, 1, .inr (.inr (.inr (.inl og)))))] ++ (W2_4181 ++ (W2_4188 ++ []))) H := P_left (P_perm hpm_4195 hP)
    have hD : va_D A ([(o, .inl (G.2 5, 1, .inr (.inl of2_4180))), (oD, .inl (G.2 6, 1, .inr (.inr (.inr (.inl og)))))] ++ (W2_4181 ++ (W2_4188 ++ []))) := D_left (D_perm hpm_4195 hD)
    have hl := lv_sub hl [2, 3, 4, 5, 6, 7] (l' := [(0, .ref b), (1, .ref d), (2, .ref m0), (3, .ref o), (4, .ref oD), (5, .int (nI i9))]) rfl
    exact W.widen (show cl + 3 ≤ cl + 20000 from by omega) (show sl + 12 ≤ sl + 45000 from by omega) (kk ls H locs C M (((q_loadOf (dC M) id)).1) W2_4181 W2_4188 of2_4180 og hP hD hS hl hq_4184 hq_4190 hLw.up)
  · refine lv_aload_n hx hb dL_law_1448 rfl (lv_at hl 5 rfl) ?_
    refine lv_iconst (v := nI 0) hx hb dL_law_1449 (by decide) ?_
    refine r_lald (v := (((q_loadOf (dC C) (sx9 xs (i9 + 1)))).2).toInt64) hx hb hK hP 1 5 rfl rfl (i := 0) (by omega) (by omega) ((hq_4182 (by omega))) dL_law_1450 ?_
    refine lv_iload hx hb dL_law_1451 (lv_at hl 0 rfl) ?_
    refine lv_toi (y := ((q_loadOf (dC C) (sx9 xs (i9 + 1)))).2) ((hq_4189 (by rw [hqs]; omega)).trans (by rw [hqs])) ?_
    refine lv_i2l (v := (((q_loadOf (dC C) (sx9 xs (i9 + 1)))).2).toInt64) hx hb dL_law_1453 rfl ?_
    refine W.lcmp hx hb dL_law_1454 ?_
    refine lv_ton (n := 0) (lcmp0 _) ?_
    refine n_if_eq (tgt := 1460) hx hb (by omega) dL_law_1455 (by decide) (fun c_4196 => ?_) (fun c_4196 => absurd c_4196 (by omega))
    refine lv_goto (tgt := 2788) hx hb dL_law_1460 (by decide) ?_
    have hpm_4197 : (([(oD, .inl (G.2 6, 1, .inr (.inr (.inr (.inl og))))), (o, .inl (G.2 5, 1, .inr (.inl of2_4180)))] ++ (W2_4181 ++ (W2_4188 ++ []))) : va_W).Perm (([(o, .inl (G.2 5, 1, .inr (.inl of2_4180))), (oD, .inl (G.2 6, 1, .inr (.inr (.inr (.inl og)))))] ++ (W2_4181 ++ (W2_4188 ++ []))) ++ []) := segs_perm [[(oD, .inl (G.2 6, 1, .inr (.inr (.inr (.inl og)))))], [(o, .inl (G.2 5, 1, .inr (.inl of2_4180)))], W2_4181, W2_4188] [1, 0, 2, 3] [] rfl
    have hP : va_P G.1 CL ([(o, .inl (G.2 5, 1, .inr (.inl of2_4180))), (oD, .inl (G.2 6, 1, .inr (.inr (.inr (.inl og)))))] ++ (W2_4181 ++ (W2_4188 ++ []))) H := P_left (P_perm hpm_4197 hP)
    have hD : va_D A ([(o, .inl (G.2 5, 1, .inr (.inl of2_4180))), (oD, .inl (G.2 6, 1, .inr (.inr (.inr (.inl og)))))] ++ (W2_4181 ++ (W2_4188 ++ []))) := D_left (D_perm hpm_4197 hD)
    have hl := lv_sub hl [2, 3, 4, 5, 6, 7] (l' := [(0, .ref b), (1, .ref d), (2, .ref m0), (3, .ref o), (4, .ref oD), (5, .int (nI i9))]) rfl
    exact W.widen (show cl + 3 ≤ cl + 20000 from by omega) (show sl + 12 ≤ sl + 45000 from by omega) (kk ls H locs C M (((q_loadOf (dC M) id)).1) W2_4181 W2_4188 of2_4180 og hP hD hS hl hq_4184 hq_4190 hLw.up)

set_option maxHeartbeats 4000000 in
theorem lawK_22 {p : Program} {l : Launch} {e : Env} {s : State} {m : MethodId} {below : List Frame} {meth : Method} {c : Code} {G : Gt} {A : Nat → Prop} {b L : Nat} {xs : Nat → Int32} {Q : State → Prop} {d m0 o oD i9 N cl sl : Nat} (hfl : l.stackTraces = false) (F : LwF G A p s m c b L xs) (hi9 : i9 + 4 ≤ L) (hN24 : N ≤ 24) (hcl : cl + 20000 ≤ 1200144) (hsl : sl + 45000 ≤ 5495674) (kk : ∀ (ls : Array Slot) (H : Heap) (locs : List Loc) (C M : DS) (th : Nat) (WD WM : va_W) (of : Nat → Int64) (og : Nat → UInt64), va_P G.1 CL ([(o, .inl (G.2 5, 1, .inr (.inl of))), (oD, .inl (G.2 6, 1, .inr (.inr (.inr (.inl og)))))] ++ (WD ++ (WM ++ []))) H → va_D A ([(o, .inl (G.2 5, 1, .inr (.inl of))), (oD, .inl (G.2 6, 1, .inr (.inr (.inr (.inl og)))))] ++ (WD ++ (WM ++ []))) → va_S A s.heap H locs → lv_has ls 10 [(0, .ref b), (1, .ref d), (2, .ref m0), (3, .ref o), (4, .ref oD), (5, .int (nI i9))] → DyW G d C WD → MdW G m0 M th WM → LawI C M (N + 1) → W p l e room_1 s m #[Value.ref b] below meth c H locs (cl + 20000) (sl + 45000) Q (F0 m 2788 ls [])) {ls : Array Slot} {H : Heap} {locs : List Loc} {C M : DS} {th : Nat} {WD WM : va_W} {of : Nat → Int64} {og : Nat → UInt64} (hP : va_P G.1 CL ([(o, .inl (G.2 5, 1, .inr (.inl of))), (oD, .inl (G.2 6, 1, .inr (.inr (.inr (.inl og)))))] ++ (WD ++ (WM ++ []))) H) (hD : va_D A ([(o, .inl (G.2 5, 1, .inr (.inl of))), (oD, .inl (G.2 6, 1, .inr (.inr (.inr (.inl og)))))] ++ (WD ++ (WM ++ [])))) (hS : va_S A s.heap H locs) (hl : lv_has ls 10 [(0, .ref b), (1, .ref d), (2, .ref m0), (3, .ref o), (4, .ref oD), (5, .int (nI i9))]) (hDy : DyW G d C WD) (hMd : MdW G m0 M th WM) (hLw : LawI C M N) : W p l e room_1 s m #[Value.ref b] below meth c H locs cl sl Q (F0 m 1463 ls []) := by
  obtain ⟨cf, hKB, hE, hA, hX9, hbl, hbA, hNc, hL96⟩ := F
  have hx := cf.1
  have hb := cf.2.1
  have hml := cf.2.2.1
  have hown : s.vm.findClass RX0 = some m.cls := cf.2.2.2.1
  have hts := cf.2.2.2.2
  have hK := hKB.1
  have hIc := hDy.inv.1
  have hIm : Inv (dC M) := Inv_sim hLw.1 hIc
  have hRk : RkOk (dC M) := RkOk_sim hLw.1 (RkOk_srt hDy.inv.2.2)
  have hl := hl
  refine lv_aload_n hx hb dL_law_1463 rfl (lv_at hl 1 rfl) ?_
  refine lv_aload_n hx hb dL_law_1464 rfl (lv_at hl 0 rfl) ?_
  refine lv_iload hx hb dL_law_1465 (lv_at hl 5 rfl) ?_
  refine lv_iconst (v := nI 1) hx hb dL_law_1467 (by decide) ?_
  refine lv_iadd hx hb dL_law_1468 ?_
  refine lv_ton (n := i9 + 1) (nadd (by omega)) ?_
  refine va_sld hx hb hX9 hbl hbA hS (i := nI (i9 + 1)) (vp9 (by omega) hL96) dL_law_1469 ?_
  refine W.eq (g2 := F0 m 1470 ls [.int (sx9 xs (i9 + 1)), .ref d]) rfl ?_
  refine lv_aload_n hx hb dL_law_1470 rfl (lv_at hl 3 rfl) ?_
  have hpm_4198 : (([(o, .inl (G.2 5, 1, .inr (.inl of))), (oD, .inl (G.2 6, 1, .inr (.inr (.inr (.inl og)))))] ++ (WD ++ (WM ++ []))) : va_W).Perm (([(o, .inl (G.2 5, 1, .inr (.inl of)))] ++ (WD ++ [])) ++ ([(oD, .inl (G.2 6, 1, .inr (.inr (.inr (.inl og)))))] ++ (WM ++ []))) := segs_perm [[(o, .inl (G.2 5, 1, .inr (.inl of)))], [(oD, .inl (G.2 6, 1, .inr (.inr (.inr (.inl og)))))], WD, WM] [0, 2] [1, 3] rfl
  have hF := hF_ofP (wc := ([(o, .inl (G.2 5, 1, .inr (.inl of)))] ++ (WD ++ []))) hD hS hA hpm_4198
  refine go_ctP hS hP hD hpm_4198 hF
      (vx_runSW (As := [.ref d, .int (sx9 xs (i9 + 1)), .ref o]) (rest := []) cf (wX0_loadOn l G d C WD o of (sx9 xs (i9 + 1)) (hDy) hfl H.size) (vx_cwSW 3 hts (lw_SW q1264 q1265 q46 q1266) rfl rfl rfl (by decide +kernel) ⟨Nat.le_of_ble_eq_true rfl, Nat.le_of_ble_eq_true rfl⟩) (preS_ofW hNc hKB hE hS hF (P_left (P_perm hpm_4198 hP)) ((D_left (D_perm hpm_4198 hD)).weaken (fun _ _ _ _ => trivial)) trivial) rfl rfl hl.1 rfl (lv_room (Nat.le_of_ble_eq_true rfl)) dL_law_1471 ⟨show cl + 8300 ≤ 1200144 from by first | decide | omega, show sl + 17000 ≤ 5495674 from by first | decide | omega⟩)
      (fun u_ H locs hq hph (hP : va_P G.1 CL (([(oD, .inl (G.2 6, 1, .inr (.inr (.inr (.inl og)))))] ++ (WM ++ [])) ++ ([(o, .inl (G.2 5, 1, .inr (.inl u_.1)))] ++ (u_.2 ++ []))) H) (hD : va_D A (([(oD, .inl (G.2 6, 1, .inr (.inr (.inr (.inl og)))))] ++ (WM ++ [])) ++ ([(o, .inl (G.2 5, 1, .inr (.inl u_.1)))] ++ (u_.2 ++ [])))) hS hfz hfk => ?_)
  obtain ⟨of2_4199, W2_4200⟩ := u_
  obtain ⟨hq_4201, hq_4202, hq_4203⟩ : ((q_loadOn (dC C) (sx9 xs (i9 + 1))).1 = 0 → of2_4199 0 = ((q_loadOn (dC C) (sx9 xs (i9 + 1))).2).toInt64) ∧ (q_loadOn (dC C) (sx9 xs (i9 + 1))).1 < 10 ∧ DyW G d C W2_4200 := hq
  have hpm_4204 : (([(oD, .inl (G.2 6, 1, .inr (.inr (.inr (.inl og)))))] ++ (WM ++ [])) ++ ([(o, .inl (G.2 5, 1, .inr (.inl of2_4199)))] ++ (W2_4200 ++ [])) : va_W).Perm ([(oD, .inl (G.2 6, 1, .inr (.inr (.inr (.inl og))))), (o, .inl (G.2 5, 1, .inr (.inl of2_4199)))] ++ (WM ++ (W2_4200 ++ []))) := segs_perm2 [[(oD, .inl (G.2 6, 1, .inr (.inr (.inr (.inl og)))))], WM] [[(o, .inl (G.2 5, 1, .inr (.inl of2_4199)))], W2_4200] [0, 2, 1, 3] rfl
  have hP : va_P G.1 CL ([(oD, .inl (G.2 6, 1, .inr (.inr (.inr (.inl og))))), (o, .inl (G.2 5, 1, .inr (.inl of2_4199)))] ++ (WM ++ (W2_4200 ++ []))) H := P_perm hpm_4204 hP
  have hD : va_D A ([(oD, .inl (G.2 6, 1, .inr (.inr (.inr (.inl og))))), (o, .inl (G.2 5, 1, .inr (.inl of2_4199)))] ++ (WM ++ (W2_4200 ++ []))) := D_perm hpm_4204 hD
  refine W.eq (g2 := F0 m 1474 ls [.int (nI ((q_loadOn (dC C) (sx9 xs (i9 + 1))).1))]) rfl ?_
  have hqs : (q_loadOn (dC M) (sx9 xs (i9 + 1))) = (q_loadOn (dC C) (sx9 xs (i9 + 1))) := q_loadOn_sim hLw.1.symm hIm (sx9 xs (i9 + 1))
  refine lv_istore (lv' := [(6, .int (nI ((q_loadOn (dC C) (sx9 xs (i9 + 1))).1))), (0, .ref b), (1, .ref d), (2, .ref m0), (3, .ref o), (4, .ref oD), (5, .int (nI i9))]) hx hb dL_law_1474 hl (by decide) rfl (fun ls hl => ?_)
  refine lv_aload_n hx hb dL_law_1476 rfl (lv_at hl 3 rfl) ?_
  refine lv_aload_n hx hb dL_law_1477 rfl (lv_at hl 1 rfl) ?_
  refine lv_iload hx hb dL_law_1478 (lv_at hl 6 rfl) ?_
  refine lv_iconst (v := nI 1) hx hb dL_law_1480 (by decide) ?_
  refine lv_iadd hx hb dL_law_1481 ?_
  refine lv_ton (n := i9 + 1) (nadd (by omega)) ?_
  refine va_sld hx hb hX9 hbl hbA hS (i := nI (i9 + 1)) (vp9 (by omega) hL96) dL_law_1482 ?_
  refine W.eq (g2 := F0 m 1483 ls [.int (sx9 xs (i9 + 1)), .ref m0]) rfl ?_
  have hpm_4205 : (([(oD, .inl (G.2 6, 1, .inr (.inr (.inr (.inl og))))), (o, .inl (G.2 5, 1, .inr (.inl of2_4199)))] ++ (WM ++ (W2_4200 ++ []))) : va_W).Perm ((WM ++ []) ++ ([(oD, .inl (G.2 6, 1, .inr (.inr (.inr (.inl og))))), (o, .inl (G.2 5, 1, .inr (.inl of2_4199)))] ++ (W2_4200 ++ []))) := segs_perm [[(oD, .inl (G.2 6, 1, .inr (.inr (.inr (.inl og)))))], [(o, .inl (G.2 5, 1, .inr (.inl of2_4199)))], WM, W2_4200] [2] [0, 1, 3] rfl
  have hF := hF_ofP (wc := (WM ++ [])) hD hS hA hpm_4205
  refine go_ctP hS hP hD hpm_4205 hF
      (va_runV (As := [.int (sx9 xs (i9 + 1))]) (rest := []) cf (eX4_loadOn l G m0 M th WM (sx9 xs (i9 + 1)) (hMd) (hIm) H.size) (cwV 1 hts (lw_V q1791 q1792 q1793 q58 q1794) rfl rfl rfl (by decide +kernel) ⟨Nat.le_of_ble_eq_true rfl, Nat.le_of_ble_eq_true rfl⟩) (preV_of hKB hE hS hF (MdW.recv hK hMd (seg_at [[(oD, .inl (G.2 6, 1, .inr (.inr (.inr (.inl og)))))], [(o, .inl (G.2 5, 1, .inr (.inl of2_4199)))], WM, W2_4200] 2 rfl hP)) (P_left (P_perm hpm_4205 hP)) ((D_left (D_perm hpm_4205 hD)).weaken (fun _ _ _ _ => trivial)) trivial) rfl rfl hl.1 rfl (lv_room (Nat.le_of_ble_eq_true rfl)) dL_law_1483 ⟨show cl + 8300 + 0 ≤ 1200144 from by first | decide | omega, show sl + 17000 + 0 ≤ 5495674 from by first | decide | omega⟩)
      (fun u_ H locs hq hph (hP : va_P G.1 CL (([(oD, .inl (G.2 6, 1, .inr (.inr (.inr (.inl og))))), (o, .inl (G.2 5, 1, .inr (.inl of2_4199)))] ++ (W2_4200 ++ [])) ++ (u_.2 ++ [])) H) (hD : va_D A (([(oD, .inl (G.2 6, 1, .inr (.inr (.inr (.inl og))))), (o, .inl (G.2 5, 1, .inr (.inl of2_4199)))] ++ (W2_4200 ++ [])) ++ (u_.2 ++ []))) hS hfz hfk => ?_)
  obtain ⟨rr_4206, W2_4207⟩ := u_
  obtain ⟨hq_4208, hq_4209⟩ : ((q_loadOn (dC M) (sx9 xs (i9 + 1))).1 = 0 → rr_4206 = (q_loadOn (dC M) (sx9 xs (i9 + 1))).2) ∧ MdW G m0 M (q_loadOn (dC M) (sx9 xs (i9 + 1))).1 W2_4207 := hq
  have hpm_4210 : (([(oD, .inl (G.2 6, 1, .inr (.inr (.inr (.inl og))))), (o, .inl (G.2 5, 1, .inr (.inl of2_4199)))] ++ (W2_4200 ++ [])) ++ (W2_4207 ++ []) : va_W).Perm ([(oD, .inl (G.2 6, 1, .inr (.inr (.inr (.inl og))))), (o, .inl (G.2 5, 1, .inr (.inl of2_4199)))] ++ (W2_4200 ++ (W2_4207 ++ []))) := segs_perm2 [[(oD, .inl (G.2 6, 1, .inr (.inr (.inr (.inl og)))))], [(o, .inl (G.2 5, 1, .inr (.inl of2_4199)))], W2_4200] [W2_4207] [0, 1, 2, 3] rfl
  have hP : va_P G.1 CL ([(oD, .inl (G.2 6, 1, .inr (.inr (.inr (.inl og))))), (o, .inl (G.2 5, 1, .inr (.inl of2_4199)))] ++ (W2_4200 ++ (W2_4207 ++ []))) H := P_perm hpm_4210 hP
  have hD : va_D A ([(oD, .inl (G.2 6, 1, .inr (.inr (.inr (.inl og))))), (o, .inl (G.2 5, 1, .inr (.inl of2_4199)))] ++ (W2_4200 ++ (W2_4207 ++ []))) := D_perm hpm_4210 hD
  refine W.eq (g2 := F0 m 1486 ls [.int rr_4206]) rfl ?_
  refine lv_istore (lv' := [(7, .int rr_4206), (6, .int (nI ((q_loadOn (dC C) (sx9 xs (i9 + 1))).1))), (0, .ref b), (1, .ref d), (2, .ref m0), (3, .ref o), (4, .ref oD), (5, .int (nI i9))]) hx hb dL_law_1486 hl (by decide) rfl (fun ls hl => ?_)
  refine lv_aload_n hx hb dL_law_1488 rfl (lv_at hl 4 rfl) ?_
  have hpm_4211 : (([(oD, .inl (G.2 6, 1, .inr (.inr (.inr (.inl og))))), (o, .inl (G.2 5, 1, .inr (.inl of2_4199)))] ++ (W2_4200 ++ (W2_4207 ++ []))) : va_W).Perm ([] ++ ([(oD, .inl (G.2 6, 1, .inr (.inr (.inr (.inl og))))), (o, .inl (G.2 5, 1, .inr (.inl of2_4199)))] ++ (W2_4200 ++ (W2_4207 ++ [])))) := segs_perm [[(oD, .inl (G.2 6, 1, .inr (.inr (.inr (.inl og)))))], [(o, .inl (G.2 5, 1, .inr (.inl of2_4199)))], W2_4200, W2_4207] [] [0, 1, 2, 3] rfl
  have hF := hF_ofP (wc := []) hD hS hA hpm_4211
  refine go_ctP hS hP hD hpm_4211 hF
      (va_runV (As := []) (rest := []) cf (eX4_thrown l G m0 M (((q_loadOn (dC M) (sx9 xs (i9 + 1)))).1) W2_4207 (hq_4209) H.size) (cwV 0 hts (lw_V q1639 q1640 q1641 q58 q1642) rfl rfl rfl (by decide +kernel) ⟨Nat.le_of_ble_eq_true rfl, Nat.le_of_ble_eq_true rfl⟩) (preV_of hKB hE hS hF (MdW.recv hK hq_4209 (seg_at [[(oD, .inl (G.2 6, 1, .inr (.inr (.inr (.inl og)))))], [(o, .inl (G.2 5, 1, .inr (.inl of2_4199)))], W2_4200, W2_4207] 3 rfl hP)) (P_left (P_perm hpm_4211 hP)) ((D_left (D_perm hpm_4211 hD)).weaken (fun _ _ _ _ => trivial)) (roW.nil (seg_at [[(oD, .inl (G.2 6, 1, .inr (.inr (.inr (.inl og)))))], [(o, .inl (G.2 5, 1, .inr (.inl of2_4199)))], W2_4200, W2_4207] 3 rfl hP))) rfl rfl hl.1 rfl (lv_room (Nat.le_of_ble_eq_true rfl)) dL_law_1489 ⟨show cl + 8300 + 0 ≤ 1200144 from by first | decide | omega, show sl + 17000 + 0 ≤ 5495674 from by first | decide | omega⟩)
      (fun u_ H locs hq hph (hP : va_P G.1 CL (([(oD, .inl (G.2 6, 1, .inr (.inr (.inr (.inl og))))), (o, .inl (G.2 5, 1, .inr (.inl of2_4199)))] ++ (W2_4200 ++ (W2_4207 ++ []))) ++ []) H) (hD : va_D A (([(oD, .inl (G.2 6, 1, .inr (.inr (.inr (.inl og))))), (o, .inl (G.2 5, 1, .inr (.inl of2_4199)))] ++ (W2_4200 ++ (W2_4207 ++ []))) ++ [])) hS hfz hfk => ?_)
  have hpm_4212 : (([(oD, .inl (G.2 6, 1, .inr (.inr (.inr (.inl og))))), (o, .inl (G.2 5, 1, .inr (.inl of2_4199)))] ++ (W2_4200 ++ (W2_4207 ++ []))) ++ [] : va_W).Perm ([(oD, .inl (G.2 6, 1, .inr (.inr (.inr (.inl og))))), (o, .inl (G.2 5, 1, .inr (.inl of2_4199)))] ++ (W2_4200 ++ (W2_4207 ++ []))) := segs_perm2 [[(oD, .inl (G.2 6, 1, .inr (.inr (.inr (.inl og)))))], [(o, .inl (G.2 5, 1, .inr (.inl of2_4199)))], W2_4200, W2_4207] [] [0, 1, 2, 3] rfl
  have hP : va_P G.1 CL ([(oD, .inl (G.2 6, 1, .inr (.inr (.inr (.inl og))))), (o, .inl (G.2 5, 1, .inr (.inl of2_4199)))] ++ (W2_4200 ++ (W2_4207 ++ []))) H := P_perm hpm_4212 hP
  have hD : va_D A ([(oD, .inl (G.2 6, 1, .inr (.inr (.inr (.inl og))))), (o, .inl (G.2 5, 1, .inr (.inl of2_4199)))] ++ (W2_4200 ++ (W2_4207 ++ []))) := D_perm hpm_4212 hD
  refine W.eq (g2 := F0 m 1492 ls [.int (nI (((q_loadOn (dC M) (sx9 xs (i9 + 1)))).1))]) rfl ?_
  refine lv_ton (n := ((q_loadOn (dC C) (sx9 xs (i9 + 1))).1)) (congrArg nI (by rw [hqs])) ?_
  refine lv_iload hx hb dL_law_1492 (lv_at hl 1 rfl) ?_
  refine lv_icmp_eq (tgt := 1499) hx hb dL_law_1494 (by decide) (fun _ => ?_) (fun c9 => absurd rfl c9)
  refine lv_iload hx hb dL_law_1499 (lv_at hl 1 rfl) ?_
  refine n_if_ne (tgt := 1516) hx hb (by omega) dL_law_1501 (by decide) (fun c_4213 => ?_) (fun c_4213 => ?_)
  · refine lv_goto (tgt := 2788) hx hb dL_law_1516 (by decide) ?_
    have hpm_4214 : (([(oD, .inl (G.2 6, 1, .inr (.inr (.inr (.inl og))))), (o, .inl (G.2 5, 1, .inr (.inl of2_4199)))] ++ (W2_4200 ++ (W2_4207 ++ []))) : va_W).Perm (([(o, .inl (G.2 5, 1, .inr (.inl of2_4199))), (oD, .inl (G.2 6, 1, .inr (.inr (.inr (.inl og)))))] ++ (W2_4200 ++ (W2_4207 ++ []))) ++ []) := segs_perm [[(oD, .inl (G.2 6, 1, .inr (.inr (.inr (.inl og)))))], [(o, .inl (G.2 5, 1, .inr (.inl of2_4199)))], W2_4200, W2_4207] [1, 0, 2, 3] [] rfl
    have hP : va_P G.1 CL ([(o, .inl (G.2 5, 1, .inr (.inl of2_4199))), (oD, .inl (G.2 6, 1, .inr (.inr (.inr (.inl og)))))] ++ (W2_4200 ++ (W2_4207 ++ []))) H := P_left (P_perm hpm_4214 hP)
    have hD : va_D A ([(o, .inl (G.2 5, 1, .inr (.inl of2_4199))), (oD, .inl (G.2 6, 1, .inr (.inr (.inr (.inl og)))))] ++ (W2_4200 ++ (W2_4207 ++ []))) := D_left (D_perm hpm_4214 hD)
    have hl := lv_sub hl [2, 3, 4, 5, 6, 7] (l' := [(0, .ref b), (1, .ref d), (2, .ref m0), (3, .ref o), (4, .ref oD), (5, .int (nI i9))]) rfl
    exact W.widen (show cl + 8300 ≤ cl + 20000 from by omega) (show sl + 17000 ≤ sl + 45000 from by omega) (kk ls H locs C M (((q_loadOn (dC M) (sx9 xs (i9 + 1)))).1) W2_4200 W2_4207 of2_4199 og hP hD hS hl hq_4203 hq_4209 hLw.up)
  · refine lv_aload_n hx hb dL_law_1504 rfl (lv_at hl 5 rfl) ?_
    refine lv_iconst (v := nI 0) hx hb dL_law_1505 (by decide) ?_
    refine r_lald (v := (((q_loadOn (dC C) (sx9 xs (i9 + 1)))).2).toInt64) hx hb hK hP 1 5 rfl rfl (i := 0) (by omega) (by omega) ((hq_4201 (by omega))) dL_law_1506 ?_
    refine lv_iload hx hb dL_law_1507 (lv_at hl 0 rfl) ?_
    refine lv_toi (y := ((q_loadOn (dC C) (sx9 xs (i9 + 1)))).2) ((hq_4208 (by rw [hqs]; omega)).trans (by rw [hqs])) ?_
    refine lv_i2l (v := (((q_loadOn (dC C) (sx9 xs (i9 + 1)))).2).toInt64) hx hb dL_law_1509 rfl ?_
    refine W.lcmp hx hb dL_law_1510 ?_
    refine lv_ton (n := 0) (lcmp0 _) ?_
    refine n_if_eq (tgt := 1516) hx hb (by omega) dL_law_1511 (by decide) (fun c_4215 => ?_) (fun c_4215 => absurd c_4215 (by omega))
    refine lv_goto (tgt := 2788) hx hb dL_law_1516 (by decide) ?_
    have hpm_4216 : (([(oD, .inl (G.2 6, 1, .inr (.inr (.inr (.inl og))))), (o, .inl (G.2 5, 1, .inr (.inl of2_4199)))] ++ (W2_4200 ++ (W2_4207 ++ []))) : va_W).Perm (([(o, .inl (G.2 5, 1, .inr (.inl of2_4199))), (oD, .inl (G.2 6, 1, .inr (.inr (.inr (.inl og)))))] ++ (W2_4200 ++ (W2_4207 ++ []))) ++ []) := segs_perm [[(oD, .inl (G.2 6, 1, .inr (.inr (.inr (.inl og)))))], [(o, .inl (G.2 5, 1, .inr (.inl of2_4199)))], W2_4200, W2_4207] [1, 0, 2, 3] [] rfl
    have hP : va_P G.1 CL ([(o, .inl (G.2 5, 1, .inr (.inl of2_4199))), (oD, .inl (G.2 6, 1, .inr (.inr (.inr (.inl og)))))] ++ (W2_4200 ++ (W2_4207 ++ []))) H := P_left (P_perm hpm_4216 hP)
    have hD : va_D A ([(o, .inl (G.2 5, 1, .inr (.inl of2_4199))), (oD, .inl (G.2 6, 1, .inr (.inr (.inr (.inl og)))))] ++ (W2_4200 ++ (W2_4207 ++ []))) := D_left (D_perm hpm_4216 hD)
    have hl := lv_sub hl [2, 3, 4, 5, 6, 7] (l' := [(0, .ref b), (1, .ref d), (2, .ref m0), (3, .ref o), (4, .ref oD), (5, .int (nI i9))]) rfl
    exact W.widen (show cl + 8300 ≤ cl + 20000 from by omega) (show sl + 17000 ≤ sl + 45000 from by omega) (kk ls H locs C M (((q_loadOn (dC M) (sx9 xs (i9 + 1)))).1) W2_4200 W2_4207 of2_4199 og hP hD hS hl hq_4203 hq_4209 hLw.up)

set_option maxHeartbeats 4000000 in
theorem lawK_23 {p : Program} {l : Launch} {e : Env} {s : State} {m : MethodId} {below : List Frame} {meth : Method} {c : Code} {G : Gt} {A : Nat → Prop} {b L : Nat} {xs : Nat → Int32} {Q : State → Prop} {d m0 o oD i9 N cl sl : Nat} (hfl : l.stackTraces = false) (F : LwF G A p s m c b L xs) (hi9 : i9 + 4 ≤ L) (hN24 : N ≤ 24) (hcl : cl + 20000 ≤ 1200144) (hsl : sl + 45000 ≤ 5495674) (kk : ∀ (ls : Array Slot) (H : Heap) (locs : List Loc) (C M : DS) (th : Nat) (WD WM : va_W) (of : Nat → Int64) (og : Nat → UInt64), va_P G.1 CL ([(o, .inl (G.2 5, 1, .inr (.inl of))), (oD, .inl (G.2 6, 1, .inr (.inr (.inr (.inl og)))))] ++ (WD ++ (WM ++ []))) H → va_D A ([(o, .inl (G.2 5, 1, .inr (.inl of))), (oD, .inl (G.2 6, 1, .inr (.inr (.inr (.inl og)))))] ++ (WD ++ (WM ++ []))) → va_S A s.heap H locs → lv_has ls 10 [(0, .ref b), (1, .ref d), (2, .ref m0), (3, .ref o), (4, .ref oD), (5, .int (nI i9))] → DyW G d C WD → MdW G m0 M th WM → LawI C M (N + 1) → W p l e room_1 s m #[Value.ref b] below meth c H locs (cl + 20000) (sl + 45000) Q (F0 m 2788 ls [])) {ls : Array Slot} {H : Heap} {locs : List Loc} {C M : DS} {th : Nat} {WD WM : va_W} {of : Nat → Int64} {og : Nat → UInt64} (hP : va_P G.1 CL ([(o, .inl (G.2 5, 1, .inr (.inl of))), (oD, .inl (G.2 6, 1, .inr (.inr (.inr (.inl og)))))] ++ (WD ++ (WM ++ []))) H) (hD : va_D A ([(o, .inl (G.2 5, 1, .inr (.inl of))), (oD, .inl (G.2 6, 1, .inr (.inr (.inr (.inl og)))))] ++ (WD ++ (WM ++ [])))) (hS : va_S A s.heap H locs) (hl : lv_has ls 10 [(0, .ref b), (1, .ref d), (2, .ref m0), (3, .ref o), (4, .ref oD), (5, .int (nI i9))]) (hDy : DyW G d C WD) (hMd : MdW G m0 M th WM) (hLw : LawI C M N) : W p l e room_1 s m #[Value.ref b] below meth c H locs cl sl Q (F0 m 1519 ls []) := by
  obtain ⟨cf, hKB, hE, hA, hX9, hbl, hbA, hNc, hL96⟩ := F
  have hx := cf.1
  have hb := cf.2.1
  have hml := cf.2.2.1
  have hown : s.vm.findClass RX0 = some m.cls := cf.2.2.2.1
  have hts := cf.2.2.2.2
  have hK := hKB.1
  have hIc := hDy.inv.1
  have hIm : Inv (dC M) := Inv_sim hLw.1 hIc
  have hRk : RkOk (dC M) := RkOk_sim hLw.1 (RkOk_srt hDy.inv.2.2)
  have hl := hl
  refine lv_aload_n hx hb dL_law_1519 rfl (lv_at hl 1 rfl) ?_
  refine lv_aload_n hx hb dL_law_1520 rfl (lv_at hl 0 rfl) ?_
  refine lv_iload hx hb dL_law_1521 (lv_at hl 5 rfl) ?_
  refine lv_iconst (v := nI 1) hx hb dL_law_1523 (by decide) ?_
  refine lv_iadd hx hb dL_law_1524 ?_
  refine lv_ton (n := i9 + 1) (nadd (by omega)) ?_
  refine va_sld hx hb hX9 hbl hbA hS (i := nI (i9 + 1)) (vp9 (by omega) hL96) dL_law_1525 ?_
  refine W.eq (g2 := F0 m 1526 ls [.int (sx9 xs (i9 + 1)), .ref d]) rfl ?_
  refine lv_aload hx hb dL_law_1526 (lv_at hl 4 rfl) ?_
  have hpm_4217 : (([(o, .inl (G.2 5, 1, .inr (.inl of))), (oD, .inl (G.2 6, 1, .inr (.inr (.inr (.inl og)))))] ++ (WD ++ (WM ++ []))) : va_W).Perm (([(oD, .inl (G.2 6, 1, .inr (.inr (.inr (.inl og)))))] ++ (WD ++ [])) ++ ([(o, .inl (G.2 5, 1, .inr (.inl of)))] ++ (WM ++ []))) := segs_perm [[(o, .inl (G.2 5, 1, .inr (.inl of)))], [(oD, .inl (G.2 6, 1, .inr (.inr (.inr (.inl og)))))], WD, WM] [1, 2] [0, 3] rfl
  have hF := hF_ofP (wc := ([(oD, .inl (G.2 6, 1, .inr (.inr (.inr (.inl og)))))] ++ (WD ++ []))) hD hS hA hpm_4217
  refine go_ctP hS hP hD hpm_4217 hF
      (vx_runSW (As := [.ref d, .int (sx9 xs (i9 + 1)), .ref oD]) (rest := []) cf (wX0_zoneShare l G d C WD oD og (sx9 xs (i9 + 1)) (hDy) hfl H.size) (vx_cwSW 3 hts (lw_SW q1275 q1276 q46 q1277) rfl rfl rfl (by decide +kernel) ⟨Nat.le_of_ble_eq_true rfl, Nat.le_of_ble_eq_true rfl⟩) (preS_ofW hNc hKB hE hS hF (P_left (P_perm hpm_4217 hP)) ((D_left (D_perm hpm_4217 hD)).weaken (fun _ _ _ _ => trivial)) trivial) rfl rfl hl.1 rfl (lv_room (Nat.le_of_ble_eq_true rfl)) dL_law_1528 ⟨show cl + 60 ≤ 1200144 from by first | decide | omega, show sl + 200 ≤ 5495674 from by first | decide | omega⟩)
      (fun u_ H locs hq hph (hP : va_P G.1 CL (([(o, .inl (G.2 5, 1, .inr (.inl of)))] ++ (WM ++ [])) ++ ([(oD, .inl (G.2 6, 1, .inr (.inr (.inr (.inl u_.1)))))] ++ (u_.2 ++ []))) H) (hD : va_D A (([(o, .inl (G.2 5, 1, .inr (.inl of)))] ++ (WM ++ [])) ++ ([(oD, .inl (G.2 6, 1, .inr (.inr (.inr (.inl u_.1)))))] ++ (u_.2 ++ [])))) hS hfz hfk => ?_)
  obtain ⟨of2_4218, W2_4219⟩ := u_
  obtain ⟨hq_4220, hq_4221, hq_4222⟩ : ((q_share (dC C) (sx9 xs (i9 + 1))).1 = 0 → of2_4218 0 = FP.f2d (q_share (dC C) (sx9 xs (i9 + 1))).2) ∧ (q_share (dC C) (sx9 xs (i9 + 1))).1 < 10 ∧ DyW G d C W2_4219 := hq
  have hpm_4223 : (([(o, .inl (G.2 5, 1, .inr (.inl of)))] ++ (WM ++ [])) ++ ([(oD, .inl (G.2 6, 1, .inr (.inr (.inr (.inl of2_4218)))))] ++ (W2_4219 ++ [])) : va_W).Perm ([(o, .inl (G.2 5, 1, .inr (.inl of))), (oD, .inl (G.2 6, 1, .inr (.inr (.inr (.inl of2_4218)))))] ++ (WM ++ (W2_4219 ++ []))) := segs_perm2 [[(o, .inl (G.2 5, 1, .inr (.inl of)))], WM] [[(oD, .inl (G.2 6, 1, .inr (.inr (.inr (.inl of2_4218)))))], W2_4219] [0, 2, 1, 3] rfl
  have hP : va_P G.1 CL ([(o, .inl (G.2 5, 1, .inr (.inl of))), (oD, .inl (G.2 6, 1, .inr (.inr (.inr (.inl of2_4218)))))] ++ (WM ++ (W2_4219 ++ []))) H := P_perm hpm_4223 hP
  have hD : va_D A ([(o, .inl (G.2 5, 1, .inr (.inl of))), (oD, .inl (G.2 6, 1, .inr (.inr (.inr (.inl of2_4218)))))] ++ (WM ++ (W2_4219 ++ []))) := D_perm hpm_4223 hD
  refine W.eq (g2 := F0 m 1531 ls [.int (nI ((q_share (dC C) (sx9 xs (i9 + 1))).1))]) rfl ?_
  have hqs : (q_share (dC M) (sx9 xs (i9 + 1))) = (q_share (dC C) (sx9 xs (i9 + 1))) := q_share_sim hLw.1.symm hIm (sx9 xs (i9 + 1))
  refine lv_istore (lv' := [(6, .int (nI ((q_share (dC C) (sx9 xs (i9 + 1))).1))), (0, .ref b), (1, .ref d), (2, .ref m0), (3, .ref o), (4, .ref oD), (5, .int (nI i9))]) hx hb dL_law_1531 hl (by decide) rfl (fun ls hl => ?_)
  refine lv_aload_n hx hb dL_law_1533 rfl (lv_at hl 3 rfl) ?_
  refine lv_aload_n hx hb dL_law_1534 rfl (lv_at hl 1 rfl) ?_
  refine lv_iload hx hb dL_law_1535 (lv_at hl 6 rfl) ?_
  refine lv_iconst (v := nI 1) hx hb dL_law_1537 (by decide) ?_
  refine lv_iadd hx hb dL_law_1538 ?_
  refine lv_ton (n := i9 + 1) (nadd (by omega)) ?_
  refine va_sld hx hb hX9 hbl hbA hS (i := nI (i9 + 1)) (vp9 (by omega) hL96) dL_law_1539 ?_
  refine W.eq (g2 := F0 m 1540 ls [.int (sx9 xs (i9 + 1)), .ref m0]) rfl ?_
  have hpm_4224 : (([(o, .inl (G.2 5, 1, .inr (.inl of))), (oD, .inl (G.2 6, 1, .inr (.inr (.inr (.inl of2_4218)))))] ++ (WM ++ (W2_4219 ++ []))) : va_W).Perm ((WM ++ []) ++ ([(o, .inl (G.2 5, 1, .inr (.inl of))), (oD, .inl (G.2 6, 1, .inr (.inr (.inr (.inl of2_4218)))))] ++ (W2_4219 ++ []))) := segs_perm [[(o, .inl (G.2 5, 1, .inr (.inl of)))], [(oD, .inl (G.2 6, 1, .inr (.inr (.inr (.inl of2_4218)))))], WM, W2_4219] [2] [0, 1, 3] rfl
  have hF := hF_ofP (wc := (WM ++ [])) hD hS hA hpm_4224
  refine go_ctP hS hP hD hpm_4224 hF
      (va_runV (As := [.int (sx9 xs (i9 + 1))]) (rest := []) cf (eX4_zoneShare l G m0 M th WM (sx9 xs (i9 + 1)) (hMd) (hIm) H.size) (cwV 1 hts (lw_V q1799 q1800 q1801 q58 q1802) rfl rfl rfl (by decide +kernel) ⟨Nat.le_of_ble_eq_true rfl, Nat.le_of_ble_eq_true rfl⟩) (preV_of hKB hE hS hF (MdW.recv hK hMd (seg_at [[(o, .inl (G.2 5, 1, .inr (.inl of)))], [(oD, .inl (G.2 6, 1, .inr (.inr (.inr (.inl of2_4218)))))], WM, W2_4219] 2 rfl hP)) (P_left (P_perm hpm_4224 hP)) ((D_left (D_perm hpm_4224 hD)).weaken (fun _ _ _ _ => trivial)) trivial) rfl rfl hl.1 rfl (lv_room (Nat.le_of_ble_eq_true rfl)) dL_law_1540 ⟨show cl + 60 + 0 ≤ 1200144 from by first | decide | omega, show sl + 200 + 0 ≤ 5495674 from by first | decide | omega⟩)
      (fun u_ H locs hq hph (hP : va_P G.1 CL (([(o, .inl (G.2 5, 1, .inr (.inl of))), (oD, .inl (G.2 6, 1, .inr (.inr (.inr (.inl of2_4218)))))] ++ (W2_4219 ++ [])) ++ (u_.2 ++ [])) H) (hD : va_D A (([(o, .inl (G.2 5, 1, .inr (.inl of))), (oD, .inl (G.2 6, 1, .inr (.inr (.inr (.inl of2_4218)))))] ++ (W2_4219 ++ [])) ++ (u_.2 ++ []))) hS hfz hfk => ?_)
  obtain ⟨rr_4225, W2_4226⟩ := u_
  obtain ⟨hq_4227, hq_4228⟩ : ((q_share (dC M) (sx9 xs (i9 + 1))).1 = 0 → rr_4225 = (q_share (dC M) (sx9 xs (i9 + 1))).2) ∧ MdW G m0 M (q_share (dC M) (sx9 xs (i9 + 1))).1 W2_4226 := hq
  have hpm_4229 : (([(o, .inl (G.2 5, 1, .inr (.inl of))), (oD, .inl (G.2 6, 1, .inr (.inr (.inr (.inl of2_4218)))))] ++ (W2_4219 ++ [])) ++ (W2_4226 ++ []) : va_W).Perm ([(o, .inl (G.2 5, 1, .inr (.inl of))), (oD, .inl (G.2 6, 1, .inr (.inr (.inr (.inl of2_4218)))))] ++ (W2_4219 ++ (W2_4226 ++ []))) := segs_perm2 [[(o, .inl (G.2 5, 1, .inr (.inl of)))], [(oD, .inl (G.2 6, 1, .inr (.inr (.inr (.inl of2_4218)))))], W2_4219] [W2_4226] [0, 1, 2, 3] rfl
  have hP : va_P G.1 CL ([(o, .inl (G.2 5, 1, .inr (.inl of))), (oD, .inl (G.2 6, 1, .inr (.inr (.inr (.inl of2_4218)))))] ++ (W2_4219 ++ (W2_4226 ++ []))) H := P_perm hpm_4229 hP
  have hD : va_D A ([(o, .inl (G.2 5, 1, .inr (.inl of))), (oD, .inl (G.2 6, 1, .inr (.inr (.inr (.inl of2_4218)))))] ++ (W2_4219 ++ (W2_4226 ++ []))) := D_perm hpm_4229 hD
  refine W.eq (g2 := F0 m 1543 ls [.float rr_4225]) rfl ?_
  refine lv_fstore (lv' := [(7, .float rr_4225), (6, .int (nI ((q_share (dC C) (sx9 xs (i9 + 1))).1))), (0, .ref b), (1, .ref d), (2, .ref m0), (3, .ref o), (4, .ref oD), (5, .int (nI i9))]) hx hb dL_law_1543 hl (by decide) rfl (fun ls hl => ?_)
  refine lv_aload_n hx hb dL_law_1545 rfl (lv_at hl 4 rfl) ?_
  have hpm_4230 : (([(o, .inl (G.2 5, 1, .inr (.inl of))), (oD, .inl (G.2 6, 1, .inr (.inr (.inr (.inl of2_4218)))))] ++ (W2_4219 ++ (W2_4226 ++ []))) : va_W).Perm ([] ++ ([(o, .inl (G.2 5, 1, .inr (.inl of))), (oD, .inl (G.2 6, 1, .inr (.inr (.inr (.inl of2_4218)))))] ++ (W2_4219 ++ (W2_4226 ++ [])))) := segs_perm [[(o, .inl (G.2 5, 1, .inr (.inl of)))], [(oD, .inl (G.2 6, 1, .inr (.inr (.inr (.inl of2_4218)))))], W2_4219, W2_4226] [] [0, 1, 2, 3] rfl
  have hF := hF_ofP (wc := []) hD hS hA hpm_4230
  refine go_ctP hS hP hD hpm_4230 hF
      (va_runV (As := []) (rest := []) cf (eX4_thrown l G m0 M (((q_share (dC M) (sx9 xs (i9 + 1)))).1) W2_4226 (hq_4228) H.size) (cwV 0 hts (lw_V q1639 q1640 q1641 q58 q1642) rfl rfl rfl (by decide +kernel) ⟨Nat.le_of_ble_eq_true rfl, Nat.le_of_ble_eq_true rfl⟩) (preV_of hKB hE hS hF (MdW.recv hK hq_4228 (seg_at [[(o, .inl (G.2 5, 1, .inr (.inl of)))], [(oD, .inl (G.2 6, 1, .inr (.inr (.inr (.inl of2_4218)))))], W2_4219, W2_4226] 3 rfl hP)) (P_left (P_perm hpm_4230 hP)) ((D_left (D_perm hpm_4230 hD)).weaken (fun _ _ _ _ => trivial)) (roW.nil (seg_at [[(o, .inl (G.2 5, 1, .inr (.inl of)))], [(oD, .inl (G.2 6, 1, .inr (.inr (.inr (.inl of2_4218)))))], W2_4219, W2_4226] 3 rfl hP))) rfl rfl hl.1 rfl (lv_room (Nat.le_of_ble_eq_true rfl)) dL_law_1546 ⟨show cl + 60 + 0 ≤ 1200144 from by first | decide | omega, show sl + 200 + 0 ≤ 5495674 from by first | decide | omega⟩)
      (fun u_ H locs hq hph (hP : va_P G.1 CL (([(o, .inl (G.2 5, 1, .inr (.inl of))), (oD, .inl (G.2 6, 1, .inr (.inr (.inr (.inl of2_4218)))))] ++ (W2_4219 ++ (W2_4226 ++ []))) ++ []) H) (hD : va_D A (([(o, .inl (G.2 5, 1, .inr (.inl of))), (oD, .inl (G.2 6, 1, .inr (.inr (.inr (.inl of2_4218)))))] ++ (W2_4219 ++ (W2_4226 ++ []))) ++ [])) hS hfz hfk => ?_)
  have hpm_4231 : (([(o, .inl (G.2 5, 1, .inr (.inl of))), (oD, .inl (G.2 6, 1, .inr (.inr (.inr (.inl of2_4218)))))] ++ (W2_4219 ++ (W2_4226 ++ []))) ++ [] : va_W).Perm ([(o, .inl (G.2 5, 1, .inr (.inl of))), (oD, .inl (G.2 6, 1, .inr (.inr (.inr (.inl of2_4218)))))] ++ (W2_4219 ++ (W2_4226 ++ []))) := segs_perm2 [[(o, .inl (G.2 5, 1, .inr (.inl of)))], [(oD, .inl (G.2 6, 1, .inr (.inr (.inr (.inl of2_4218)))))], W2_4219, W2_4226] [] [0, 1, 2, 3] rfl
  have hP : va_P G.1 CL ([(o, .inl (G.2 5, 1, .inr (.inl of))), (oD, .inl (G.2 6, 1, .inr (.inr (.inr (.inl of2_4218)))))] ++ (W2_4219 ++ (W2_4226 ++ []))) H := P_perm hpm_4231 hP
  have hD : va_D A ([(o, .inl (G.2 5, 1, .inr (.inl of))), (oD, .inl (G.2 6, 1, .inr (.inr (.inr (.inl of2_4218)))))] ++ (W2_4219 ++ (W2_4226 ++ []))) := D_perm hpm_4231 hD
  refine W.eq (g2 := F0 m 1549 ls [.int (nI (((q_share (dC M) (sx9 xs (i9 + 1)))).1))]) rfl ?_
  refine lv_ton (n := ((q_share (dC C) (sx9 xs (i9 + 1))).1)) (congrArg nI (by rw [hqs])) ?_
  refine lv_iload hx hb dL_law_1549 (lv_at hl 1 rfl) ?_
  refine lv_icmp_eq (tgt := 1556) hx hb dL_law_1551 (by decide) (fun _ => ?_) (fun c9 => absurd rfl c9)
  refine lv_iload hx hb dL_law_1556 (lv_at hl 1 rfl) ?_
  refine n_if_ne (tgt := 1594) hx hb (by omega) dL_law_1558 (by decide) (fun c_4232 => ?_) (fun c_4232 => ?_)
  · refine lv_goto (tgt := 2788) hx hb dL_law_1594 (by decide) ?_
    have hpm_4233 : (([(o, .inl (G.2 5, 1, .inr (.inl of))), (oD, .inl (G.2 6, 1, .inr (.inr (.inr (.inl of2_4218)))))] ++ (W2_4219 ++ (W2_4226 ++ []))) : va_W).Perm (([(o, .inl (G.2 5, 1, .inr (.inl of))), (oD, .inl (G.2 6, 1, .inr (.inr (.inr (.inl of2_4218)))))] ++ (W2_4219 ++ (W2_4226 ++ []))) ++ []) := segs_perm [[(o, .inl (G.2 5, 1, .inr (.inl of)))], [(oD, .inl (G.2 6, 1, .inr (.inr (.inr (.inl of2_4218)))))], W2_4219, W2_4226] [0, 1, 2, 3] [] rfl
    have hP : va_P G.1 CL ([(o, .inl (G.2 5, 1, .inr (.inl of))), (oD, .inl (G.2 6, 1, .inr (.inr (.inr (.inl of2_4218)))))] ++ (W2_4219 ++ (W2_4226 ++ []))) H := P_left (P_perm hpm_4233 hP)
    have hD : va_D A ([(o, .inl (G.2 5, 1, .inr (.inl of))), (oD, .inl (G.2 6, 1, .inr (.inr (.inr (.inl of2_4218)))))] ++ (W2_4219 ++ (W2_4226 ++ []))) := D_left (D_perm hpm_4233 hD)
    have hl := lv_sub hl [2, 3, 4, 5, 6, 7] (l' := [(0, .ref b), (1, .ref d), (2, .ref m0), (3, .ref o), (4, .ref oD), (5, .int (nI i9))]) rfl
    exact W.widen (show cl + 60 ≤ cl + 20000 from by omega) (show sl + 200 ≤ sl + 45000 from by omega) (kk ls H locs C M (((q_share (dC M) (sx9 xs (i9 + 1)))).1) W2_4219 W2_4226 of of2_4218 hP hD hS hl hq_4222 hq_4228 hLw.up)
  · refine lv_aload hx hb dL_law_1561 (lv_at hl 6 rfl) ?_
    refine lv_iconst (v := nI 0) hx hb dL_law_1563 (by decide) ?_
    refine r_dald (v := FP.f2d (((q_share (dC C) (sx9 xs (i9 + 1)))).2)) hx hb hK hP 1 6 rfl rfl (i := 0) (by omega) (by omega) ((hq_4220 (by omega))) dL_law_1564 ?_
    refine lv_fload hx hb dL_law_1565 (lv_at hl 0 rfl) ?_
    refine lv_tov (y := .float (((q_share (dC C) (sx9 xs (i9 + 1)))).2)) ((hq_4227 (by rw [hqs]; omega)).trans (by rw [hqs])) ?_
    refine lv_f2d hx hb dL_law_1567 (share_f2d hIc (show (q_share (dC C) (sx9 xs (i9 + 1))) = (0, ((q_share (dC C) (sx9 xs (i9 + 1)))).2) from Prod.ext (by show _ = 0; omega) rfl)) ?_
    refine lv_dcmp hx hb dL_law_1568 ?_
    refine lv_ton (n := 0) (by rw [dcmp_rf (share_f2d hIc (show (q_share (dC C) (sx9 xs (i9 + 1))) = (0, ((q_share (dC C) (sx9 xs (i9 + 1)))).2) from Prod.ext (by show _ = 0; omega) rfl))]; rfl) ?_
    refine n_if_eq (tgt := 1594) hx hb (by omega) dL_law_1569 (by decide) (fun c_4234 => ?_) (fun c_4234 => absurd c_4234 (by omega))
    refine lv_goto (tgt := 2788) hx hb dL_law_1594 (by decide) ?_
    have hpm_4235 : (([(o, .inl (G.2 5, 1, .inr (.inl of))), (oD, .inl (G.2 6, 1, .inr (.inr (.inr (.inl of2_4218)))))] ++ (W2_4219 ++ (W2_4226 ++ []))) : va_W).Perm (([(o, .inl (G.2 5, 1, .inr (.inl of))), (oD, .inl (G.2 6, 1, .inr (.inr (.inr (.inl of2_4218)))))] ++ (W2_4219 ++ (W2_4226 ++ []))) ++ []) := segs_perm [[(o, .inl (G.2 5, 1, .inr (.inl of)))], [(oD, .inl (G.2 6, 1, .inr (.inr (.inr (.inl of2_4218)))))], W2_4219, W2_4226] [0, 1, 2, 3] [] rfl
    have hP : va_P G.1 CL ([(o, .inl (G.2 5, 1, .inr (.inl of))), (oD, .inl (G.2 6, 1, .inr (.inr (.inr (.inl of2_4218)))))] ++ (W2_4219 ++ (W2_4226 ++ []))) H := P_left (P_perm hpm_4235 hP)
    have hD : va_D A ([(o, .inl (G.2 5, 1, .inr (.inl of))), (oD, .inl (G.2 6, 1, .inr (.inr (.inr (.inl of2_4218)))))] ++ (W2_4219 ++ (W2_4226 ++ []))) := D_left (D_perm hpm_4235 hD)
    have hl := lv_sub hl [2, 3, 4, 5, 6, 7] (l' := [(0, .ref b), (1, .ref d), (2, .ref m0), (3, .ref o), (4, .ref oD), (5, .int (nI i9))]) rfl
    exact W.widen (show cl + 60 ≤ cl + 20000 from by omega) (show sl + 200 ≤ sl + 45000 from by omega) (kk ls H locs C M (((q_share (dC M) (sx9 xs (i9 + 1)))).1) W2_4219 W2_4226 of of2_4218 hP hD hS hl hq_4222 hq_4228 hLw.up)

set_option maxHeartbeats 4000000 in
theorem lawK_24 {p : Program} {l : Launch} {e : Env} {s : State} {m : MethodId} {below : List Frame} {meth : Method} {c : Code} {G : Gt} {A : Nat → Prop} {b L : Nat} {xs : Nat → Int32} {Q : State → Prop} {d m0 o oD i9 N cl sl : Nat} (hfl : l.stackTraces = false) (F : LwF G A p s m c b L xs) (hi9 : i9 + 4 ≤ L) (hN24 : N ≤ 24) (hcl : cl + 20000 ≤ 1200144) (hsl : sl + 45000 ≤ 5495674) (kk : ∀ (ls : Array Slot) (H : Heap) (locs : List Loc) (C M : DS) (th : Nat) (WD WM : va_W) (of : Nat → Int64) (og : Nat → UInt64), va_P G.1 CL ([(o, .inl (G.2 5, 1, .inr (.inl of))), (oD, .inl (G.2 6, 1, .inr (.inr (.inr (.inl og)))))] ++ (WD ++ (WM ++ []))) H → va_D A ([(o, .inl (G.2 5, 1, .inr (.inl of))), (oD, .inl (G.2 6, 1, .inr (.inr (.inr (.inl og)))))] ++ (WD ++ (WM ++ []))) → va_S A s.heap H locs → lv_has ls 10 [(0, .ref b), (1, .ref d), (2, .ref m0), (3, .ref o), (4, .ref oD), (5, .int (nI i9))] → DyW G d C WD → MdW G m0 M th WM → LawI C M (N + 1) → W p l e room_1 s m #[Value.ref b] below meth c H locs (cl + 20000) (sl + 45000) Q (F0 m 2788 ls [])) {ls : Array Slot} {H : Heap} {locs : List Loc} {C M : DS} {th : Nat} {WD WM : va_W} {of : Nat → Int64} {og : Nat → UInt64} (hP : va_P G.1 CL ([(o, .inl (G.2 5, 1, .inr (.inl of))), (oD, .inl (G.2 6, 1, .inr (.inr (.inr (.inl og)))))] ++ (WD ++ (WM ++ []))) H) (hD : va_D A ([(o, .inl (G.2 5, 1, .inr (.inl of))), (oD, .inl (G.2 6, 1, .inr (.inr (.inr (.inl og)))))] ++ (WD ++ (WM ++ [])))) (hS : va_S A s.heap H locs) (hl : lv_has ls 10 [(0, .ref b), (1, .ref d), (2, .ref m0), (3, .ref o), (4, .ref oD), (5, .int (nI i9))]) (hDy : DyW G d C WD) (hMd : MdW G m0 M th WM) (hLw : LawI C M N) : W p l e room_1 s m #[Value.ref b] below meth c H locs cl sl Q (F0 m 1597 ls []) := by
  obtain ⟨cf, hKB, hE, hA, hX9, hbl, hbA, hNc, hL96⟩ := F
  have hx := cf.1
  have hb := cf.2.1
  have hml := cf.2.2.1
  have hown : s.vm.findClass RX0 = some m.cls := cf.2.2.2.1
  have hts := cf.2.2.2.2
  have hK := hKB.1
  have hIc := hDy.inv.1
  have hIm : Inv (dC M) := Inv_sim hLw.1 hIc
  have hRk : RkOk (dC M) := RkOk_sim hLw.1 (RkOk_srt hDy.inv.2.2)
  have hl := hl
  refine lv_aload_n hx hb dL_law_1597 rfl (lv_at hl 1 rfl) ?_
  have hpm_4236 : (([(o, .inl (G.2 5, 1, .inr (.inl of))), (oD, .inl (G.2 6, 1, .inr (.inr (.inr (.inl og)))))] ++ (WD ++ (WM ++ []))) : va_W).Perm ((WD ++ []) ++ ([(o, .inl (G.2 5, 1, .inr (.inl of))), (oD, .inl (G.2 6, 1, .inr (.inr (.inr (.inl og)))))] ++ (WM ++ []))) := segs_perm [[(o, .inl (G.2 5, 1, .inr (.inl of)))], [(oD, .inl (G.2 6, 1, .inr (.inr (.inr (.inl og)))))], WD, WM] [2] [0, 1, 3] rfl
  have hF := hF_ofP (wc := (WD ++ [])) hD hS hA hpm_4236
  refine go_ctP hS hP hD hpm_4236 hF
      (va_runV (As := []) (rest := []) cf (dX1_meanLoad l G d C WD (hDy) H.size) (cwV 0 hts (lw_V q271 q272 q273 q47 q274) rfl rfl rfl (by decide +kernel) ⟨Nat.le_of_ble_eq_true rfl, Nat.le_of_ble_eq_true rfl⟩) (preV_of hKB hE hS hF (DyW.recv hK hDy (seg_at [[(o, .inl (G.2 5, 1, .inr (.inl of)))], [(oD, .inl (G.2 6, 1, .inr (.inr (.inr (.inl og)))))], WD, WM] 2 rfl hP)) (P_left (P_perm hpm_4236 hP)) ((D_left (D_perm hpm_4236 hD)).weaken (fun _ _ _ _ => trivial)) trivial) rfl rfl hl.1 rfl (lv_room (Nat.le_of_ble_eq_true rfl)) dL_law_1598 ⟨show cl + 8300 ≤ 1200144 from by first | decide | omega, show sl + 17000 ≤ 5495674 from by first | decide | omega⟩)
      (fun u_ H locs hq hph (hP : va_P G.1 CL (([(o, .inl (G.2 5, 1, .inr (.inl of))), (oD, .inl (G.2 6, 1, .inr (.inr (.inr (.inl og)))))] ++ (WM ++ [])) ++ (u_.2 ++ [])) H) (hD : va_D A (([(o, .inl (G.2 5, 1, .inr (.inl of))), (oD, .inl (G.2 6, 1, .inr (.inr (.inr (.inl og)))))] ++ (WM ++ [])) ++ (u_.2 ++ []))) hS hfz hfk => ?_)
  obtain ⟨rr_4237, W2_4238⟩ := u_
  obtain ⟨hq_4239, hq_4240⟩ : q_mean (dC C) = (0, rr_4237) ∧ DyW G d C W2_4238 := hq
  have hpm_4241 : (([(o, .inl (G.2 5, 1, .inr (.inl of))), (oD, .inl (G.2 6, 1, .inr (.inr (.inr (.inl og)))))] ++ (WM ++ [])) ++ (W2_4238 ++ []) : va_W).Perm ([(o, .inl (G.2 5, 1, .inr (.inl of))), (oD, .inl (G.2 6, 1, .inr (.inr (.inr (.inl og)))))] ++ (WM ++ (W2_4238 ++ []))) := segs_perm2 [[(o, .inl (G.2 5, 1, .inr (.inl of)))], [(oD, .inl (G.2 6, 1, .inr (.inr (.inr (.inl og)))))], WM] [W2_4238] [0, 1, 2, 3] rfl
  have hP : va_P G.1 CL ([(o, .inl (G.2 5, 1, .inr (.inl of))), (oD, .inl (G.2 6, 1, .inr (.inr (.inr (.inl og)))))] ++ (WM ++ (W2_4238 ++ []))) H := P_perm hpm_4241 hP
  have hD : va_D A ([(o, .inl (G.2 5, 1, .inr (.inl of))), (oD, .inl (G.2 6, 1, .inr (.inr (.inr (.inl og)))))] ++ (WM ++ (W2_4238 ++ []))) := D_perm hpm_4241 hD
  refine W.eq (g2 := F0 m 1601 ls [.double rr_4237]) rfl ?_
  have hqs : (q_mean (dC M)) = (q_mean (dC C)) := q_mean_sim hLw.1.symm hIm 
  refine lv_tov (y := .double (((q_mean (dC C))).2)) ((congrArg Prod.snd hq_4239).symm) ?_
  refine lv_dstore (lv' := [(6, .double (((q_mean (dC C))).2)), (0, .ref b), (1, .ref d), (2, .ref m0), (3, .ref o), (4, .ref oD), (5, .int (nI i9))]) hx hb dL_law_1601 hl (by decide) rfl (fun ls hl => ?_)
  refine lv_aload_n hx hb dL_law_1603 rfl (lv_at hl 3 rfl) ?_
  have hpm_4242 : (([(o, .inl (G.2 5, 1, .inr (.inl of))), (oD, .inl (G.2 6, 1, .inr (.inr (.inr (.inl og)))))] ++ (WM ++ (W2_4238 ++ []))) : va_W).Perm ((WM ++ []) ++ ([(o, .inl (G.2 5, 1, .inr (.inl of))), (oD, .inl (G.2 6, 1, .inr (.inr (.inr (.inl og)))))] ++ (W2_4238 ++ []))) := segs_perm [[(o, .inl (G.2 5, 1, .inr (.inl of)))], [(oD, .inl (G.2 6, 1, .inr (.inr (.inr (.inl og)))))], WM, W2_4238] [2] [0, 1, 3] rfl
  have hF := hF_ofP (wc := (WM ++ [])) hD hS hA hpm_4242
  refine go_ctP hS hP hD hpm_4242 hF
      (va_runV (As := []) (rest := []) cf (eX4_meanLoad l G m0 M th WM (hMd) (hIm) H.size) (cwV 0 hts (lw_V q1803 q1804 q1805 q58 q1806) rfl rfl rfl (by decide +kernel) ⟨Nat.le_of_ble_eq_true rfl, Nat.le_of_ble_eq_true rfl⟩) (preV_of hKB hE hS hF (MdW.recv hK hMd (seg_at [[(o, .inl (G.2 5, 1, .inr (.inl of)))], [(oD, .inl (G.2 6, 1, .inr (.inr (.inr (.inl og)))))], WM, W2_4238] 2 rfl hP)) (P_left (P_perm hpm_4242 hP)) ((D_left (D_perm hpm_4242 hD)).weaken (fun _ _ _ _ => trivial)) trivial) rfl rfl hl.1 rfl (lv_room (Nat.le_of_ble_eq_true rfl)) dL_law_1604 ⟨show cl + 8300 + 0 ≤ 1200144 from by first | decide | omega, show sl + 17000 + 0 ≤ 5495674 from by first | decide | omega⟩)
      (fun u_ H locs hq hph (hP : va_P G.1 CL (([(o, .inl (G.2 5, 1, .inr (.inl of))), (oD, .inl (G.2 6, 1, .inr (.inr (.inr (.inl og)))))] ++ (W2_4238 ++ [])) ++ (u_.2 ++ [])) H) (hD : va_D A (([(o, .inl (G.2 5, 1, .inr (.inl of))), (oD, .inl (G.2 6, 1, .inr (.inr (.inr (.inl og)))))] ++ (W2_4238 ++ [])) ++ (u_.2 ++ []))) hS hfz hfk => ?_)
  obtain ⟨rr_4243, W2_4244⟩ := u_
  obtain ⟨hq_4245, hq_4246⟩ : ((q_mean (dC M)).1 = 0 → rr_4243 = (q_mean (dC M)).2) ∧ MdW G m0 M (q_mean (dC M)).1 W2_4244 := hq
  have hpm_4247 : (([(o, .inl (G.2 5, 1, .inr (.inl of))), (oD, .inl (G.2 6, 1, .inr (.inr (.inr (.inl og)))))] ++ (W2_4238 ++ [])) ++ (W2_4244 ++ []) : va_W).Perm ([(o, .inl (G.2 5, 1, .inr (.inl of))), (oD, .inl (G.2 6, 1, .inr (.inr (.inr (.inl og)))))] ++ (W2_4238 ++ (W2_4244 ++ []))) := segs_perm2 [[(o, .inl (G.2 5, 1, .inr (.inl of)))], [(oD, .inl (G.2 6, 1, .inr (.inr (.inr (.inl og)))))], W2_4238] [W2_4244] [0, 1, 2, 3] rfl
  have hP : va_P G.1 CL ([(o, .inl (G.2 5, 1, .inr (.inl of))), (oD, .inl (G.2 6, 1, .inr (.inr (.inr (.inl og)))))] ++ (W2_4238 ++ (W2_4244 ++ []))) H := P_perm hpm_4247 hP
  have hD : va_D A ([(o, .inl (G.2 5, 1, .inr (.inl of))), (oD, .inl (G.2 6, 1, .inr (.inr (.inr (.inl og)))))] ++ (W2_4238 ++ (W2_4244 ++ []))) := D_perm hpm_4247 hD
  refine W.eq (g2 := F0 m 1607 ls [.double rr_4243]) rfl ?_
  refine lv_tov (y := .double (((q_mean (dC C))).2)) ((hq_4245 (by rw [hqs, hq_4239])).trans (by rw [hqs])) ?_
  refine lv_dstore (lv' := [(8, .double (((q_mean (dC C))).2)), (6, .double (((q_mean (dC C))).2)), (0, .ref b), (1, .ref d), (2, .ref m0), (3, .ref o), (4, .ref oD), (5, .int (nI i9))]) hx hb dL_law_1607 hl (by decide) rfl (fun ls hl => ?_)
  refine lv_dload hx hb dL_law_1609 (lv_at hl 1 rfl) ?_
  refine lv_dload hx hb dL_law_1611 (lv_at hl 0 rfl) ?_
  refine lv_dcmp hx hb dL_law_1613 ?_
  refine lv_ton (n := 0) (by rw [dcmp_rf (mean_num _ (nI_ne0 (by omega) (by have := iv_bD hIc; omega)))]; rfl) ?_
  refine n_if_eq (tgt := 1635) hx hb (by omega) dL_law_1614 (by decide) (fun c_4248 => ?_) (fun c_4248 => absurd c_4248 (by omega))
  refine lv_goto (tgt := 2788) hx hb dL_law_1635 (by decide) ?_
  have hpm_4249 : (([(o, .inl (G.2 5, 1, .inr (.inl of))), (oD, .inl (G.2 6, 1, .inr (.inr (.inr (.inl og)))))] ++ (W2_4238 ++ (W2_4244 ++ []))) : va_W).Perm (([(o, .inl (G.2 5, 1, .inr (.inl of))), (oD, .inl (G.2 6, 1, .inr (.inr (.inr (.inl og)))))] ++ (W2_4238 ++ (W2_4244 ++ []))) ++ []) := segs_perm [[(o, .inl (G.2 5, 1, .inr (.inl of)))], [(oD, .inl (G.2 6, 1, .inr (.inr (.inr (.inl og)))))], W2_4238, W2_4244] [0, 1, 2, 3] [] rfl
  have hP : va_P G.1 CL ([(o, .inl (G.2 5, 1, .inr (.inl of))), (oD, .inl (G.2 6, 1, .inr (.inr (.inr (.inl og)))))] ++ (W2_4238 ++ (W2_4244 ++ []))) H := P_left (P_perm hpm_4249 hP)
  have hD : va_D A ([(o, .inl (G.2 5, 1, .inr (.inl of))), (oD, .inl (G.2 6, 1, .inr (.inr (.inr (.inl og)))))] ++ (W2_4238 ++ (W2_4244 ++ []))) := D_left (D_perm hpm_4249 hD)
  have hl := lv_sub hl [2, 3, 4, 5, 6, 7] (l' := [(0, .ref b), (1, .ref d), (2, .ref m0), (3, .ref o), (4, .ref oD), (5, .int (nI i9))]) rfl
  exact W.widen (show cl + 8300 ≤ cl + 20000 from by omega) (show sl + 17000 ≤ sl + 45000 from by omega) (kk ls H locs C M (((q_mean (dC M))).1) W2_4238 W2_4244 of og hP hD hS hl hq_4240 hq_4246 hLw.up)

set_option maxHeartbeats 4000000 in
theorem lawK_25 {p : Program} {l : Launch} {e : Env} {s : State} {m : MethodId} {below : List Frame} {meth : Method} {c : Code} {G : Gt} {A : Nat → Prop} {b L : Nat} {xs : Nat → Int32} {Q : State → Prop} {d m0 o oD i9 N cl sl : Nat} (hfl : l.stackTraces = false) (F : LwF G A p s m c b L xs) (hi9 : i9 + 4 ≤ L) (hN24 : N ≤ 24) (hcl : cl + 20000 ≤ 1200144) (hsl : sl + 45000 ≤ 5495674) (kk : ∀ (ls : Array Slot) (H : Heap) (locs : List Loc) (C M : DS) (th : Nat) (WD WM : va_W) (of : Nat → Int64) (og : Nat → UInt64), va_P G.1 CL ([(o, .inl (G.2 5, 1, .inr (.inl of))), (oD, .inl (G.2 6, 1, .inr (.inr (.inr (.inl og)))))] ++ (WD ++ (WM ++ []))) H → va_D A ([(o, .inl (G.2 5, 1, .inr (.inl of))), (oD, .inl (G.2 6, 1, .inr (.inr (.inr (.inl og)))))] ++ (WD ++ (WM ++ []))) → va_S A s.heap H locs → lv_has ls 10 [(0, .ref b), (1, .ref d), (2, .ref m0), (3, .ref o), (4, .ref oD), (5, .int (nI i9))] → DyW G d C WD → MdW G m0 M th WM → LawI C M (N + 1) → W p l e room_1 s m #[Value.ref b] below meth c H locs (cl + 20000) (sl + 45000) Q (F0 m 2788 ls [])) {ls : Array Slot} {H : Heap} {locs : List Loc} {C M : DS} {th : Nat} {WD WM : va_W} {of : Nat → Int64} {og : Nat → UInt64} (hP : va_P G.1 CL ([(o, .inl (G.2 5, 1, .inr (.inl of))), (oD, .inl (G.2 6, 1, .inr (.inr (.inr (.inl og)))))] ++ (WD ++ (WM ++ []))) H) (hD : va_D A ([(o, .inl (G.2 5, 1, .inr (.inl of))), (oD, .inl (G.2 6, 1, .inr (.inr (.inr (.inl og)))))] ++ (WD ++ (WM ++ [])))) (hS : va_S A s.heap H locs) (hl : lv_has ls 10 [(0, .ref b), (1, .ref d), (2, .ref m0), (3, .ref o), (4, .ref oD), (5, .int (nI i9))]) (hDy : DyW G d C WD) (hMd : MdW G m0 M th WM) (hLw : LawI C M N) : W p l e room_1 s m #[Value.ref b] below meth c H locs cl sl Q (F0 m 1638 ls []) := by
  obtain ⟨cf, hKB, hE, hA, hX9, hbl, hbA, hNc, hL96⟩ := F
  have hx := cf.1
  have hb := cf.2.1
  have hml := cf.2.2.1
  have hown : s.vm.findClass RX0 = some m.cls := cf.2.2.2.1
  have hts := cf.2.2.2.2
  have hK := hKB.1
  have hIc := hDy.inv.1
  have hIm : Inv (dC M) := Inv_sim hLw.1 hIc
  have hRk : RkOk (dC M) := RkOk_sim hLw.1 (RkOk_srt hDy.inv.2.2)
  have hl := hl
  refine lv_aload_n hx hb dL_law_1638 rfl (lv_at hl 1 rfl) ?_
  refine lv_aload_n hx hb dL_law_1639 rfl (lv_at hl 0 rfl) ?_
  refine lv_iload hx hb dL_law_1640 (lv_at hl 5 rfl) ?_
  refine lv_iconst (v := nI 1) hx hb dL_law_1642 (by decide) ?_
  refine lv_iadd hx hb dL_law_1643 ?_
  refine lv_ton (n := i9 + 1) (nadd (by omega)) ?_
  refine va_sld hx hb hX9 hbl hbA hS (i := nI (i9 + 1)) (vp9 (by omega) hL96) dL_law_1644 ?_
  refine W.eq (g2 := F0 m 1645 ls [.int (sx9 xs (i9 + 1)), .ref d]) rfl ?_
  refine lv_aload_n hx hb dL_law_1645 rfl (lv_at hl 3 rfl) ?_
  have hpm_4250 : (([(o, .inl (G.2 5, 1, .inr (.inl of))), (oD, .inl (G.2 6, 1, .inr (.inr (.inr (.inl og)))))] ++ (WD ++ (WM ++ []))) : va_W).Perm (([(o, .inl (G.2 5, 1, .inr (.inl of)))] ++ (WD ++ [])) ++ ([(oD, .inl (G.2 6, 1, .inr (.inr (.inr (.inl og)))))] ++ (WM ++ []))) := segs_perm [[(o, .inl (G.2 5, 1, .inr (.inl of)))], [(oD, .inl (G.2 6, 1, .inr (.inr (.inr (.inl og)))))], WD, WM] [0, 2] [1, 3] rfl
  have hF := hF_ofP (wc := ([(o, .inl (G.2 5, 1, .inr (.inl of)))] ++ (WD ++ []))) hD hS hA hpm_4250
  refine go_ctP hS hP hD hpm_4250 hF
      (vx_runSW (As := [.ref d, .int (sx9 xs (i9 + 1)), .ref o]) (rest := []) cf (wX0_fitnessOn l G d C WD o of (sx9 xs (i9 + 1)) (hDy) hfl H.size) (vx_cwSW 3 hts (lw_SW q1299 q1300 q46 q1301) rfl rfl rfl (by decide +kernel) ⟨Nat.le_of_ble_eq_true rfl, Nat.le_of_ble_eq_true rfl⟩) (preS_ofW hNc hKB hE hS hF (P_left (P_perm hpm_4250 hP)) ((D_left (D_perm hpm_4250 hD)).weaken (fun _ _ _ _ => trivial)) trivial) rfl rfl hl.1 rfl (lv_room (Nat.le_of_ble_eq_true rfl)) dL_law_1646 ⟨show cl + 8300 ≤ 1200144 from by first | decide | omega, show sl + 17000 ≤ 5495674 from by first | decide | omega⟩)
      (fun u_ H locs hq hph (hP : va_P G.1 CL (([(oD, .inl (G.2 6, 1, .inr (.inr (.inr (.inl og)))))] ++ (WM ++ [])) ++ ([(o, .inl (G.2 5, 1, .inr (.inl u_.1)))] ++ (u_.2 ++ []))) H) (hD : va_D A (([(oD, .inl (G.2 6, 1, .inr (.inr (.inr (.inl og)))))] ++ (WM ++ [])) ++ ([(o, .inl (G.2 5, 1, .inr (.inl u_.1)))] ++ (u_.2 ++ [])))) hS hfz hfk => ?_)
  obtain ⟨of2_4251, W2_4252⟩ := u_
  obtain ⟨hq_4253, hq_4254, hq_4255⟩ : ((q_fit (dC C) (sx9 xs (i9 + 1))).1 = 0 → of2_4251 0 = ((q_fit (dC C) (sx9 xs (i9 + 1))).2).toInt64) ∧ (q_fit (dC C) (sx9 xs (i9 + 1))).1 < 10 ∧ DyW G d C W2_4252 := hq
  have hpm_4256 : (([(oD, .inl (G.2 6, 1, .inr (.inr (.inr (.inl og)))))] ++ (WM ++ [])) ++ ([(o, .inl (G.2 5, 1, .inr (.inl of2_4251)))] ++ (W2_4252 ++ [])) : va_W).Perm ([(oD, .inl (G.2 6, 1, .inr (.inr (.inr (.inl og))))), (o, .inl (G.2 5, 1, .inr (.inl of2_4251)))] ++ (WM ++ (W2_4252 ++ []))) := segs_perm2 [[(oD, .inl (G.2 6, 1, .inr (.inr (.inr (.inl og)))))], WM] [[(o, .inl (G.2 5, 1, .inr (.inl of2_4251)))], W2_4252] [0, 2, 1, 3] rfl
  have hP : va_P G.1 CL ([(oD, .inl (G.2 6, 1, .inr (.inr (.inr (.inl og))))), (o, .inl (G.2 5, 1, .inr (.inl of2_4251)))] ++ (WM ++ (W2_4252 ++ []))) H := P_perm hpm_4256 hP
  have hD : va_D A ([(oD, .inl (G.2 6, 1, .inr (.inr (.inr (.inl og))))), (o, .inl (G.2 5, 1, .inr (.inl of2_4251)))] ++ (WM ++ (W2_4252 ++ []))) := D_perm hpm_4256 hD
  refine W.eq (g2 := F0 m 1649 ls [.int (nI ((q_fit (dC C) (sx9 xs (i9 + 1))).1))]) rfl ?_
  have hqs : (q_fit (dC M) (sx9 xs (i9 + 1))) = (q_fit (dC C) (sx9 xs (i9 + 1))) := q_fit_sim hLw.1.symm hIm (sx9 xs (i9 + 1))
  refine lv_istore (lv' := [(6, .int (nI ((q_fit (dC C) (sx9 xs (i9 + 1))).1))), (0, .ref b), (1, .ref d), (2, .ref m0), (3, .ref o), (4, .ref oD), (5, .int (nI i9))]) hx hb dL_law_1649 hl (by decide) rfl (fun ls hl => ?_)
  refine lv_aload_n hx hb dL_law_1651 rfl (lv_at hl 3 rfl) ?_
  refine lv_aload_n hx hb dL_law_1652 rfl (lv_at hl 1 rfl) ?_
  refine lv_iload hx hb dL_law_1653 (lv_at hl 6 rfl) ?_
  refine lv_iconst (v := nI 1) hx hb dL_law_1655 (by decide) ?_
  refine lv_iadd hx hb dL_law_1656 ?_
  refine lv_ton (n := i9 + 1) (nadd (by omega)) ?_
  refine va_sld hx hb hX9 hbl hbA hS (i := nI (i9 + 1)) (vp9 (by omega) hL96) dL_law_1657 ?_
  refine W.eq (g2 := F0 m 1658 ls [.int (sx9 xs (i9 + 1)), .ref m0]) rfl ?_
  have hpm_4257 : (([(oD, .inl (G.2 6, 1, .inr (.inr (.inr (.inl og))))), (o, .inl (G.2 5, 1, .inr (.inl of2_4251)))] ++ (WM ++ (W2_4252 ++ []))) : va_W).Perm ((WM ++ []) ++ ([(oD, .inl (G.2 6, 1, .inr (.inr (.inr (.inl og))))), (o, .inl (G.2 5, 1, .inr (.inl of2_4251)))] ++ (W2_4252 ++ []))) := segs_perm [[(oD, .inl (G.2 6, 1, .inr (.inr (.inr (.inl og)))))], [(o, .inl (G.2 5, 1, .inr (.inl of2_4251)))], WM, W2_4252] [2] [0, 1, 3] rfl
  have hF := hF_ofP (wc := (WM ++ [])) hD hS hA hpm_4257
  refine go_ctP hS hP hD hpm_4257 hF
      (va_runV (As := [.int (sx9 xs (i9 + 1))]) (rest := []) cf (eX4_fitnessOn l G m0 M th WM (sx9 xs (i9 + 1)) (hMd) (hIm) H.size) (cwV 1 hts (lw_V q1807 q1808 q1809 q58 q1810) rfl rfl rfl (by decide +kernel) ⟨Nat.le_of_ble_eq_true rfl, Nat.le_of_ble_eq_true rfl⟩) (preV_of hKB hE hS hF (MdW.recv hK hMd (seg_at [[(oD, .inl (G.2 6, 1, .inr (.inr (.inr (.inl og)))))], [(o, .inl (G.2 5, 1, .inr (.inl of2_4251)))], WM, W2_4252] 2 rfl hP)) (P_left (P_perm hpm_4257 hP)) ((D_left (D_perm hpm_4257 hD)).weaken (fun _ _ _ _ => trivial)) trivial) rfl rfl hl.1 rfl (lv_room (Nat.le_of_ble_eq_true rfl)) dL_law_1658 ⟨show cl + 8300 + 0 ≤ 1200144 from by first | decide | omega, show sl + 17000 + 0 ≤ 5495674 from by first | decide | omega⟩)
      (fun u_ H locs hq hph (hP : va_P G.1 CL (([(oD, .inl (G.2 6, 1, .inr (.inr (.inr (.inl og))))), (o, .inl (G.2 5, 1, .inr (.inl of2_4251)))] ++ (W2_4252 ++ [])) ++ (u_.2 ++ [])) H) (hD : va_D A (([(oD, .inl (G.2 6, 1, .inr (.inr (.inr (.inl og))))), (o, .inl (G.2 5, 1, .inr (.inl of2_4251)))] ++ (W2_4252 ++ [])) ++ (u_.2 ++ []))) hS hfz hfk => ?_)
  obtain ⟨rr_4258, W2_4259⟩ := u_
  obtain ⟨hq_4260, hq_4261⟩ : ((q_fit (dC M) (sx9 xs (i9 + 1))).1 = 0 → rr_4258 = (q_fit (dC M) (sx9 xs (i9 + 1))).2) ∧ MdW G m0 M (q_fit (dC M) (sx9 xs (i9 + 1))).1 W2_4259 := hq
  have hpm_4262 : (([(oD, .inl (G.2 6, 1, .inr (.inr (.inr (.inl og))))), (o, .inl (G.2 5, 1, .inr (.inl of2_4251)))] ++ (W2_4252 ++ [])) ++ (W2_4259 ++ []) : va_W).Perm ([(oD, .inl (G.2 6, 1, .inr (.inr (.inr (.inl og))))), (o, .inl (G.2 5, 1, .inr (.inl of2_4251)))] ++ (W2_4252 ++ (W2_4259 ++ []))) := segs_perm2 [[(oD, .inl (G.2 6, 1, .inr (.inr (.inr (.inl og)))))], [(o, .inl (G.2 5, 1, .inr (.inl of2_4251)))], W2_4252] [W2_4259] [0, 1, 2, 3] rfl
  have hP : va_P G.1 CL ([(oD, .inl (G.2 6, 1, .inr (.inr (.inr (.inl og))))), (o, .inl (G.2 5, 1, .inr (.inl of2_4251)))] ++ (W2_4252 ++ (W2_4259 ++ []))) H := P_perm hpm_4262 hP
  have hD : va_D A ([(oD, .inl (G.2 6, 1, .inr (.inr (.inr (.inl og))))), (o, .inl (G.2 5, 1, .inr (.inl of2_4251)))] ++ (W2_4252 ++ (W2_4259 ++ []))) := D_perm hpm_4262 hD
  refine W.eq (g2 := F0 m 1661 ls [.int rr_4258]) rfl ?_
  refine lv_istore (lv' := [(7, .int rr_4258), (6, .int (nI ((q_fit (dC C) (sx9 xs (i9 + 1))).1))), (0, .ref b), (1, .ref d), (2, .ref m0), (3, .ref o), (4, .ref oD), (5, .int (nI i9))]) hx hb dL_law_1661 hl (by decide) rfl (fun ls hl => ?_)
  refine lv_aload_n hx hb dL_law_1663 rfl (lv_at hl 4 rfl) ?_
  have hpm_4263 : (([(oD, .inl (G.2 6, 1, .inr (.inr (.inr (.inl og))))), (o, .inl (G.2 5, 1, .inr (.inl of2_4251)))] ++ (W2_4252 ++ (W2_4259 ++ []))) : va_W).Perm ([] ++ ([(oD, .inl (G.2 6, 1, .inr (.inr (.inr (.inl og))))), (o, .inl (G.2 5, 1, .inr (.inl of2_4251)))] ++ (W2_4252 ++ (W2_4259 ++ [])))) := segs_perm [[(oD, .inl (G.2 6, 1, .inr (.inr (.inr (.inl og)))))], [(o, .inl (G.2 5, 1, .inr (.inl of2_4251)))], W2_4252, W2_4259] [] [0, 1, 2, 3] rfl
  have hF := hF_ofP (wc := []) hD hS hA hpm_4263
  refine go_ctP hS hP hD hpm_4263 hF
      (va_runV (As := []) (rest := []) cf (eX4_thrown l G m0 M (((q_fit (dC M) (sx9 xs (i9 + 1)))).1) W2_4259 (hq_4261) H.size) (cwV 0 hts (lw_V q1639 q1640 q1641 q58 q1642) rfl rfl rfl (by decide +kernel) ⟨Nat.le_of_ble_eq_true rfl, Nat.le_of_ble_eq_true rfl⟩) (preV_of hKB hE hS hF (MdW.recv hK hq_4261 (seg_at [[(oD, .inl (G.2 6, 1, .inr (.inr (.inr (.inl og)))))], [(o, .inl (G.2 5, 1, .inr (.inl of2_4251)))], W2_4252, W2_4259] 3 rfl hP)) (P_left (P_perm hpm_4263 hP)) ((D_left (D_perm hpm_4263 hD)).weaken (fun _ _ _ _ => trivial)) (roW.nil (seg_at [[(oD, .inl (G.2 6, 1, .inr (.inr (.inr (.inl og)))))], [(o, .inl (G.2 5, 1, .inr (.inl of2_4251)))], W2_4252, W2_4259] 3 rfl hP))) rfl rfl hl.1 rfl (lv_room (Nat.le_of_ble_eq_true rfl)) dL_law_1664 ⟨show cl + 8300 + 0 ≤ 1200144 from by first | decide | omega, show sl + 17000 + 0 ≤ 5495674 from by first | decide | omega⟩)
      (fun u_ H locs hq hph (hP : va_P G.1 CL (([(oD, .inl (G.2 6, 1, .inr (.inr (.inr (.inl og))))), (o, .inl (G.2 5, 1, .inr (.inl of2_4251)))] ++ (W2_4252 ++ (W2_4259 ++ []))) ++ []) H) (hD : va_D A (([(oD, .inl (G.2 6, 1, .inr (.inr (.inr (.inl og))))), (o, .inl (G.2 5, 1, .inr (.inl of2_4251)))] ++ (W2_4252 ++ (W2_4259 ++ []))) ++ [])) hS hfz hfk => ?_)
  have hpm_4264 : (([(oD, .inl (G.2 6, 1, .inr (.inr (.inr (.inl og))))), (o, .inl (G.2 5, 1, .inr (.inl of2_4251)))] ++ (W2_4252 ++ (W2_4259 ++ []))) ++ [] : va_W).Perm ([(oD, .inl (G.2 6, 1, .inr (.inr (.inr (.inl og))))), (o, .inl (G.2 5, 1, .inr (.inl of2_4251)))] ++ (W2_4252 ++ (W2_4259 ++ []))) := segs_perm2 [[(oD, .inl (G.2 6, 1, .inr (.inr (.inr (.inl og)))))], [(o, .inl (G.2 5, 1, .inr (.inl of2_4251)))], W2_4252, W2_4259] [] [0, 1, 2, 3] rfl
  have hP : va_P G.1 CL ([(oD, .inl (G.2 6, 1, .inr (.inr (.inr (.inl og))))), (o, .inl (G.2 5, 1, .inr (.inl of2_4251)))] ++ (W2_4252 ++ (W2_4259 ++ []))) H := P_perm hpm_4264 hP
  have hD : va_D A ([(oD, .inl (G.2 6, 1, .inr (.inr (.inr (.inl og))))), (o, .inl (G.2 5, 1, .inr (.inl of2_4251)))] ++ (W2_4252 ++ (W2_4259 ++ []))) := D_perm hpm_4264 hD
  refine W.eq (g2 := F0 m 1667 ls [.int (nI (((q_fit (dC M) (sx9 xs (i9 + 1)))).1))]) rfl ?_
  refine lv_ton (n := ((q_fit (dC C) (sx9 xs (i9 + 1))).1)) (congrArg nI (by rw [hqs])) ?_
  refine lv_iload hx hb dL_law_1667 (lv_at hl 1 rfl) ?_
  refine lv_icmp_eq (tgt := 1674) hx hb dL_law_1669 (by decide) (fun _ => ?_) (fun c9 => absurd rfl c9)
  refine lv_iload hx hb dL_law_1674 (lv_at hl 1 rfl) ?_
  refine n_if_ne (tgt := 1691) hx hb (by omega) dL_law_1676 (by decide) (fun c_4265 => ?_) (fun c_4265 => ?_)
  · refine lv_goto (tgt := 2788) hx hb dL_law_1691 (by decide) ?_
    have hpm_4266 : (([(oD, .inl (G.2 6, 1, .inr (.inr (.inr (.inl og))))), (o, .inl (G.2 5, 1, .inr (.inl of2_4251)))] ++ (W2_4252 ++ (W2_4259 ++ []))) : va_W).Perm (([(o, .inl (G.2 5, 1, .inr (.inl of2_4251))), (oD, .inl (G.2 6, 1, .inr (.inr (.inr (.inl og)))))] ++ (W2_4252 ++ (W2_4259 ++ []))) ++ []) := segs_perm [[(oD, .inl (G.2 6, 1, .inr (.inr (.inr (.inl og)))))], [(o, .inl (G.2 5, 1, .inr (.inl of2_4251)))], W2_4252, W2_4259] [1, 0, 2, 3] [] rfl
    have hP : va_P G.1 CL ([(o, .inl (G.2 5, 1, .inr (.inl of2_4251))), (oD, .inl (G.2 6, 1, .inr (.inr (.inr (.inl og)))))] ++ (W2_4252 ++ (W2_4259 ++ []))) H := P_left (P_perm hpm_4266 hP)
    have hD : va_D A ([(o, .inl (G.2 5, 1, .inr (.inl of2_4251))), (oD, .inl (G.2 6, 1, .inr (.inr (.inr (.inl og)))))] ++ (W2_4252 ++ (W2_4259 ++ []))) := D_left (D_perm hpm_4266 hD)
    have hl := lv_sub hl [2, 3, 4, 5, 6, 7] (l' := [(0, .ref b), (1, .ref d), (2, .ref m0), (3, .ref o), (4, .ref oD), (5, .int (nI i9))]) rfl
    exact W.widen (show cl + 8300 ≤ cl + 20000 from by omega) (show sl + 17000 ≤ sl + 45000 from by omega) (kk ls H locs C M (((q_fit (dC M) (sx9 xs (i9 + 1)))).1) W2_4252 W2_4259 of2_4251 og hP hD hS hl hq_4255 hq_4261 hLw.up)
  · refine lv_aload_n hx hb dL_law_1679 rfl (lv_at hl 5 rfl) ?_
    refine lv_iconst (v := nI 0) hx hb dL_law_1680 (by decide) ?_
    refine r_lald (v := (((q_fit (dC C) (sx9 xs (i9 + 1)))).2).toInt64) hx hb hK hP 1 5 rfl rfl (i := 0) (by omega) (by omega) ((hq_4253 (by omega))) dL_law_1681 ?_
    refine lv_iload hx hb dL_law_1682 (lv_at hl 0 rfl) ?_
    refine lv_toi (y := ((q_fit (dC C) (sx9 xs (i9 + 1)))).2) ((hq_4260 (by rw [hqs]; omega)).trans (by rw [hqs])) ?_
    refine lv_i2l (v := (((q_fit (dC C) (sx9 xs (i9 + 1)))).2).toInt64) hx hb dL_law_1684 rfl ?_
    refine W.lcmp hx hb dL_law_1685 ?_
    refine lv_ton (n := 0) (lcmp0 _) ?_
    refine n_if_eq (tgt := 1691) hx hb (by omega) dL_law_1686 (by decide) (fun c_4267 => ?_) (fun c_4267 => absurd c_4267 (by omega))
    refine lv_goto (tgt := 2788) hx hb dL_law_1691 (by decide) ?_
    have hpm_4268 : (([(oD, .inl (G.2 6, 1, .inr (.inr (.inr (.inl og))))), (o, .inl (G.2 5, 1, .inr (.inl of2_4251)))] ++ (W2_4252 ++ (W2_4259 ++ []))) : va_W).Perm (([(o, .inl (G.2 5, 1, .inr (.inl of2_4251))), (oD, .inl (G.2 6, 1, .inr (.inr (.inr (.inl og)))))] ++ (W2_4252 ++ (W2_4259 ++ []))) ++ []) := segs_perm [[(oD, .inl (G.2 6, 1, .inr (.inr (.inr (.inl og)))))], [(o, .inl (G.2 5, 1, .inr (.inl of2_4251)))], W2_4252, W2_4259] [1, 0, 2, 3] [] rfl
    have hP : va_P G.1 CL ([(o, .inl (G.2 5, 1, .inr (.inl of2_4251))), (oD, .inl (G.2 6, 1, .inr (.inr (.inr (.inl og)))))] ++ (W2_4252 ++ (W2_4259 ++ []))) H := P_left (P_perm hpm_4268 hP)
    have hD : va_D A ([(o, .inl (G.2 5, 1, .inr (.inl of2_4251))), (oD, .inl (G.2 6, 1, .inr (.inr (.inr (.inl og)))))] ++ (W2_4252 ++ (W2_4259 ++ []))) := D_left (D_perm hpm_4268 hD)
    have hl := lv_sub hl [2, 3, 4, 5, 6, 7] (l' := [(0, .ref b), (1, .ref d), (2, .ref m0), (3, .ref o), (4, .ref oD), (5, .int (nI i9))]) rfl
    exact W.widen (show cl + 8300 ≤ cl + 20000 from by omega) (show sl + 17000 ≤ sl + 45000 from by omega) (kk ls H locs C M (((q_fit (dC M) (sx9 xs (i9 + 1)))).1) W2_4252 W2_4259 of2_4251 og hP hD hS hl hq_4255 hq_4261 hLw.up)

set_option maxHeartbeats 4000000 in
theorem lawK_26 {p : Program} {l : Launch} {e : Env} {s : State} {m : MethodId} {below : List Frame} {meth : Method} {c : Code} {G : Gt} {A : Nat → Prop} {b L : Nat} {xs : Nat → Int32} {Q : State → Prop} {d m0 o oD i9 N cl sl : Nat} (hfl : l.stackTraces = false) (F : LwF G A p s m c b L xs) (hi9 : i9 + 4 ≤ L) (hN24 : N ≤ 24) (hcl : cl + 20000 ≤ 1200144) (hsl : sl + 45000 ≤ 5495674) (kk : ∀ (ls : Array Slot) (H : Heap) (locs : List Loc) (C M : DS) (th : Nat) (WD WM : va_W) (of : Nat → Int64) (og : Nat → UInt64), va_P G.1 CL ([(o, .inl (G.2 5, 1, .inr (.inl of))), (oD, .inl (G.2 6, 1, .inr (.inr (.inr (.inl og)))))] ++ (WD ++ (WM ++ []))) H → va_D A ([(o, .inl (G.2 5, 1, .inr (.inl of))), (oD, .inl (G.2 6, 1, .inr (.inr (.inr (.inl og)))))] ++ (WD ++ (WM ++ []))) → va_S A s.heap H locs → lv_has ls 10 [(0, .ref b), (1, .ref d), (2, .ref m0), (3, .ref o), (4, .ref oD), (5, .int (nI i9))] → DyW G d C WD → MdW G m0 M th WM → LawI C M (N + 1) → W p l e room_1 s m #[Value.ref b] below meth c H locs (cl + 20000) (sl + 45000) Q (F0 m 2788 ls [])) {ls : Array Slot} {H : Heap} {locs : List Loc} {C M : DS} {th : Nat} {WD WM : va_W} {of : Nat → Int64} {og : Nat → UInt64} (hP : va_P G.1 CL ([(o, .inl (G.2 5, 1, .inr (.inl of))), (oD, .inl (G.2 6, 1, .inr (.inr (.inr (.inl og)))))] ++ (WD ++ (WM ++ []))) H) (hD : va_D A ([(o, .inl (G.2 5, 1, .inr (.inl of))), (oD, .inl (G.2 6, 1, .inr (.inr (.inr (.inl og)))))] ++ (WD ++ (WM ++ [])))) (hS : va_S A s.heap H locs) (hl : lv_has ls 10 [(0, .ref b), (1, .ref d), (2, .ref m0), (3, .ref o), (4, .ref oD), (5, .int (nI i9))]) (hDy : DyW G d C WD) (hMd : MdW G m0 M th WM) (hLw : LawI C M N) : W p l e room_1 s m #[Value.ref b] below meth c H locs cl sl Q (F0 m 1694 ls []) := by
  obtain ⟨cf, hKB, hE, hA, hX9, hbl, hbA, hNc, hL96⟩ := F
  have hx := cf.1
  have hb := cf.2.1
  have hml := cf.2.2.1
  have hown : s.vm.findClass RX0 = some m.cls := cf.2.2.2.1
  have hts := cf.2.2.2.2
  have hK := hKB.1
  have hIc := hDy.inv.1
  have hIm : Inv (dC M) := Inv_sim hLw.1 hIc
  have hRk : RkOk (dC M) := RkOk_sim hLw.1 (RkOk_srt hDy.inv.2.2)
  have hl := hl
  refine lv_aload_n hx hb dL_law_1694 rfl (lv_at hl 1 rfl) ?_
  refine lv_aload_n hx hb dL_law_1695 rfl (lv_at hl 0 rfl) ?_
  refine lv_iload hx hb dL_law_1696 (lv_at hl 5 rfl) ?_
  refine lv_iconst (v := nI 1) hx hb dL_law_1698 (by decide) ?_
  refine lv_iadd hx hb dL_law_1699 ?_
  refine lv_ton (n := i9 + 1) (nadd (by omega)) ?_
  refine va_sld hx hb hX9 hbl hbA hS (i := nI (i9 + 1)) (vp9 (by omega) hL96) dL_law_1700 ?_
  refine W.eq (g2 := F0 m 1701 ls [.int (sx9 xs (i9 + 1)), .ref d]) rfl ?_
  refine lv_aload_n hx hb dL_law_1701 rfl (lv_at hl 3 rfl) ?_
  have hpm_4269 : (([(o, .inl (G.2 5, 1, .inr (.inl of))), (oD, .inl (G.2 6, 1, .inr (.inr (.inr (.inl og)))))] ++ (WD ++ (WM ++ []))) : va_W).Perm (([(o, .inl (G.2 5, 1, .inr (.inl of)))] ++ (WD ++ [])) ++ ([(oD, .inl (G.2 6, 1, .inr (.inr (.inr (.inl og)))))] ++ (WM ++ []))) := segs_perm [[(o, .inl (G.2 5, 1, .inr (.inl of)))], [(oD, .inl (G.2 6, 1, .inr (.inr (.inr (.inl og)))))], WD, WM] [0, 2] [1, 3] rfl
  have hF := hF_ofP (wc := ([(o, .inl (G.2 5, 1, .inr (.inl of)))] ++ (WD ++ []))) hD hS hA hpm_4269
  refine go_ctP hS hP hD hpm_4269 hF
      (vx_runSW (As := [.ref d, .int (sx9 xs (i9 + 1)), .ref o]) (rest := []) cf (wX0_fitnessFromStart l G d C WD o of (sx9 xs (i9 + 1)) (hDy) hfl H.size) (vx_cwSW 3 hts (lw_SW q1307 q1308 q46 q1309) rfl rfl rfl (by decide +kernel) ⟨Nat.le_of_ble_eq_true rfl, Nat.le_of_ble_eq_true rfl⟩) (preS_ofW hNc hKB hE hS hF (P_left (P_perm hpm_4269 hP)) ((D_left (D_perm hpm_4269 hD)).weaken (fun _ _ _ _ => trivial)) trivial) rfl rfl hl.1 rfl (lv_room (Nat.le_of_ble_eq_true rfl)) dL_law_1702 ⟨show cl + 8300 ≤ 1200144 from by first | decide | omega, show sl + 17000 ≤ 5495674 from by first | decide | omega⟩)
      (fun u_ H locs hq hph (hP : va_P G.1 CL (([(oD, .inl (G.2 6, 1, .inr (.inr (.inr (.inl og)))))] ++ (WM ++ [])) ++ ([(o, .inl (G.2 5, 1, .inr (.inl u_.1)))] ++ (u_.2 ++ []))) H) (hD : va_D A (([(oD, .inl (G.2 6, 1, .inr (.inr (.inr (.inl og)))))] ++ (WM ++ [])) ++ ([(o, .inl (G.2 5, 1, .inr (.inl u_.1)))] ++ (u_.2 ++ [])))) hS hfz hfk => ?_)
  obtain ⟨of2_4270, W2_4271⟩ := u_
  obtain ⟨hq_4272, hq_4273, hq_4274⟩ : ((q_fit (dC C) (sx9 xs (i9 + 1))).1 = 0 → of2_4270 0 = ((q_fit (dC C) (sx9 xs (i9 + 1))).2).toInt64) ∧ (q_fit (dC C) (sx9 xs (i9 + 1))).1 < 10 ∧ DyW G d C W2_4271 := hq
  have hpm_4275 : (([(oD, .inl (G.2 6, 1, .inr (.inr (.inr (.inl og)))))] ++ (WM ++ [])) ++ ([(o, .inl (G.2 5, 1, .inr (.inl of2_4270)))] ++ (W2_4271 ++ [])) : va_W).Perm ([(oD, .inl (G.2 6, 1, .inr (.inr (.inr (.inl og))))), (o, .inl (G.2 5, 1, .inr (.inl of2_4270)))] ++ (WM ++ (W2_4271 ++ []))) := segs_perm2 [[(oD, .inl (G.2 6, 1, .inr (.inr (.inr (.inl og)))))], WM] [[(o, .inl (G.2 5, 1, .inr (.inl of2_4270)))], W2_4271] [0, 2, 1, 3] rfl
  have hP : va_P G.1 CL ([(oD, .inl (G.2 6, 1, .inr (.inr (.inr (.inl og))))), (o, .inl (G.2 5, 1, .inr (.inl of2_4270)))] ++ (WM ++ (W2_4271 ++ []))) H := P_perm hpm_4275 hP
  have hD : va_D A ([(oD, .inl (G.2 6, 1, .inr (.inr (.inr (.inl og))))), (o, .inl (G.2 5, 1, .inr (.inl of2_4270)))] ++ (WM ++ (W2_4271 ++ []))) := D_perm hpm_4275 hD
  refine W.eq (g2 := F0 m 1705 ls [.int (nI ((q_fit (dC C) (sx9 xs (i9 + 1))).1))]) rfl ?_
  have hqs : (q_fit (dC M) (sx9 xs (i9 + 1))) = (q_fit (dC C) (sx9 xs (i9 + 1))) := q_fit_sim hLw.1.symm hIm (sx9 xs (i9 + 1))
  refine lv_istore (lv' := [(6, .int (nI ((q_fit (dC C) (sx9 xs (i9 + 1))).1))), (0, .ref b), (1, .ref d), (2, .ref m0), (3, .ref o), (4, .ref oD), (5, .int (nI i9))]) hx hb dL_law_1705 hl (by decide) rfl (fun ls hl => ?_)
  refine lv_aload_n hx hb dL_law_1707 rfl (lv_at hl 3 rfl) ?_
  refine lv_aload_n hx hb dL_law_1708 rfl (lv_at hl 1 rfl) ?_
  refine lv_iload hx hb dL_law_1709 (lv_at hl 6 rfl) ?_
  refine lv_iconst (v := nI 1) hx hb dL_law_1711 (by decide) ?_
  refine lv_iadd hx hb dL_law_1712 ?_
  refine lv_ton (n := i9 + 1) (nadd (by omega)) ?_
  refine va_sld hx hb hX9 hbl hbA hS (i := nI (i9 + 1)) (vp9 (by omega) hL96) dL_law_1713 ?_
  refine W.eq (g2 := F0 m 1714 ls [.int (sx9 xs (i9 + 1)), .ref m0]) rfl ?_
  have hpm_4276 : (([(oD, .inl (G.2 6, 1, .inr (.inr (.inr (.inl og))))), (o, .inl (G.2 5, 1, .inr (.inl of2_4270)))] ++ (WM ++ (W2_4271 ++ []))) : va_W).Perm ((WM ++ []) ++ ([(oD, .inl (G.2 6, 1, .inr (.inr (.inr (.inl og))))), (o, .inl (G.2 5, 1, .inr (.inl of2_4270)))] ++ (W2_4271 ++ []))) := segs_perm [[(oD, .inl (G.2 6, 1, .inr (.inr (.inr (.inl og)))))], [(o, .inl (G.2 5, 1, .inr (.inl of2_4270)))], WM, W2_4271] [2] [0, 1, 3] rfl
  have hF := hF_ofP (wc := (WM ++ [])) hD hS hA hpm_4276
  refine go_ctP hS hP hD hpm_4276 hF
      (va_runV (As := [.int (sx9 xs (i9 + 1))]) (rest := []) cf (eX4_fitnessFromStart l G m0 M th WM (sx9 xs (i9 + 1)) (hMd) (hIm) H.size) (cwV 1 hts (lw_V q1815 q1816 q1817 q58 q1818) rfl rfl rfl (by decide +kernel) ⟨Nat.le_of_ble_eq_true rfl, Nat.le_of_ble_eq_true rfl⟩) (preV_of hKB hE hS hF (MdW.recv hK hMd (seg_at [[(oD, .inl (G.2 6, 1, .inr (.inr (.inr (.inl og)))))], [(o, .inl (G.2 5, 1, .inr (.inl of2_4270)))], WM, W2_4271] 2 rfl hP)) (P_left (P_perm hpm_4276 hP)) ((D_left (D_perm hpm_4276 hD)).weaken (fun _ _ _ _ => trivial)) trivial) rfl rfl hl.1 rfl (lv_room (Nat.le_of_ble_eq_true rfl)) dL_law_1714 ⟨show cl + 8300 + 0 ≤ 1200144 from by first | decide | omega, show sl + 17000 + 0 ≤ 5495674 from by first | decide | omega⟩)
      (fun u_ H locs hq hph (hP : va_P G.1 CL (([(oD, .inl (G.2 6, 1, .inr (.inr (.inr (.inl og))))), (o, .inl (G.2 5, 1, .inr (.inl of2_4270)))] ++ (W2_4271 ++ [])) ++ (u_.2 ++ [])) H) (hD : va_D A (([(oD, .inl (G.2 6, 1, .inr (.inr (.inr (.inl og))))), (o, .inl (G.2 5, 1, .inr (.inl of2_4270)))] ++ (W2_4271 ++ [])) ++ (u_.2 ++ []))) hS hfz hfk => ?_)
  obtain ⟨rr_4277, W2_4278⟩ := u_
  obtain ⟨hq_4279, hq_4280⟩ : ((q_fit (dC M) (sx9 xs (i9 + 1))).1 = 0 → rr_4277 = (q_fit (dC M) (sx9 xs (i9 + 1))).2) ∧ MdW G m0 M (q_fit (dC M) (sx9 xs (i9 + 1))).1 W2_4278 := hq
  have hpm_4281 : (([(oD, .inl (G.2 6, 1, .inr (.inr (.inr (.inl og))))), (o, .inl (G.2 5, 1, .inr (.inl of2_4270)))] ++ (W2_4271 ++ [])) ++ (W2_4278 ++ []) : va_W).Perm ([(oD, .inl (G.2 6, 1, .inr (.inr (.inr (.inl og))))), (o, .inl (G.2 5, 1, .inr (.inl of2_4270)))] ++ (W2_4271 ++ (W2_4278 ++ []))) := segs_perm2 [[(oD, .inl (G.2 6, 1, .inr (.inr (.inr (.inl og)))))], [(o, .inl (G.2 5, 1, .inr (.inl of2_4270)))], W2_4271] [W2_4278] [0, 1, 2, 3] rfl
  have hP : va_P G.1 CL ([(oD, .inl (G.2 6, 1, .inr (.inr (.inr (.inl og))))), (o, .inl (G.2 5, 1, .inr (.inl of2_4270)))] ++ (W2_4271 ++ (W2_4278 ++ []))) H := P_perm hpm_4281 hP
  have hD : va_D A ([(oD, .inl (G.2 6, 1, .inr (.inr (.inr (.inl og))))), (o, .inl (G.2 5, 1, .inr (.inl of2_4270)))] ++ (W2_4271 ++ (W2_4278 ++ []))) := D_perm hpm_4281 hD
  refine W.eq (g2 := F0 m 1717 ls [.int rr_4277]) rfl ?_
  refine lv_istore (lv' := [(7, .int rr_4277), (6, .int (nI ((q_fit (dC C) (sx9 xs (i9 + 1))).1))), (0, .ref b), (1, .ref d), (2, .ref m0), (3, .ref o), (4, .ref oD), (5, .int (nI i9))]) hx hb dL_law_1717 hl (by decide) rfl (fun ls hl => ?_)
  refine lv_aload_n hx hb dL_law_1719 rfl (lv_at hl 4 rfl) ?_
  have hpm_4282 : (([(oD, .inl (G.2 6, 1, .inr (.inr (.inr (.inl og))))), (o, .inl (G.2 5, 1, .inr (.inl of2_4270)))] ++ (W2_4271 ++ (W2_4278 ++ []))) : va_W).Perm ([] ++ ([(oD, .inl (G.2 6, 1, .inr (.inr (.inr (.inl og))))), (o, .inl (G.2 5, 1, .inr (.inl of2_4270)))] ++ (W2_4271 ++ (W2_4278 ++ [])))) := segs_perm [[(oD, .inl (G.2 6, 1, .inr (.inr (.inr (.inl og)))))], [(o, .inl (G.2 5, 1, .inr (.inl of2_4270)))], W2_4271, W2_4278] [] [0, 1, 2, 3] rfl
  have hF := hF_ofP (wc := []) hD hS hA hpm_4282
  refine go_ctP hS hP hD hpm_4282 hF
      (va_runV (As := []) (rest := []) cf (eX4_thrown l G m0 M (((q_fit (dC M) (sx9 xs (i9 + 1)))).1) W2_4278 (hq_4280) H.size) (cwV 0 hts (lw_V q1639 q1640 q1641 q58 q1642) rfl rfl rfl (by decide +kernel) ⟨Nat.le_of_ble_eq_true rfl, Nat.le_of_ble_eq_true rfl⟩) (preV_of hKB hE hS hF (MdW.recv hK hq_4280 (seg_at [[(oD, .inl (G.2 6, 1, .inr (.inr (.inr (.inl og)))))], [(o, .inl (G.2 5, 1, .inr (.inl of2_4270)))], W2_4271, W2_4278] 3 rfl hP)) (P_left (P_perm hpm_4282 hP)) ((D_left (D_perm hpm_4282 hD)).weaken (fun _ _ _ _ => trivial)) (roW.nil (seg_at [[(oD, .inl (G.2 6, 1, .inr (.inr (.inr (.inl og)))))], [(o, .inl (G.2 5, 1, .inr (.inl of2_4270)))], W2_4271, W2_4278] 3 rfl hP))) rfl rfl hl.1 rfl (lv_room (Nat.le_of_ble_eq_true rfl)) dL_law_1720 ⟨show cl + 8300 + 0 ≤ 1200144 from by first | decide | omega, show sl + 17000 + 0 ≤ 5495674 from by first | decide | omega⟩)
      (fun u_ H locs hq hph (hP : va_P G.1 CL (([(oD, .inl (G.2 6, 1, .inr (.inr (.inr (.inl og))))), (o, .inl (G.2 5, 1, .inr (.inl of2_4270)))] ++ (W2_4271 ++ (W2_4278 ++ []))) ++ []) H) (hD : va_D A (([(oD, .inl (G.2 6, 1, .inr (.inr (.inr (.inl og))))), (o, .inl (G.2 5, 1, .inr (.inl of2_4270)))] ++ (W2_4271 ++ (W2_4278 ++ []))) ++ [])) hS hfz hfk => ?_)
  have hpm_4283 : (([(oD, .inl (G.2 6, 1, .inr (.inr (.inr (.inl og))))), (o, .inl (G.2 5, 1, .inr (.inl of2_4270)))] ++ (W2_4271 ++ (W2_4278 ++ []))) ++ [] : va_W).Perm ([(oD, .inl (G.2 6, 1, .inr (.inr (.inr (.inl og))))), (o, .inl (G.2 5, 1, .inr (.inl of2_4270)))] ++ (W2_4271 ++ (W2_4278 ++ []))) := segs_perm2 [[(oD, .inl (G.2 6, 1, .inr (.inr (.inr (.inl og)))))], [(o, .inl (G.2 5, 1, .inr (.inl of2_4270)))], W2_4271, W2_4278] [] [0, 1, 2, 3] rfl
  have hP : va_P G.1 CL ([(oD, .inl (G.2 6, 1, .inr (.inr (.inr (.inl og))))), (o, .inl (G.2 5, 1, .inr (.inl of2_4270)))] ++ (W2_4271 ++ (W2_4278 ++ []))) H := P_perm hpm_4283 hP
  have hD : va_D A ([(oD, .inl (G.2 6, 1, .inr (.inr (.inr (.inl og))))), (o, .inl (G.2 5, 1, .inr (.inl of2_4270)))] ++ (W2_4271 ++ (W2_4278 ++ []))) := D_perm hpm_4283 hD
  refine W.eq (g2 := F0 m 1723 ls [.int (nI (((q_fit (dC M) (sx9 xs (i9 + 1)))).1))]) rfl ?_
  refine lv_ton (n := ((q_fit (dC C) (sx9 xs (i9 + 1))).1)) (congrArg nI (by rw [hqs])) ?_
  refine lv_iload hx hb dL_law_1723 (lv_at hl 1 rfl) ?_
  refine lv_icmp_eq (tgt := 1730) hx hb dL_law_1725 (by decide) (fun _ => ?_) (fun c9 => absurd rfl c9)
  refine lv_iload hx hb dL_law_1730 (lv_at hl 1 rfl) ?_
  refine n_if_ne (tgt := 1747) hx hb (by omega) dL_law_1732 (by decide) (fun c_4284 => ?_) (fun c_4284 => ?_)
  · refine lv_goto (tgt := 2788) hx hb dL_law_1747 (by decide) ?_
    have hpm_4285 : (([(oD, .inl (G.2 6, 1, .inr (.inr (.inr (.inl og))))), (o, .inl (G.2 5, 1, .inr (.inl of2_4270)))] ++ (W2_4271 ++ (W2_4278 ++ []))) : va_W).Perm (([(o, .inl (G.2 5, 1, .inr (.inl of2_4270))), (oD, .inl (G.2 6, 1, .inr (.inr (.inr (.inl og)))))] ++ (W2_4271 ++ (W2_4278 ++ []))) ++ []) := segs_perm [[(oD, .inl (G.2 6, 1, .inr (.inr (.inr (.inl og)))))], [(o, .inl (G.2 5, 1, .inr (.inl of2_4270)))], W2_4271, W2_4278] [1, 0, 2, 3] [] rfl
    have hP : va_P G.1 CL ([(o, .inl (G.2 5, 1, .inr (.inl of2_4270))), (oD, .inl (G.2 6, 1, .inr (.inr (.inr (.inl og)))))] ++ (W2_4271 ++ (W2_4278 ++ []))) H := P_left (P_perm hpm_4285 hP)
    have hD : va_D A ([(o, .inl (G.2 5, 1, .inr (.inl of2_4270))), (oD, .inl (G.2 6, 1, .inr (.inr (.inr (.inl og)))))] ++ (W2_4271 ++ (W2_4278 ++ []))) := D_left (D_perm hpm_4285 hD)
    have hl := lv_sub hl [2, 3, 4, 5, 6, 7] (l' := [(0, .ref b), (1, .ref d), (2, .ref m0), (3, .ref o), (4, .ref oD), (5, .int (nI i9))]) rfl
    exact W.widen (show cl + 8300 ≤ cl + 20000 from by omega) (show sl + 17000 ≤ sl + 45000 from by omega) (kk ls H locs C M (((q_fit (dC M) (sx9 xs (i9 + 1)))).1) W2_4271 W2_4278 of2_4270 og hP hD hS hl hq_4274 hq_4280 hLw.up)
  · refine lv_aload_n hx hb dL_law_1735 rfl (lv_at hl 5 rfl) ?_
    refine lv_iconst (v := nI 0) hx hb dL_law_1736 (by decide) ?_
    refine r_lald (v := (((q_fit (dC C) (sx9 xs (i9 + 1)))).2).toInt64) hx hb hK hP 1 5 rfl rfl (i := 0) (by omega) (by omega) ((hq_4272 (by omega))) dL_law_1737 ?_
    refine lv_iload hx hb dL_law_1738 (lv_at hl 0 rfl) ?_
    refine lv_toi (y := ((q_fit (dC C) (sx9 xs (i9 + 1)))).2) ((hq_4279 (by rw [hqs]; omega)).trans (by rw [hqs])) ?_
    refine lv_i2l (v := (((q_fit (dC C) (sx9 xs (i9 + 1)))).2).toInt64) hx hb dL_law_1740 rfl ?_
    refine W.lcmp hx hb dL_law_1741 ?_
    refine lv_ton (n := 0) (lcmp0 _) ?_
    refine n_if_eq (tgt := 1747) hx hb (by omega) dL_law_1742 (by decide) (fun c_4286 => ?_) (fun c_4286 => absurd c_4286 (by omega))
    refine lv_goto (tgt := 2788) hx hb dL_law_1747 (by decide) ?_
    have hpm_4287 : (([(oD, .inl (G.2 6, 1, .inr (.inr (.inr (.inl og))))), (o, .inl (G.2 5, 1, .inr (.inl of2_4270)))] ++ (W2_4271 ++ (W2_4278 ++ []))) : va_W).Perm (([(o, .inl (G.2 5, 1, .inr (.inl of2_4270))), (oD, .inl (G.2 6, 1, .inr (.inr (.inr (.inl og)))))] ++ (W2_4271 ++ (W2_4278 ++ []))) ++ []) := segs_perm [[(oD, .inl (G.2 6, 1, .inr (.inr (.inr (.inl og)))))], [(o, .inl (G.2 5, 1, .inr (.inl of2_4270)))], W2_4271, W2_4278] [1, 0, 2, 3] [] rfl
    have hP : va_P G.1 CL ([(o, .inl (G.2 5, 1, .inr (.inl of2_4270))), (oD, .inl (G.2 6, 1, .inr (.inr (.inr (.inl og)))))] ++ (W2_4271 ++ (W2_4278 ++ []))) H := P_left (P_perm hpm_4287 hP)
    have hD : va_D A ([(o, .inl (G.2 5, 1, .inr (.inl of2_4270))), (oD, .inl (G.2 6, 1, .inr (.inr (.inr (.inl og)))))] ++ (W2_4271 ++ (W2_4278 ++ []))) := D_left (D_perm hpm_4287 hD)
    have hl := lv_sub hl [2, 3, 4, 5, 6, 7] (l' := [(0, .ref b), (1, .ref d), (2, .ref m0), (3, .ref o), (4, .ref oD), (5, .int (nI i9))]) rfl
    exact W.widen (show cl + 8300 ≤ cl + 20000 from by omega) (show sl + 17000 ≤ sl + 45000 from by omega) (kk ls H locs C M (((q_fit (dC M) (sx9 xs (i9 + 1)))).1) W2_4271 W2_4278 of2_4270 og hP hD hS hl hq_4274 hq_4280 hLw.up)

set_option maxHeartbeats 4000000 in
theorem lawK_27 {p : Program} {l : Launch} {e : Env} {s : State} {m : MethodId} {below : List Frame} {meth : Method} {c : Code} {G : Gt} {A : Nat → Prop} {b L : Nat} {xs : Nat → Int32} {Q : State → Prop} {d m0 o oD i9 N cl sl : Nat} (hfl : l.stackTraces = false) (F : LwF G A p s m c b L xs) (hi9 : i9 + 4 ≤ L) (hN24 : N ≤ 24) (hcl : cl + 20000 ≤ 1200144) (hsl : sl + 45000 ≤ 5495674) (kk : ∀ (ls : Array Slot) (H : Heap) (locs : List Loc) (C M : DS) (th : Nat) (WD WM : va_W) (of : Nat → Int64) (og : Nat → UInt64), va_P G.1 CL ([(o, .inl (G.2 5, 1, .inr (.inl of))), (oD, .inl (G.2 6, 1, .inr (.inr (.inr (.inl og)))))] ++ (WD ++ (WM ++ []))) H → va_D A ([(o, .inl (G.2 5, 1, .inr (.inl of))), (oD, .inl (G.2 6, 1, .inr (.inr (.inr (.inl og)))))] ++ (WD ++ (WM ++ []))) → va_S A s.heap H locs → lv_has ls 10 [(0, .ref b), (1, .ref d), (2, .ref m0), (3, .ref o), (4, .ref oD), (5, .int (nI i9))] → DyW G d C WD → MdW G m0 M th WM → LawI C M (N + 1) → W p l e room_1 s m #[Value.ref b] below meth c H locs (cl + 20000) (sl + 45000) Q (F0 m 2788 ls [])) {ls : Array Slot} {H : Heap} {locs : List Loc} {C M : DS} {th : Nat} {WD WM : va_W} {of : Nat → Int64} {og : Nat → UInt64} (hP : va_P G.1 CL ([(o, .inl (G.2 5, 1, .inr (.inl of))), (oD, .inl (G.2 6, 1, .inr (.inr (.inr (.inl og)))))] ++ (WD ++ (WM ++ []))) H) (hD : va_D A ([(o, .inl (G.2 5, 1, .inr (.inl of))), (oD, .inl (G.2 6, 1, .inr (.inr (.inr (.inl og)))))] ++ (WD ++ (WM ++ [])))) (hS : va_S A s.heap H locs) (hl : lv_has ls 10 [(0, .ref b), (1, .ref d), (2, .ref m0), (3, .ref o), (4, .ref oD), (5, .int (nI i9))]) (hDy : DyW G d C WD) (hMd : MdW G m0 M th WM) (hLw : LawI C M N) : W p l e room_1 s m #[Value.ref b] below meth c H locs cl sl Q (F0 m 1750 ls []) := by
  obtain ⟨cf, hKB, hE, hA, hX9, hbl, hbA, hNc, hL96⟩ := F
  have hx := cf.1
  have hb := cf.2.1
  have hml := cf.2.2.1
  have hown : s.vm.findClass RX0 = some m.cls := cf.2.2.2.1
  have hts := cf.2.2.2.2
  have hK := hKB.1
  have hIc := hDy.inv.1
  have hIm : Inv (dC M) := Inv_sim hLw.1 hIc
  have hRk : RkOk (dC M) := RkOk_sim hLw.1 (RkOk_srt hDy.inv.2.2)
  have hl := hl
  refine lv_aload_n hx hb dL_law_1750 rfl (lv_at hl 1 rfl) ?_
  refine lv_aload_n hx hb dL_law_1751 rfl (lv_at hl 0 rfl) ?_
  refine lv_iload hx hb dL_law_1752 (lv_at hl 5 rfl) ?_
  refine lv_iconst (v := nI 1) hx hb dL_law_1754 (by decide) ?_
  refine lv_iadd hx hb dL_law_1755 ?_
  refine lv_ton (n := i9 + 1) (nadd (by omega)) ?_
  refine va_sld hx hb hX9 hbl hbA hS (i := nI (i9 + 1)) (vp9 (by omega) hL96) dL_law_1756 ?_
  refine W.eq (g2 := F0 m 1757 ls [.int (sx9 xs (i9 + 1)), .ref d]) rfl ?_
  refine lv_aload_n hx hb dL_law_1757 rfl (lv_at hl 3 rfl) ?_
  have hpm_4288 : (([(o, .inl (G.2 5, 1, .inr (.inl of))), (oD, .inl (G.2 6, 1, .inr (.inr (.inr (.inl og)))))] ++ (WD ++ (WM ++ []))) : va_W).Perm (([(o, .inl (G.2 5, 1, .inr (.inl of)))] ++ (WD ++ [])) ++ ([(oD, .inl (G.2 6, 1, .inr (.inr (.inr (.inl og)))))] ++ (WM ++ []))) := segs_perm [[(o, .inl (G.2 5, 1, .inr (.inl of)))], [(oD, .inl (G.2 6, 1, .inr (.inr (.inr (.inl og)))))], WD, WM] [0, 2] [1, 3] rfl
  have hF := hF_ofP (wc := ([(o, .inl (G.2 5, 1, .inr (.inl of)))] ++ (WD ++ []))) hD hS hA hpm_4288
  refine go_ctP hS hP hD hpm_4288 hF
      (vx_runSW (As := [.ref d, .int (sx9 xs (i9 + 1)), .ref o]) (rest := []) cf (wX0_fatigueOn l G d C WD o of (sx9 xs (i9 + 1)) (hDy) hfl H.size) (vx_cwSW 3 hts (lw_SW q1318 q1319 q46 q1320) rfl rfl rfl (by decide +kernel) ⟨Nat.le_of_ble_eq_true rfl, Nat.le_of_ble_eq_true rfl⟩) (preS_ofW hNc hKB hE hS hF (P_left (P_perm hpm_4288 hP)) ((D_left (D_perm hpm_4288 hD)).weaken (fun _ _ _ _ => trivial)) trivial) rfl rfl hl.1 rfl (lv_room (Nat.le_of_ble_eq_true rfl)) dL_law_1758 ⟨show cl + 8300 ≤ 1200144 from by first | decide | omega, show sl + 17000 ≤ 5495674 from by first | decide | omega⟩)
      (fun u_ H locs hq hph (hP : va_P G.1 CL (([(oD, .inl (G.2 6, 1, .inr (.inr (.inr (.inl og)))))] ++ (WM ++ [])) ++ ([(o, .inl (G.2 5, 1, .inr (.inl u_.1)))] ++ (u_.2 ++ []))) H) (hD : va_D A (([(oD, .inl (G.2 6, 1, .inr (.inr (.inr (.inl og)))))] ++ (WM ++ [])) ++ ([(o, .inl (G.2 5, 1, .inr (.inl u_.1)))] ++ (u_.2 ++ [])))) hS hfz hfk => ?_)
  obtain ⟨of2_4289, W2_4290⟩ := u_
  obtain ⟨hq_4291, hq_4292, hq_4293⟩ : ((q_fat (dC C) (sx9 xs (i9 + 1))).1 = 0 → of2_4289 0 = ((q_fat (dC C) (sx9 xs (i9 + 1))).2).toInt64) ∧ (q_fat (dC C) (sx9 xs (i9 + 1))).1 < 10 ∧ DyW G d C W2_4290 := hq
  have hpm_4294 : (([(oD, .inl (G.2 6, 1, .inr (.inr (.inr (.inl og)))))] ++ (WM ++ [])) ++ ([(o, .inl (G.2 5, 1, .inr (.inl of2_4289)))] ++ (W2_4290 ++ [])) : va_W).Perm ([(oD, .inl (G.2 6, 1, .inr (.inr (.inr (.inl og))))), (o, .inl (G.2 5, 1, .inr (.inl of2_4289)))] ++ (WM ++ (W2_4290 ++ []))) := segs_perm2 [[(oD, .inl (G.2 6, 1, .inr (.inr (.inr (.inl og)))))], WM] [[(o, .inl (G.2 5, 1, .inr (.inl of2_4289)))], W2_4290] [0, 2, 1, 3] rfl
  have hP : va_P G.1 CL ([(oD, .inl (G.2 6, 1, .inr (.inr (.inr (.inl og))))), (o, .inl (G.2 5, 1, .inr (.inl of2_4289)))] ++ (WM ++ (W2_4290 ++ []))) H := P_perm hpm_4294 hP
  have hD : va_D A ([(oD, .inl (G.2 6, 1, .inr (.inr (.inr (.inl og))))), (o, .inl (G.2 5, 1, .inr (.inl of2_4289)))] ++ (WM ++ (W2_4290 ++ []))) := D_perm hpm_4294 hD
  refine W.eq (g2 := F0 m 1761 ls [.int (nI ((q_fat (dC C) (sx9 xs (i9 + 1))).1))]) rfl ?_
  have hqs : (q_fat (dC M) (sx9 xs (i9 + 1))) = (q_fat (dC C) (sx9 xs (i9 + 1))) := q_fat_sim hLw.1.symm hIm (sx9 xs (i9 + 1))
  refine lv_istore (lv' := [(6, .int (nI ((q_fat (dC C) (sx9 xs (i9 + 1))).1))), (0, .ref b), (1, .ref d), (2, .ref m0), (3, .ref o), (4, .ref oD), (5, .int (nI i9))]) hx hb dL_law_1761 hl (by decide) rfl (fun ls hl => ?_)
  refine lv_aload_n hx hb dL_law_1763 rfl (lv_at hl 3 rfl) ?_
  refine lv_aload_n hx hb dL_law_1764 rfl (lv_at hl 1 rfl) ?_
  refine lv_iload hx hb dL_law_1765 (lv_at hl 6 rfl) ?_
  refine lv_iconst (v := nI 1) hx hb dL_law_1767 (by decide) ?_
  refine lv_iadd hx hb dL_law_1768 ?_
  refine lv_ton (n := i9 + 1) (nadd (by omega)) ?_
  refine va_sld hx hb hX9 hbl hbA hS (i := nI (i9 + 1)) (vp9 (by omega) hL96) dL_law_1769 ?_
  refine W.eq (g2 := F0 m 1770 ls [.int (sx9 xs (i9 + 1)), .ref m0]) rfl ?_
  have hpm_4295 : (([(oD, .inl (G.2 6, 1, .inr (.inr (.inr (.inl og))))), (o, .inl (G.2 5, 1, .inr (.inl of2_4289)))] ++ (WM ++ (W2_4290 ++ []))) : va_W).Perm ((WM ++ []) ++ ([(oD, .inl (G.2 6, 1, .inr (.inr (.inr (.inl og))))), (o, .inl (G.2 5, 1, .inr (.inl of2_4289)))] ++ (W2_4290 ++ []))) := segs_perm [[(oD, .inl (G.2 6, 1, .inr (.inr (.inr (.inl og)))))], [(o, .inl (G.2 5, 1, .inr (.inl of2_4289)))], WM, W2_4290] [2] [0, 1, 3] rfl
  have hF := hF_ofP (wc := (WM ++ [])) hD hS hA hpm_4295
  refine go_ctP hS hP hD hpm_4295 hF
      (va_runV (As := [.int (sx9 xs (i9 + 1))]) (rest := []) cf (eX4_fatigueOn l G m0 M th WM (sx9 xs (i9 + 1)) (hMd) (hIm) H.size) (cwV 1 hts (lw_V q1820 q1821 q1822 q58 q1823) rfl rfl rfl (by decide +kernel) ⟨Nat.le_of_ble_eq_true rfl, Nat.le_of_ble_eq_true rfl⟩) (preV_of hKB hE hS hF (MdW.recv hK hMd (seg_at [[(oD, .inl (G.2 6, 1, .inr (.inr (.inr (.inl og)))))], [(o, .inl (G.2 5, 1, .inr (.inl of2_4289)))], WM, W2_4290] 2 rfl hP)) (P_left (P_perm hpm_4295 hP)) ((D_left (D_perm hpm_4295 hD)).weaken (fun _ _ _ _ => trivial)) trivial) rfl rfl hl.1 rfl (lv_room (Nat.le_of_ble_eq_true rfl)) dL_law_1770 ⟨show cl + 8300 + 0 ≤ 1200144 from by first | decide | omega, show sl + 17000 + 0 ≤ 5495674 from by first | decide | omega⟩)
      (fun u_ H locs hq hph (hP : va_P G.1 CL (([(oD, .inl (G.2 6, 1, .inr (.inr (.inr (.inl og))))), (o, .inl (G.2 5, 1, .inr (.inl of2_4289)))] ++ (W2_4290 ++ [])) ++ (u_.2 ++ [])) H) (hD : va_D A (([(oD, .inl (G.2 6, 1, .inr (.inr (.inr (.inl og))))), (o, .inl (G.2 5, 1, .inr (.inl of2_4289)))] ++ (W2_4290 ++ [])) ++ (u_.2 ++ []))) hS hfz hfk => ?_)
  obtain ⟨rr_4296, W2_4297⟩ := u_
  obtain ⟨hq_4298, hq_4299⟩ : ((q_fat (dC M) (sx9 xs (i9 + 1))).1 = 0 → rr_4296 = (q_fat (dC M) (sx9 xs (i9 + 1))).2) ∧ MdW G m0 M (q_fat (dC M) (sx9 xs (i9 + 1))).1 W2_4297 := hq
  have hpm_4300 : (([(oD, .inl (G.2 6, 1, .inr (.inr (.inr (.inl og))))), (o, .inl (G.2 5, 1, .inr (.inl of2_4289)))] ++ (W2_4290 ++ [])) ++ (W2_4297 ++ []) : va_W).Perm ([(oD, .inl (G.2 6, 1, .inr (.inr (.inr (.inl og))))), (o, .inl (G.2 5, 1, .inr (.inl of2_4289)))] ++ (W2_4290 ++ (W2_4297 ++ []))) := segs_perm2 [[(oD, .inl (G.2 6, 1, .inr (.inr (.inr (.inl og)))))], [(o, .inl (G.2 5, 1, .inr (.inl of2_4289)))], W2_4290] [W2_4297] [0, 1, 2, 3] rfl
  have hP : va_P G.1 CL ([(oD, .inl (G.2 6, 1, .inr (.inr (.inr (.inl og))))), (o, .inl (G.2 5, 1, .inr (.inl of2_4289)))] ++ (W2_4290 ++ (W2_4297 ++ []))) H := P_perm hpm_4300 hP
  have hD : va_D A ([(oD, .inl (G.2 6, 1, .inr (.inr (.inr (.inl og))))), (o, .inl (G.2 5, 1, .inr (.inl of2_4289)))] ++ (W2_4290 ++ (W2_4297 ++ []))) := D_perm hpm_4300 hD
  refine W.eq (g2 := F0 m 1773 ls [.int rr_4296]) rfl ?_
  refine lv_istore (lv' := [(7, .int rr_4296), (6, .int (nI ((q_fat (dC C) (sx9 xs (i9 + 1))).1))), (0, .ref b), (1, .ref d), (2, .ref m0), (3, .ref o), (4, .ref oD), (5, .int (nI i9))]) hx hb dL_law_1773 hl (by decide) rfl (fun ls hl => ?_)
  refine lv_aload_n hx hb dL_law_1775 rfl (lv_at hl 4 rfl) ?_
  have hpm_4301 : (([(oD, .inl (G.2 6, 1, .inr (.inr (.inr (.inl og))))), (o, .inl (G.2 5, 1, .inr (.inl of2_4289)))] ++ (W2_4290 ++ (W2_4297 ++ []))) : va_W).Perm ([] ++ ([(oD, .inl (G.2 6, 1, .inr (.inr (.inr (.inl og))))), (o, .inl (G.2 5, 1, .inr (.inl of2_4289)))] ++ (W2_4290 ++ (W2_4297 ++ [])))) := segs_perm [[(oD, .inl (G.2 6, 1, .inr (.inr (.inr (.inl og)))))], [(o, .inl (G.2 5, 1, .inr (.inl of2_4289)))], W2_4290, W2_4297] [] [0, 1, 2, 3] rfl
  have hF := hF_ofP (wc := []) hD hS hA hpm_4301
  refine go_ctP hS hP hD hpm_4301 hF
      (va_runV (As := []) (rest := []) cf (eX4_thrown l G m0 M (((q_fat (dC M) (sx9 xs (i9 + 1)))).1) W2_4297 (hq_4299) H.size) (cwV 0 hts (lw_V q1639 q1640 q1641 q58 q1642) rfl rfl rfl (by decide +kernel) ⟨Nat.le_of_ble_eq_true rfl, Nat.le_of_ble_eq_true rfl⟩) (preV_of hKB hE hS hF (MdW.recv hK hq_4299 (seg_at [[(oD, .inl (G.2 6, 1, .inr (.inr (.inr (.inl og)))))], [(o, .inl (G.2 5, 1, .inr (.inl of2_4289)))], W2_4290, W2_4297] 3 rfl hP)) (P_left (P_perm hpm_4301 hP)) ((D_left (D_perm hpm_4301 hD)).weaken (fun _ _ _ _ => trivial)) (roW.nil (seg_at [[(oD, .inl (G.2 6, 1, .inr (.inr (.inr (.inl og)))))], [(o, .inl (G.2 5, 1, .inr (.inl of2_4289)))], W2_4290, W2_4297] 3 rfl hP))) rfl rfl hl.1 rfl (lv_room (Nat.le_of_ble_eq_true rfl)) dL_law_1776 ⟨show cl + 8300 + 0 ≤ 1200144 from by first | decide | omega, show sl + 17000 + 0 ≤ 5495674 from by first | decide | omega⟩)
      (fun u_ H locs hq hph (hP : va_P G.1 CL (([(oD, .inl (G.2 6, 1, .inr (.inr (.inr (.inl og))))), (o, .inl (G.2 5, 1, .inr (.inl of2_4289)))] ++ (W2_4290 ++ (W2_4297 ++ []))) ++ []) H) (hD : va_D A (([(oD, .inl (G.2 6, 1, .inr (.inr (.inr (.inl og))))), (o, .inl (G.2 5, 1, .inr (.inl of2_4289)))] ++ (W2_4290 ++ (W2_4297 ++ []))) ++ [])) hS hfz hfk => ?_)
  have hpm_4302 : (([(oD, .inl (G.2 6, 1, .inr (.inr (.inr (.inl og))))), (o, .inl (G.2 5, 1, .inr (.inl of2_4289)))] ++ (W2_4290 ++ (W2_4297 ++ []))) ++ [] : va_W).Perm ([(oD, .inl (G.2 6, 1, .inr (.inr (.inr (.inl og))))), (o, .inl (G.2 5, 1, .inr (.inl of2_4289)))] ++ (W2_4290 ++ (W2_4297 ++ []))) := segs_perm2 [[(oD, .inl (G.2 6, 1, .inr (.inr (.inr (.inl og)))))], [(o, .inl (G.2 5, 1, .inr (.inl of2_4289)))], W2_4290, W2_4297] [] [0, 1, 2, 3] rfl
  have hP : va_P G.1 CL ([(oD, .inl (G.2 6, 1, .inr (.inr (.inr (.inl og))))), (o, .inl (G.2 5, 1, .inr (.inl of2_4289)))] ++ (W2_4290 ++ (W2_4297 ++ []))) H := P_perm hpm_4302 hP
  have hD : va_D A ([(oD, .inl (G.2 6, 1, .inr (.inr (.inr (.inl og))))), (o, .inl (G.2 5, 1, .inr (.inl of2_4289)))] ++ (W2_4290 ++ (W2_4297 ++ []))) := D_perm hpm_4302 hD
  refine W.eq (g2 := F0 m 1779 ls [.int (nI (((q_fat (dC M) (sx9 xs (i9 + 1)))).1))]) rfl ?_
  refine lv_ton (n := ((q_fat (dC C) (sx9 xs (i9 + 1))).1)) (congrArg nI (by rw [hqs])) ?_
  refine lv_iload hx hb dL_law_1779 (lv_at hl 1 rfl) ?_
  refine lv_icmp_eq (tgt := 1786) hx hb dL_law_1781 (by decide) (fun _ => ?_) (fun c9 => absurd rfl c9)
  refine lv_iload hx hb dL_law_1786 (lv_at hl 1 rfl) ?_
  refine n_if_ne (tgt := 1803) hx hb (by omega) dL_law_1788 (by decide) (fun c_4303 => ?_) (fun c_4303 => ?_)
  · refine lv_goto (tgt := 2788) hx hb dL_law_1803 (by decide) ?_
    have hpm_4304 : (([(oD, .inl (G.2 6, 1, .inr (.inr (.inr (.inl og))))), (o, .inl (G.2 5, 1, .inr (.inl of2_4289)))] ++ (W2_4290 ++ (W2_4297 ++ []))) : va_W).Perm (([(o, .inl (G.2 5, 1, .inr (.inl of2_4289))), (oD, .inl (G.2 6, 1, .inr (.inr (.inr (.inl og)))))] ++ (W2_4290 ++ (W2_4297 ++ []))) ++ []) := segs_perm [[(oD, .inl (G.2 6, 1, .inr (.inr (.inr (.inl og)))))], [(o, .inl (G.2 5, 1, .inr (.inl of2_4289)))], W2_4290, W2_4297] [1, 0, 2, 3] [] rfl
    have hP : va_P G.1 CL ([(o, .inl (G.2 5, 1, .inr (.inl of2_4289))), (oD, .inl (G.2 6, 1, .inr (.inr (.inr (.inl og)))))] ++ (W2_4290 ++ (W2_4297 ++ []))) H := P_left (P_perm hpm_4304 hP)
    have hD : va_D A ([(o, .inl (G.2 5, 1, .inr (.inl of2_4289))), (oD, .inl (G.2 6, 1, .inr (.inr (.inr (.inl og)))))] ++ (W2_4290 ++ (W2_4297 ++ []))) := D_left (D_perm hpm_4304 hD)
    have hl := lv_sub hl [2, 3, 4, 5, 6, 7] (l' := [(0, .ref b), (1, .ref d), (2, .ref m0), (3, .ref o), (4, .ref oD), (5, .int (nI i9))]) rfl
    exact W.widen (show cl + 8300 ≤ cl + 20000 from by omega) (show sl + 17000 ≤ sl + 45000 from by omega) (kk ls H locs C M (((q_fat (dC M) (sx9 xs (i9 + 1)))).1) W2_4290 W2_4297 of2_4289 og hP hD hS hl hq_4293 hq_4299 hLw.up)
  · refine lv_aload_n hx hb dL_law_1791 rfl (lv_at hl 5 rfl) ?_
    refine lv_iconst (v := nI 0) hx hb dL_law_1792 (by decide) ?_
    refine r_lald (v := (((q_fat (dC C) (sx9 xs (i9 + 1)))).2).toInt64) hx hb hK hP 1 5 rfl rfl (i := 0) (by omega) (by omega) ((hq_4291 (by omega))) dL_law_1793 ?_
    refine lv_iload hx hb dL_law_1794 (lv_at hl 0 rfl) ?_
    refine lv_toi (y := ((q_fat (dC C) (sx9 xs (i9 + 1)))).2) ((hq_4298 (by rw [hqs]; omega)).trans (by rw [hqs])) ?_
    refine lv_i2l (v := (((q_fat (dC C) (sx9 xs (i9 + 1)))).2).toInt64) hx hb dL_law_1796 rfl ?_
    refine W.lcmp hx hb dL_law_1797 ?_
    refine lv_ton (n := 0) (lcmp0 _) ?_
    refine n_if_eq (tgt := 1803) hx hb (by omega) dL_law_1798 (by decide) (fun c_4305 => ?_) (fun c_4305 => absurd c_4305 (by omega))
    refine lv_goto (tgt := 2788) hx hb dL_law_1803 (by decide) ?_
    have hpm_4306 : (([(oD, .inl (G.2 6, 1, .inr (.inr (.inr (.inl og))))), (o, .inl (G.2 5, 1, .inr (.inl of2_4289)))] ++ (W2_4290 ++ (W2_4297 ++ []))) : va_W).Perm (([(o, .inl (G.2 5, 1, .inr (.inl of2_4289))), (oD, .inl (G.2 6, 1, .inr (.inr (.inr (.inl og)))))] ++ (W2_4290 ++ (W2_4297 ++ []))) ++ []) := segs_perm [[(oD, .inl (G.2 6, 1, .inr (.inr (.inr (.inl og)))))], [(o, .inl (G.2 5, 1, .inr (.inl of2_4289)))], W2_4290, W2_4297] [1, 0, 2, 3] [] rfl
    have hP : va_P G.1 CL ([(o, .inl (G.2 5, 1, .inr (.inl of2_4289))), (oD, .inl (G.2 6, 1, .inr (.inr (.inr (.inl og)))))] ++ (W2_4290 ++ (W2_4297 ++ []))) H := P_left (P_perm hpm_4306 hP)
    have hD : va_D A ([(o, .inl (G.2 5, 1, .inr (.inl of2_4289))), (oD, .inl (G.2 6, 1, .inr (.inr (.inr (.inl og)))))] ++ (W2_4290 ++ (W2_4297 ++ []))) := D_left (D_perm hpm_4306 hD)
    have hl := lv_sub hl [2, 3, 4, 5, 6, 7] (l' := [(0, .ref b), (1, .ref d), (2, .ref m0), (3, .ref o), (4, .ref oD), (5, .int (nI i9))]) rfl
    exact W.widen (show cl + 8300 ≤ cl + 20000 from by omega) (show sl + 17000 ≤ sl + 45000 from by omega) (kk ls H locs C M (((q_fat (dC M) (sx9 xs (i9 + 1)))).1) W2_4290 W2_4297 of2_4289 og hP hD hS hl hq_4293 hq_4299 hLw.up)

set_option maxHeartbeats 4000000 in
theorem lawK_28 {p : Program} {l : Launch} {e : Env} {s : State} {m : MethodId} {below : List Frame} {meth : Method} {c : Code} {G : Gt} {A : Nat → Prop} {b L : Nat} {xs : Nat → Int32} {Q : State → Prop} {d m0 o oD i9 N cl sl : Nat} (hfl : l.stackTraces = false) (F : LwF G A p s m c b L xs) (hi9 : i9 + 4 ≤ L) (hN24 : N ≤ 24) (hcl : cl + 20000 ≤ 1200144) (hsl : sl + 45000 ≤ 5495674) (kk : ∀ (ls : Array Slot) (H : Heap) (locs : List Loc) (C M : DS) (th : Nat) (WD WM : va_W) (of : Nat → Int64) (og : Nat → UInt64), va_P G.1 CL ([(o, .inl (G.2 5, 1, .inr (.inl of))), (oD, .inl (G.2 6, 1, .inr (.inr (.inr (.inl og)))))] ++ (WD ++ (WM ++ []))) H → va_D A ([(o, .inl (G.2 5, 1, .inr (.inl of))), (oD, .inl (G.2 6, 1, .inr (.inr (.inr (.inl og)))))] ++ (WD ++ (WM ++ []))) → va_S A s.heap H locs → lv_has ls 10 [(0, .ref b), (1, .ref d), (2, .ref m0), (3, .ref o), (4, .ref oD), (5, .int (nI i9))] → DyW G d C WD → MdW G m0 M th WM → LawI C M (N + 1) → W p l e room_1 s m #[Value.ref b] below meth c H locs (cl + 20000) (sl + 45000) Q (F0 m 2788 ls [])) {ls : Array Slot} {H : Heap} {locs : List Loc} {C M : DS} {th : Nat} {WD WM : va_W} {of : Nat → Int64} {og : Nat → UInt64} (hP : va_P G.1 CL ([(o, .inl (G.2 5, 1, .inr (.inl of))), (oD, .inl (G.2 6, 1, .inr (.inr (.inr (.inl og)))))] ++ (WD ++ (WM ++ []))) H) (hD : va_D A ([(o, .inl (G.2 5, 1, .inr (.inl of))), (oD, .inl (G.2 6, 1, .inr (.inr (.inr (.inl og)))))] ++ (WD ++ (WM ++ [])))) (hS : va_S A s.heap H locs) (hl : lv_has ls 10 [(0, .ref b), (1, .ref d), (2, .ref m0), (3, .ref o), (4, .ref oD), (5, .int (nI i9))]) (hDy : DyW G d C WD) (hMd : MdW G m0 M th WM) (hLw : LawI C M N) : W p l e room_1 s m #[Value.ref b] below meth c H locs cl sl Q (F0 m 1806 ls []) := by
  obtain ⟨cf, hKB, hE, hA, hX9, hbl, hbA, hNc, hL96⟩ := F
  have hx := cf.1
  have hb := cf.2.1
  have hml := cf.2.2.1
  have hown : s.vm.findClass RX0 = some m.cls := cf.2.2.2.1
  have hts := cf.2.2.2.2
  have hK := hKB.1
  have hIc := hDy.inv.1
  have hIm : Inv (dC M) := Inv_sim hLw.1 hIc
  have hRk : RkOk (dC M) := RkOk_sim hLw.1 (RkOk_srt hDy.inv.2.2)
  have hl := hl
  refine lv_aload_n hx hb dL_law_1806 rfl (lv_at hl 1 rfl) ?_
  refine lv_aload_n hx hb dL_law_1807 rfl (lv_at hl 0 rfl) ?_
  refine lv_iload hx hb dL_law_1808 (lv_at hl 5 rfl) ?_
  refine lv_iconst (v := nI 1) hx hb dL_law_1810 (by decide) ?_
  refine lv_iadd hx hb dL_law_1811 ?_
  refine lv_ton (n := i9 + 1) (nadd (by omega)) ?_
  refine va_sld hx hb hX9 hbl hbA hS (i := nI (i9 + 1)) (vp9 (by omega) hL96) dL_law_1812 ?_
  refine W.eq (g2 := F0 m 1813 ls [.int (sx9 xs (i9 + 1)), .ref d]) rfl ?_
  refine lv_aload_n hx hb dL_law_1813 rfl (lv_at hl 3 rfl) ?_
  have hpm_4307 : (([(o, .inl (G.2 5, 1, .inr (.inl of))), (oD, .inl (G.2 6, 1, .inr (.inr (.inr (.inl og)))))] ++ (WD ++ (WM ++ []))) : va_W).Perm (([(o, .inl (G.2 5, 1, .inr (.inl of)))] ++ (WD ++ [])) ++ ([(oD, .inl (G.2 6, 1, .inr (.inr (.inr (.inl og)))))] ++ (WM ++ []))) := segs_perm [[(o, .inl (G.2 5, 1, .inr (.inl of)))], [(oD, .inl (G.2 6, 1, .inr (.inr (.inr (.inl og)))))], WD, WM] [0, 2] [1, 3] rfl
  have hF := hF_ofP (wc := ([(o, .inl (G.2 5, 1, .inr (.inl of)))] ++ (WD ++ []))) hD hS hA hpm_4307
  refine go_ctP hS hP hD hpm_4307 hF
      (vx_runSW (As := [.ref d, .int (sx9 xs (i9 + 1)), .ref o]) (rest := []) cf (wX0_fatigueFromStart l G d C WD o of (sx9 xs (i9 + 1)) (hDy) hfl H.size) (vx_cwSW 3 hts (lw_SW q1326 q1327 q46 q1328) rfl rfl rfl (by decide +kernel) ⟨Nat.le_of_ble_eq_true rfl, Nat.le_of_ble_eq_true rfl⟩) (preS_ofW hNc hKB hE hS hF (P_left (P_perm hpm_4307 hP)) ((D_left (D_perm hpm_4307 hD)).weaken (fun _ _ _ _ => trivial)) trivial) rfl rfl hl.1 rfl (lv_room (Nat.le_of_ble_eq_true rfl)) dL_law_1814 ⟨show cl + 8300 ≤ 1200144 from by first | decide | omega, show sl + 17000 ≤ 5495674 from by first | decide | omega⟩)
      (fun u_ H locs hq hph (hP : va_P G.1 CL (([(oD, .inl (G.2 6, 1, .inr (.inr (.inr (.inl og)))))] ++ (WM ++ [])) ++ ([(o, .inl (G.2 5, 1, .inr (.inl u_.1)))] ++ (u_.2 ++ []))) H) (hD : va_D A (([(oD, .inl (G.2 6, 1, .inr (.inr (.inr (.inl og)))))] ++ (WM ++ [])) ++ ([(o, .inl (G.2 5, 1, .inr (.inl u_.1)))] ++ (u_.2 ++ [])))) hS hfz hfk => ?_)
  obtain ⟨of2_4308, W2_4309⟩ := u_
  obtain ⟨hq_4310, hq_4311, hq_4312⟩ : ((q_fat (dC C) (sx9 xs (i9 + 1))).1 = 0 → of2_4308 0 = ((q_fat (dC C) (sx9 xs (i9 + 1))).2).toInt64) ∧ (q_fat (dC C) (sx9 xs (i9 + 1))).1 < 10 ∧ DyW G d C W2_4309 := hq
  have hpm_4313 : (([(oD, .inl (G.2 6, 1, .inr (.inr (.inr (.inl og)))))] ++ (WM ++ [])) ++ ([(o, .inl (G.2 5, 1, .inr (.inl of2_4308)))] ++ (W2_4309 ++ [])) : va_W).Perm ([(oD, .inl (G.2 6, 1, .inr (.inr (.inr (.inl og))))), (o, .inl (G.2 5, 1, .inr (.inl of2_4308)))] ++ (WM ++ (W2_4309 ++ []))) := segs_perm2 [[(oD, .inl (G.2 6, 1, .inr (.inr (.inr (.inl og)))))], WM] [[(o, .inl (G.2 5, 1, .inr (.inl of2_4308)))], W2_4309] [0, 2, 1, 3] rfl
  have hP : va_P G.1 CL ([(oD, .inl (G.2 6, 1, .inr (.inr (.inr (.inl og))))), (o, .inl (G.2 5, 1, .inr (.inl of2_4308)))] ++ (WM ++ (W2_4309 ++ []))) H := P_perm hpm_4313 hP
  have hD : va_D A ([(oD, .inl (G.2 6, 1, .inr (.inr (.inr (.inl og))))), (o, .inl (G.2 5, 1, .inr (.inl of2_4308)))] ++ (WM ++ (W2_4309 ++ []))) := D_perm hpm_4313 hD
  refine W.eq (g2 := F0 m 1817 ls [.int (nI ((q_fat (dC C) (sx9 xs (i9 + 1))).1))]) rfl ?_
  have hqs : (q_fat (dC M) (sx9 xs (i9 + 1))) = (q_fat (dC C) (sx9 xs (i9 + 1))) := q_fat_sim hLw.1.symm hIm (sx9 xs (i9 + 1))
  refine lv_istore (lv' := [(6, .int (nI ((q_fat (dC C) (sx9 xs (i9 + 1))).1))), (0, .ref b), (1, .ref d), (2, .ref m0), (3, .ref o), (4, .ref oD), (5, .int (nI i9))]) hx hb dL_law_1817 hl (by decide) rfl (fun ls hl => ?_)
  refine lv_aload_n hx hb dL_law_1819 rfl (lv_at hl 3 rfl) ?_
  refine lv_aload_n hx hb dL_law_1820 rfl (lv_at hl 1 rfl) ?_
  refine lv_iload hx hb dL_law_1821 (lv_at hl 6 rfl) ?_
  refine lv_iconst (v := nI 1) hx hb dL_law_1823 (by decide) ?_
  refine lv_iadd hx hb dL_law_1824 ?_
  refine lv_ton (n := i9 + 1) (nadd (by omega)) ?_
  refine va_sld hx hb hX9 hbl hbA hS (i := nI (i9 + 1)) (vp9 (by omega) hL96) dL_law_1825 ?_
  refine W.eq (g2 := F0 m 1826 ls [.int (sx9 xs (i9 + 1)), .ref m0]) rfl ?_
  have hpm_4314 : (([(oD, .inl (G.2 6, 1, .inr (.inr (.inr (.inl og))))), (o, .inl (G.2 5, 1, .inr (.inl of2_4308)))] ++ (WM ++ (W2_4309 ++ []))) : va_W).Perm ((WM ++ []) ++ ([(oD, .inl (G.2 6, 1, .inr (.inr (.inr (.inl og))))), (o, .inl (G.2 5, 1, .inr (.inl of2_4308)))] ++ (W2_4309 ++ []))) := segs_perm [[(oD, .inl (G.2 6, 1, .inr (.inr (.inr (.inl og)))))], [(o, .inl (G.2 5, 1, .inr (.inl of2_4308)))], WM, W2_4309] [2] [0, 1, 3] rfl
  have hF := hF_ofP (wc := (WM ++ [])) hD hS hA hpm_4314
  refine go_ctP hS hP hD hpm_4314 hF
      (va_runV (As := [.int (sx9 xs (i9 + 1))]) (rest := []) cf (eX4_fatigueFromStart l G m0 M th WM (sx9 xs (i9 + 1)) (hMd) (hIm) H.size) (cwV 1 hts (lw_V q1824 q1825 q1826 q58 q1827) rfl rfl rfl (by decide +kernel) ⟨Nat.le_of_ble_eq_true rfl, Nat.le_of_ble_eq_true rfl⟩) (preV_of hKB hE hS hF (MdW.recv hK hMd (seg_at [[(oD, .inl (G.2 6, 1, .inr (.inr (.inr (.inl og)))))], [(o, .inl (G.2 5, 1, .inr (.inl of2_4308)))], WM, W2_4309] 2 rfl hP)) (P_left (P_perm hpm_4314 hP)) ((D_left (D_perm hpm_4314 hD)).weaken (fun _ _ _ _ => trivial)) trivial) rfl rfl hl.1 rfl (lv_room (Nat.le_of_ble_eq_true rfl)) dL_law_1826 ⟨show cl + 8300 + 0 ≤ 1200144 from by first | decide | omega, show sl + 17000 + 0 ≤ 5495674 from by first | decide | omega⟩)
      (fun u_ H locs hq hph (hP : va_P G.1 CL (([(oD, .inl (G.2 6, 1, .inr (.inr (.inr (.inl og))))), (o, .inl (G.2 5, 1, .inr (.inl of2_4308)))] ++ (W2_4309 ++ [])) ++ (u_.2 ++ [])) H) (hD : va_D A (([(oD, .inl (G.2 6, 1, .inr (.inr (.inr (.inl og))))), (o, .inl (G.2 5, 1, .inr (.inl of2_4308)))] ++ (W2_4309 ++ [])) ++ (u_.2 ++ []))) hS hfz hfk => ?_)
  obtain ⟨rr_4315, W2_4316⟩ := u_
  obtain ⟨hq_4317, hq_4318⟩ : ((q_fat (dC M) (sx9 xs (i9 + 1))).1 = 0 → rr_4315 = (q_fat (dC M) (sx9 xs (i9 + 1))).2) ∧ MdW G m0 M (q_fat (dC M) (sx9 xs (i9 + 1))).1 W2_4316 := hq
  have hpm_4319 : (([(oD, .inl (G.2 6, 1, .inr (.inr (.inr (.inl og))))), (o, .inl (G.2 5, 1, .inr (.inl of2_4308)))] ++ (W2_4309 ++ [])) ++ (W2_4316 ++ []) : va_W).Perm ([(oD, .inl (G.2 6, 1, .inr (.inr (.inr (.inl og))))), (o, .inl (G.2 5, 1, .inr (.inl of2_4308)))] ++ (W2_4309 ++ (W2_4316 ++ []))) := segs_perm2 [[(oD, .inl (G.2 6, 1, .inr (.inr (.inr (.inl og)))))], [(o, .inl (G.2 5, 1, .inr (.inl of2_4308)))], W2_4309] [W2_4316] [0, 1, 2, 3] rfl
  have hP : va_P G.1 CL ([(oD, .inl (G.2 6, 1, .inr (.inr (.inr (.inl og))))), (o, .inl (G.2 5, 1, .inr (.inl of2_4308)))] ++ (W2_4309 ++ (W2_4316 ++ []))) H := P_perm hpm_4319 hP
  have hD : va_D A ([(oD, .inl (G.2 6, 1, .inr (.inr (.inr (.inl og))))), (o, .inl (G.2 5, 1, .inr (.inl of2_4308)))] ++ (W2_4309 ++ (W2_4316 ++ []))) := D_perm hpm_4319 hD
  refine W.eq (g2 := F0 m 1829 ls [.int rr_4315]) rfl ?_
  refine lv_istore (lv' := [(7, .int rr_4315), (6, .int (nI ((q_fat (dC C) (sx9 xs (i9 + 1))).1))), (0, .ref b), (1, .ref d), (2, .ref m0), (3, .ref o), (4, .ref oD), (5, .int (nI i9))]) hx hb dL_law_1829 hl (by decide) rfl (fun ls hl => ?_)
  refine lv_aload_n hx hb dL_law_1831 rfl (lv_at hl 4 rfl) ?_
  have hpm_4320 : (([(oD, .inl (G.2 6, 1, .inr (.inr (.inr (.inl og))))), (o, .inl (G.2 5, 1, .inr (.inl of2_4308)))] ++ (W2_4309 ++ (W2_4316 ++ []))) : va_W).Perm ([] ++ ([(oD, .inl (G.2 6, 1, .inr (.inr (.inr (.inl og))))), (o, .inl (G.2 5, 1, .inr (.inl of2_4308)))] ++ (W2_4309 ++ (W2_4316 ++ [])))) := segs_perm [[(oD, .inl (G.2 6, 1, .inr (.inr (.inr (.inl og)))))], [(o, .inl (G.2 5, 1, .inr (.inl of2_4308)))], W2_4309, W2_4316] [] [0, 1, 2, 3] rfl
  have hF := hF_ofP (wc := []) hD hS hA hpm_4320
  refine go_ctP hS hP hD hpm_4320 hF
      (va_runV (As := []) (rest := []) cf (eX4_thrown l G m0 M (((q_fat (dC M) (sx9 xs (i9 + 1)))).1) W2_4316 (hq_4318) H.size) (cwV 0 hts (lw_V q1639 q1640 q1641 q58 q1642) rfl rfl rfl (by decide +kernel) ⟨Nat.le_of_ble_eq_true rfl, Nat.le_of_ble_eq_true rfl⟩) (preV_of hKB hE hS hF (MdW.recv hK hq_4318 (seg_at [[(oD, .inl (G.2 6, 1, .inr (.inr (.inr (.inl og)))))], [(o, .inl (G.2 5, 1, .inr (.inl of2_4308)))], W2_4309, W2_4316] 3 rfl hP)) (P_left (P_perm hpm_4320 hP)) ((D_left (D_perm hpm_4320 hD)).weaken (fun _ _ _ _ => trivial)) (roW.nil (seg_at [[(oD, .inl (G.2 6, 1, .inr (.inr (.inr (.inl og)))))], [(o, .inl (G.2 5, 1, .inr (.inl of2_4308)))], W2_4309, W2_4316] 3 rfl hP))) rfl rfl hl.1 rfl (lv_room (Nat.le_of_ble_eq_true rfl)) dL_law_1832 ⟨show cl + 8300 + 0 ≤ 1200144 from by first | decide | omega, show sl + 17000 + 0 ≤ 5495674 from by first | decide | omega⟩)
      (fun u_ H locs hq hph (hP : va_P G.1 CL (([(oD, .inl (G.2 6, 1, .inr (.inr (.inr (.inl og))))), (o, .inl (G.2 5, 1, .inr (.inl of2_4308)))] ++ (W2_4309 ++ (W2_4316 ++ []))) ++ []) H) (hD : va_D A (([(oD, .inl (G.2 6, 1, .inr (.inr (.inr (.inl og))))), (o, .inl (G.2 5, 1, .inr (.inl of2_4308)))] ++ (W2_4309 ++ (W2_4316 ++ []))) ++ [])) hS hfz hfk => ?_)
  have hpm_4321 : (([(oD, .inl (G.2 6, 1, .inr (.inr (.inr (.inl og))))), (o, .inl (G.2 5, 1, .inr (.inl of2_4308)))] ++ (W2_4309 ++ (W2_4316 ++ []))) ++ [] : va_W).Perm ([(oD, .inl (G.2 6, 1, .inr (.inr (.inr (.inl og))))), (o, .inl (G.2 5, 1, .inr (.inl of2_4308)))] ++ (W2_4309 ++ (W2_4316 ++ []))) := segs_perm2 [[(oD, .inl (G.2 6, 1, .inr (.inr (.inr (.inl og)))))], [(o, .inl (G.2 5, 1, .inr (.inl of2_4308)))], W2_4309, W2_4316] [] [0, 1, 2, 3] rfl
  have hP : va_P G.1 CL ([(oD, .inl (G.2 6, 1, .inr (.inr (.inr (.inl og))))), (o, .inl (G.2 5, 1, .inr (.inl of2_4308)))] ++ (W2_4309 ++ (W2_4316 ++ []))) H := P_perm hpm_4321 hP
  have hD : va_D A ([(oD, .inl (G.2 6, 1, .inr (.inr (.inr (.inl og))))), (o, .inl (G.2 5, 1, .inr (.inl of2_4308)))] ++ (W2_4309 ++ (W2_4316 ++ []))) := D_perm hpm_4321 hD
  refine W.eq (g2 := F0 m 1835 ls [.int (nI (((q_fat (dC M) (sx9 xs (i9 + 1)))).1))]) rfl ?_
  refine lv_ton (n := ((q_fat (dC C) (sx9 xs (i9 + 1))).1)) (congrArg nI (by rw [hqs])) ?_
  refine lv_iload hx hb dL_law_1835 (lv_at hl 1 rfl) ?_
  refine lv_icmp_eq (tgt := 1842) hx hb dL_law_1837 (by decide) (fun _ => ?_) (fun c9 => absurd rfl c9)
  refine lv_iload hx hb dL_law_1842 (lv_at hl 1 rfl) ?_
  refine n_if_ne (tgt := 1859) hx hb (by omega) dL_law_1844 (by decide) (fun c_4322 => ?_) (fun c_4322 => ?_)
  · refine lv_goto (tgt := 2788) hx hb dL_law_1859 (by decide) ?_
    have hpm_4323 : (([(oD, .inl (G.2 6, 1, .inr (.inr (.inr (.inl og))))), (o, .inl (G.2 5, 1, .inr (.inl of2_4308)))] ++ (W2_4309 ++ (W2_4316 ++ []))) : va_W).Perm (([(o, .inl (G.2 5, 1, .inr (.inl of2_4308))), (oD, .inl (G.2 6, 1, .inr (.inr (.inr (.inl og)))))] ++ (W2_4309 ++ (W2_4316 ++ []))) ++ []) := segs_perm [[(oD, .inl (G.2 6, 1, .inr (.inr (.inr (.inl og)))))], [(o, .inl (G.2 5, 1, .inr (.inl of2_4308)))], W2_4309, W2_4316] [1, 0, 2, 3] [] rfl
    have hP : va_P G.1 CL ([(o, .inl (G.2 5, 1, .inr (.inl of2_4308))), (oD, .inl (G.2 6, 1, .inr (.inr (.inr (.inl og)))))] ++ (W2_4309 ++ (W2_4316 ++ []))) H := P_left (P_perm hpm_4323 hP)
    have hD : va_D A ([(o, .inl (G.2 5, 1, .inr (.inl of2_4308))), (oD, .inl (G.2 6, 1, .inr (.inr (.inr (.inl og)))))] ++ (W2_4309 ++ (W2_4316 ++ []))) := D_left (D_perm hpm_4323 hD)
    have hl := lv_sub hl [2, 3, 4, 5, 6, 7] (l' := [(0, .ref b), (1, .ref d), (2, .ref m0), (3, .ref o), (4, .ref oD), (5, .int (nI i9))]) rfl
    exact W.widen (show cl + 8300 ≤ cl + 20000 from by omega) (show sl + 17000 ≤ sl + 45000 from by omega) (kk ls H locs C M (((q_fat (dC M) (sx9 xs (i9 + 1)))).1) W2_4309 W2_4316 of2_4308 og hP hD hS hl hq_4312 hq_4318 hLw.up)
  · refine lv_aload_n hx hb dL_law_1847 rfl (lv_at hl 5 rfl) ?_
    refine lv_iconst (v := nI 0) hx hb dL_law_1848 (by decide) ?_
    refine r_lald (v := (((q_fat (dC C) (sx9 xs (i9 + 1)))).2).toInt64) hx hb hK hP 1 5 rfl rfl (i := 0) (by omega) (by omega) ((hq_4310 (by omega))) dL_law_1849 ?_
    refine lv_iload hx hb dL_law_1850 (lv_at hl 0 rfl) ?_
    refine lv_toi (y := ((q_fat (dC C) (sx9 xs (i9 + 1)))).2) ((hq_4317 (by rw [hqs]; omega)).trans (by rw [hqs])) ?_
    refine lv_i2l (v := (((q_fat (dC C) (sx9 xs (i9 + 1)))).2).toInt64) hx hb dL_law_1852 rfl ?_
    refine W.lcmp hx hb dL_law_1853 ?_
    refine lv_ton (n := 0) (lcmp0 _) ?_
    refine n_if_eq (tgt := 1859) hx hb (by omega) dL_law_1854 (by decide) (fun c_4324 => ?_) (fun c_4324 => absurd c_4324 (by omega))
    refine lv_goto (tgt := 2788) hx hb dL_law_1859 (by decide) ?_
    have hpm_4325 : (([(oD, .inl (G.2 6, 1, .inr (.inr (.inr (.inl og))))), (o, .inl (G.2 5, 1, .inr (.inl of2_4308)))] ++ (W2_4309 ++ (W2_4316 ++ []))) : va_W).Perm (([(o, .inl (G.2 5, 1, .inr (.inl of2_4308))), (oD, .inl (G.2 6, 1, .inr (.inr (.inr (.inl og)))))] ++ (W2_4309 ++ (W2_4316 ++ []))) ++ []) := segs_perm [[(oD, .inl (G.2 6, 1, .inr (.inr (.inr (.inl og)))))], [(o, .inl (G.2 5, 1, .inr (.inl of2_4308)))], W2_4309, W2_4316] [1, 0, 2, 3] [] rfl
    have hP : va_P G.1 CL ([(o, .inl (G.2 5, 1, .inr (.inl of2_4308))), (oD, .inl (G.2 6, 1, .inr (.inr (.inr (.inl og)))))] ++ (W2_4309 ++ (W2_4316 ++ []))) H := P_left (P_perm hpm_4325 hP)
    have hD : va_D A ([(o, .inl (G.2 5, 1, .inr (.inl of2_4308))), (oD, .inl (G.2 6, 1, .inr (.inr (.inr (.inl og)))))] ++ (W2_4309 ++ (W2_4316 ++ []))) := D_left (D_perm hpm_4325 hD)
    have hl := lv_sub hl [2, 3, 4, 5, 6, 7] (l' := [(0, .ref b), (1, .ref d), (2, .ref m0), (3, .ref o), (4, .ref oD), (5, .int (nI i9))]) rfl
    exact W.widen (show cl + 8300 ≤ cl + 20000 from by omega) (show sl + 17000 ≤ sl + 45000 from by omega) (kk ls H locs C M (((q_fat (dC M) (sx9 xs (i9 + 1)))).1) W2_4309 W2_4316 of2_4308 og hP hD hS hl hq_4312 hq_4318 hLw.up)

set_option maxHeartbeats 4000000 in
theorem lawK_29 {p : Program} {l : Launch} {e : Env} {s : State} {m : MethodId} {below : List Frame} {meth : Method} {c : Code} {G : Gt} {A : Nat → Prop} {b L : Nat} {xs : Nat → Int32} {Q : State → Prop} {d m0 o oD i9 N cl sl : Nat} (hfl : l.stackTraces = false) (F : LwF G A p s m c b L xs) (hi9 : i9 + 4 ≤ L) (hN24 : N ≤ 24) (hcl : cl + 20000 ≤ 1200144) (hsl : sl + 45000 ≤ 5495674) (kk : ∀ (ls : Array Slot) (H : Heap) (locs : List Loc) (C M : DS) (th : Nat) (WD WM : va_W) (of : Nat → Int64) (og : Nat → UInt64), va_P G.1 CL ([(o, .inl (G.2 5, 1, .inr (.inl of))), (oD, .inl (G.2 6, 1, .inr (.inr (.inr (.inl og)))))] ++ (WD ++ (WM ++ []))) H → va_D A ([(o, .inl (G.2 5, 1, .inr (.inl of))), (oD, .inl (G.2 6, 1, .inr (.inr (.inr (.inl og)))))] ++ (WD ++ (WM ++ []))) → va_S A s.heap H locs → lv_has ls 10 [(0, .ref b), (1, .ref d), (2, .ref m0), (3, .ref o), (4, .ref oD), (5, .int (nI i9))] → DyW G d C WD → MdW G m0 M th WM → LawI C M (N + 1) → W p l e room_1 s m #[Value.ref b] below meth c H locs (cl + 20000) (sl + 45000) Q (F0 m 2788 ls [])) {ls : Array Slot} {H : Heap} {locs : List Loc} {C M : DS} {th : Nat} {WD WM : va_W} {of : Nat → Int64} {og : Nat → UInt64} (hP : va_P G.1 CL ([(o, .inl (G.2 5, 1, .inr (.inl of))), (oD, .inl (G.2 6, 1, .inr (.inr (.inr (.inl og)))))] ++ (WD ++ (WM ++ []))) H) (hD : va_D A ([(o, .inl (G.2 5, 1, .inr (.inl of))), (oD, .inl (G.2 6, 1, .inr (.inr (.inr (.inl og)))))] ++ (WD ++ (WM ++ [])))) (hS : va_S A s.heap H locs) (hl : lv_has ls 10 [(0, .ref b), (1, .ref d), (2, .ref m0), (3, .ref o), (4, .ref oD), (5, .int (nI i9))]) (hDy : DyW G d C WD) (hMd : MdW G m0 M th WM) (hLw : LawI C M N) : W p l e room_1 s m #[Value.ref b] below meth c H locs cl sl Q (F0 m 1862 ls []) := by
  obtain ⟨cf, hKB, hE, hA, hX9, hbl, hbA, hNc, hL96⟩ := F
  have hx := cf.1
  have hb := cf.2.1
  have hml := cf.2.2.1
  have hown : s.vm.findClass RX0 = some m.cls := cf.2.2.2.1
  have hts := cf.2.2.2.2
  have hK := hKB.1
  have hIc := hDy.inv.1
  have hIm : Inv (dC M) := Inv_sim hLw.1 hIc
  have hRk : RkOk (dC M) := RkOk_sim hLw.1 (RkOk_srt hDy.inv.2.2)
  have hl := hl
  refine lv_aload_n hx hb dL_law_1862 rfl (lv_at hl 1 rfl) ?_
  refine lv_aload_n hx hb dL_law_1863 rfl (lv_at hl 0 rfl) ?_
  refine lv_iload hx hb dL_law_1864 (lv_at hl 5 rfl) ?_
  refine lv_iconst (v := nI 1) hx hb dL_law_1866 (by decide) ?_
  refine lv_iadd hx hb dL_law_1867 ?_
  refine lv_ton (n := i9 + 1) (nadd (by omega)) ?_
  refine va_sld hx hb hX9 hbl hbA hS (i := nI (i9 + 1)) (vp9 (by omega) hL96) dL_law_1868 ?_
  refine W.eq (g2 := F0 m 1869 ls [.int (sx9 xs (i9 + 1)), .ref d]) rfl ?_
  refine lv_aload_n hx hb dL_law_1869 rfl (lv_at hl 3 rfl) ?_
  have hpm_4326 : (([(o, .inl (G.2 5, 1, .inr (.inl of))), (oD, .inl (G.2 6, 1, .inr (.inr (.inr (.inl og)))))] ++ (WD ++ (WM ++ []))) : va_W).Perm (([(o, .inl (G.2 5, 1, .inr (.inl of)))] ++ (WD ++ [])) ++ ([(oD, .inl (G.2 6, 1, .inr (.inr (.inr (.inl og)))))] ++ (WM ++ []))) := segs_perm [[(o, .inl (G.2 5, 1, .inr (.inl of)))], [(oD, .inl (G.2 6, 1, .inr (.inr (.inr (.inl og)))))], WD, WM] [0, 2] [1, 3] rfl
  have hF := hF_ofP (wc := ([(o, .inl (G.2 5, 1, .inr (.inl of)))] ++ (WD ++ []))) hD hS hA hpm_4326
  refine go_ctP hS hP hD hpm_4326 hF
      (vx_runSW (As := [.ref d, .int (sx9 xs (i9 + 1)), .ref o]) (rest := []) cf (wX0_formOn l G d C WD o of (sx9 xs (i9 + 1)) (hDy) hfl H.size) (vx_cwSW 3 hts (lw_SW q1333 q1334 q46 q1335) rfl rfl rfl (by decide +kernel) ⟨Nat.le_of_ble_eq_true rfl, Nat.le_of_ble_eq_true rfl⟩) (preS_ofW hNc hKB hE hS hF (P_left (P_perm hpm_4326 hP)) ((D_left (D_perm hpm_4326 hD)).weaken (fun _ _ _ _ => trivial)) trivial) rfl rfl hl.1 rfl (lv_room (Nat.le_of_ble_eq_true rfl)) dL_law_1870 ⟨show cl + 8300 ≤ 1200144 from by first | decide | omega, show sl + 17000 ≤ 5495674 from by first | decide | omega⟩)
      (fun u_ H locs hq hph (hP : va_P G.1 CL (([(oD, .inl (G.2 6, 1, .inr (.inr (.inr (.inl og)))))] ++ (WM ++ [])) ++ ([(o, .inl (G.2 5, 1, .inr (.inl u_.1)))] ++ (u_.2 ++ []))) H) (hD : va_D A (([(oD, .inl (G.2 6, 1, .inr (.inr (.inr (.inl og)))))] ++ (WM ++ [])) ++ ([(o, .inl (G.2 5, 1, .inr (.inl u_.1)))] ++ (u_.2 ++ [])))) hS hfz hfk => ?_)
  obtain ⟨of2_4327, W2_4328⟩ := u_
  obtain ⟨hq_4329, hq_4330, hq_4331⟩ : ((q_form (dC C) (sx9 xs (i9 + 1))).1 = 0 → of2_4327 0 = ((q_form (dC C) (sx9 xs (i9 + 1))).2).toInt64) ∧ (q_form (dC C) (sx9 xs (i9 + 1))).1 < 10 ∧ DyW G d C W2_4328 := hq
  have hpm_4332 : (([(oD, .inl (G.2 6, 1, .inr (.inr (.inr (.inl og)))))] ++ (WM ++ [])) ++ ([(o, .inl (G.2 5, 1, .inr (.inl of2_4327)))] ++ (W2_4328 ++ [])) : va_W).Perm ([(oD, .inl (G.2 6, 1, .inr (.inr (.inr (.inl og))))), (o, .inl (G.2 5, 1, .inr (.inl of2_4327)))] ++ (WM ++ (W2_4328 ++ []))) := segs_perm2 [[(oD, .inl (G.2 6, 1, .inr (.inr (.inr (.inl og)))))], WM] [[(o, .inl (G.2 5, 1, .inr (.inl of2_4327)))], W2_4328] [0, 2, 1, 3] rfl
  have hP : va_P G.1 CL ([(oD, .inl (G.2 6, 1, .inr (.inr (.inr (.inl og))))), (o, .inl (G.2 5, 1, .inr (.inl of2_4327)))] ++ (WM ++ (W2_4328 ++ []))) H := P_perm hpm_4332 hP
  have hD : va_D A ([(oD, .inl (G.2 6, 1, .inr (.inr (.inr (.inl og))))), (o, .inl (G.2 5, 1, .inr (.inl of2_4327)))] ++ (WM ++ (W2_4328 ++ []))) := D_perm hpm_4332 hD
  refine W.eq (g2 := F0 m 1873 ls [.int (nI ((q_form (dC C) (sx9 xs (i9 + 1))).1))]) rfl ?_
  have hqs : (q_form (dC M) (sx9 xs (i9 + 1))) = (q_form (dC C) (sx9 xs (i9 + 1))) := q_form_sim hLw.1.symm hIm (sx9 xs (i9 + 1))
  refine lv_istore (lv' := [(6, .int (nI ((q_form (dC C) (sx9 xs (i9 + 1))).1))), (0, .ref b), (1, .ref d), (2, .ref m0), (3, .ref o), (4, .ref oD), (5, .int (nI i9))]) hx hb dL_law_1873 hl (by decide) rfl (fun ls hl => ?_)
  refine lv_aload_n hx hb dL_law_1875 rfl (lv_at hl 3 rfl) ?_
  refine lv_aload_n hx hb dL_law_1876 rfl (lv_at hl 1 rfl) ?_
  refine lv_iload hx hb dL_law_1877 (lv_at hl 6 rfl) ?_
  refine lv_iconst (v := nI 1) hx hb dL_law_1879 (by decide) ?_
  refine lv_iadd hx hb dL_law_1880 ?_
  refine lv_ton (n := i9 + 1) (nadd (by omega)) ?_
  refine va_sld hx hb hX9 hbl hbA hS (i := nI (i9 + 1)) (vp9 (by omega) hL96) dL_law_1881 ?_
  refine W.eq (g2 := F0 m 1882 ls [.int (sx9 xs (i9 + 1)), .ref m0]) rfl ?_
  have hpm_4333 : (([(oD, .inl (G.2 6, 1, .inr (.inr (.inr (.inl og))))), (o, .inl (G.2 5, 1, .inr (.inl of2_4327)))] ++ (WM ++ (W2_4328 ++ []))) : va_W).Perm ((WM ++ []) ++ ([(oD, .inl (G.2 6, 1, .inr (.inr (.inr (.inl og))))), (o, .inl (G.2 5, 1, .inr (.inl of2_4327)))] ++ (W2_4328 ++ []))) := segs_perm [[(oD, .inl (G.2 6, 1, .inr (.inr (.inr (.inl og)))))], [(o, .inl (G.2 5, 1, .inr (.inl of2_4327)))], WM, W2_4328] [2] [0, 1, 3] rfl
  have hF := hF_ofP (wc := (WM ++ [])) hD hS hA hpm_4333
  refine go_ctP hS hP hD hpm_4333 hF
      (va_runV (As := [.int (sx9 xs (i9 + 1))]) (rest := []) cf (eX4_formOn l G m0 M th WM (sx9 xs (i9 + 1)) (hMd) (hIm) H.size) (cwV 1 hts (lw_V q1829 q1830 q1831 q58 q1832) rfl rfl rfl (by decide +kernel) ⟨Nat.le_of_ble_eq_true rfl, Nat.le_of_ble_eq_true rfl⟩) (preV_of hKB hE hS hF (MdW.recv hK hMd (seg_at [[(oD, .inl (G.2 6, 1, .inr (.inr (.inr (.inl og)))))], [(o, .inl (G.2 5, 1, .inr (.inl of2_4327)))], WM, W2_4328] 2 rfl hP)) (P_left (P_perm hpm_4333 hP)) ((D_left (D_perm hpm_4333 hD)).weaken (fun _ _ _ _ => trivial)) trivial) rfl rfl hl.1 rfl (lv_room (Nat.le_of_ble_eq_true rfl)) dL_law_1882 ⟨show cl + 8300 + 0 ≤ 1200144 from by first | decide | omega, show sl + 17000 + 0 ≤ 5495674 from by first | decide | omega⟩)
      (fun u_ H locs hq hph (hP : va_P G.1 CL (([(oD, .inl (G.2 6, 1, .inr (.inr (.inr (.inl og))))), (o, .inl (G.2 5, 1, .inr (.inl of2_4327)))] ++ (W2_4328 ++ [])) ++ (u_.2 ++ [])) H) (hD : va_D A (([(oD, .inl (G.2 6, 1, .inr (.inr (.inr (.inl og))))), (o, .inl (G.2 5, 1, .inr (.inl of2_4327)))] ++ (W2_4328 ++ [])) ++ (u_.2 ++ []))) hS hfz hfk => ?_)
  obtain ⟨rr_4334, W2_4335⟩ := u_
  obtain ⟨hq_4336, hq_4337⟩ : ((q_form (dC M) (sx9 xs (i9 + 1))).1 = 0 → rr_4334 = (q_form (dC M) (sx9 xs (i9 + 1))).2) ∧ MdW G m0 M (q_form (dC M) (sx9 xs (i9 + 1))).1 W2_4335 := hq
  have hpm_4338 : (([(oD, .inl (G.2 6, 1, .inr (.inr (.inr (.inl og))))), (o, .inl (G.2 5, 1, .inr (.inl of2_4327)))] ++ (W2_4328 ++ [])) ++ (W2_4335 ++ []) : va_W).Perm ([(oD, .inl (G.2 6, 1, .inr (.inr (.inr (.inl og))))), (o, .inl (G.2 5, 1, .inr (.inl of2_4327)))] ++ (W2_4328 ++ (W2_4335 ++ []))) := segs_perm2 [[(oD, .inl (G.2 6, 1, .inr (.inr (.inr (.inl og)))))], [(o, .inl (G.2 5, 1, .inr (.inl of2_4327)))], W2_4328] [W2_4335] [0, 1, 2, 3] rfl
  have hP : va_P G.1 CL ([(oD, .inl (G.2 6, 1, .inr (.inr (.inr (.inl og))))), (o, .inl (G.2 5, 1, .inr (.inl of2_4327)))] ++ (W2_4328 ++ (W2_4335 ++ []))) H := P_perm hpm_4338 hP
  have hD : va_D A ([(oD, .inl (G.2 6, 1, .inr (.inr (.inr (.inl og))))), (o, .inl (G.2 5, 1, .inr (.inl of2_4327)))] ++ (W2_4328 ++ (W2_4335 ++ []))) := D_perm hpm_4338 hD
  refine W.eq (g2 := F0 m 1885 ls [.int rr_4334]) rfl ?_
  refine lv_istore (lv' := [(7, .int rr_4334), (6, .int (nI ((q_form (dC C) (sx9 xs (i9 + 1))).1))), (0, .ref b), (1, .ref d), (2, .ref m0), (3, .ref o), (4, .ref oD), (5, .int (nI i9))]) hx hb dL_law_1885 hl (by decide) rfl (fun ls hl => ?_)
  refine lv_aload_n hx hb dL_law_1887 rfl (lv_at hl 4 rfl) ?_
  have hpm_4339 : (([(oD, .inl (G.2 6, 1, .inr (.inr (.inr (.inl og))))), (o, .inl (G.2 5, 1, .inr (.inl of2_4327)))] ++ (W2_4328 ++ (W2_4335 ++ []))) : va_W).Perm ([] ++ ([(oD, .inl (G.2 6, 1, .inr (.inr (.inr (.inl og))))), (o, .inl (G.2 5, 1, .inr (.inl of2_4327)))] ++ (W2_4328 ++ (W2_4335 ++ [])))) := segs_perm [[(oD, .inl (G.2 6, 1, .inr (.inr (.inr (.inl og)))))], [(o, .inl (G.2 5, 1, .inr (.inl of2_4327)))], W2_4328, W2_4335] [] [0, 1, 2, 3] rfl
  have hF := hF_ofP (wc := []) hD hS hA hpm_4339
  refine go_ctP hS hP hD hpm_4339 hF
      (va_runV (As := []) (rest := []) cf (eX4_thrown l G m0 M (((q_form (dC M) (sx9 xs (i9 + 1)))).1) W2_4335 (hq_4337) H.size) (cwV 0 hts (lw_V q1639 q1640 q1641 q58 q1642) rfl rfl rfl (by decide +kernel) ⟨Nat.le_of_ble_eq_true rfl, Nat.le_of_ble_eq_true rfl⟩) (preV_of hKB hE hS hF (MdW.recv hK hq_4337 (seg_at [[(oD, .inl (G.2 6, 1, .inr (.inr (.inr (.inl og)))))], [(o, .inl (G.2 5, 1, .inr (.inl of2_4327)))], W2_4328, W2_4335] 3 rfl hP)) (P_left (P_perm hpm_4339 hP)) ((D_left (D_perm hpm_4339 hD)).weaken (fun _ _ _ _ => trivial)) (roW.nil (seg_at [[(oD, .inl (G.2 6, 1, .inr (.inr (.inr (.inl og)))))], [(o, .inl (G.2 5, 1, .inr (.inl of2_4327)))], W2_4328, W2_4335] 3 rfl hP))) rfl rfl hl.1 rfl (lv_room (Nat.le_of_ble_eq_true rfl)) dL_law_1888 ⟨show cl + 8300 + 0 ≤ 1200144 from by first | decide | omega, show sl + 17000 + 0 ≤ 5495674 from by first | decide | omega⟩)
      (fun u_ H locs hq hph (hP : va_P G.1 CL (([(oD, .inl (G.2 6, 1, .inr (.inr (.inr (.inl og))))), (o, .inl (G.2 5, 1, .inr (.inl of2_4327)))] ++ (W2_4328 ++ (W2_4335 ++ []))) ++ []) H) (hD : va_D A (([(oD, .inl (G.2 6, 1, .inr (.inr (.inr (.inl og))))), (o, .inl (G.2 5, 1, .inr (.inl of2_4327)))] ++ (W2_4328 ++ (W2_4335 ++ []))) ++ [])) hS hfz hfk => ?_)
  have hpm_4340 : (([(oD, .inl (G.2 6, 1, .inr (.inr (.inr (.inl og))))), (o, .inl (G.2 5, 1, .inr (.inl of2_4327)))] ++ (W2_4328 ++ (W2_4335 ++ []))) ++ [] : va_W).Perm ([(oD, .inl (G.2 6, 1, .inr (.inr (.inr (.inl og))))), (o, .inl (G.2 5, 1, .inr (.inl of2_4327)))] ++ (W2_4328 ++ (W2_4335 ++ []))) := segs_perm2 [[(oD, .inl (G.2 6, 1, .inr (.inr (.inr (.inl og)))))], [(o, .inl (G.2 5, 1, .inr (.inl of2_4327)))], W2_4328, W2_4335] [] [0, 1, 2, 3] rfl
  have hP : va_P G.1 CL ([(oD, .inl (G.2 6, 1, .inr (.inr (.inr (.inl og))))), (o, .inl (G.2 5, 1, .inr (.inl of2_4327)))] ++ (W2_4328 ++ (W2_4335 ++ []))) H := P_perm hpm_4340 hP
  have hD : va_D A ([(oD, .inl (G.2 6, 1, .inr (.inr (.inr (.inl og))))), (o, .inl (G.2 5, 1, .inr (.inl of2_4327)))] ++ (W2_4328 ++ (W2_4335 ++ []))) := D_perm hpm_4340 hD
  refine W.eq (g2 := F0 m 1891 ls [.int (nI (((q_form (dC M) (sx9 xs (i9 + 1)))).1))]) rfl ?_
  refine lv_ton (n := ((q_form (dC C) (sx9 xs (i9 + 1))).1)) (congrArg nI (by rw [hqs])) ?_
  refine lv_iload hx hb dL_law_1891 (lv_at hl 1 rfl) ?_
  refine lv_icmp_eq (tgt := 1898) hx hb dL_law_1893 (by decide) (fun _ => ?_) (fun c9 => absurd rfl c9)
  refine lv_iload hx hb dL_law_1898 (lv_at hl 1 rfl) ?_
  refine n_if_ne (tgt := 1915) hx hb (by omega) dL_law_1900 (by decide) (fun c_4341 => ?_) (fun c_4341 => ?_)
  · refine lv_goto (tgt := 2788) hx hb dL_law_1915 (by decide) ?_
    have hpm_4342 : (([(oD, .inl (G.2 6, 1, .inr (.inr (.inr (.inl og))))), (o, .inl (G.2 5, 1, .inr (.inl of2_4327)))] ++ (W2_4328 ++ (W2_4335 ++ []))) : va_W).Perm (([(o, .inl (G.2 5, 1, .inr (.inl of2_4327))), (oD, .inl (G.2 6, 1, .inr (.inr (.inr (.inl og)))))] ++ (W2_4328 ++ (W2_4335 ++ []))) ++ []) := segs_perm [[(oD, .inl (G.2 6, 1, .inr (.inr (.inr (.inl og)))))], [(o, .inl (G.2 5, 1, .inr (.inl of2_4327)))], W2_4328, W2_4335] [1, 0, 2, 3] [] rfl
    have hP : va_P G.1 CL ([(o, .inl (G.2 5, 1, .inr (.inl of2_4327))), (oD, .inl (G.2 6, 1, .inr (.inr (.inr (.inl og)))))] ++ (W2_4328 ++ (W2_4335 ++ []))) H := P_left (P_perm hpm_4342 hP)
    have hD : va_D A ([(o, .inl (G.2 5, 1, .inr (.inl of2_4327))), (oD, .inl (G.2 6, 1, .inr (.inr (.inr (.inl og)))))] ++ (W2_4328 ++ (W2_4335 ++ []))) := D_left (D_perm hpm_4342 hD)
    have hl := lv_sub hl [2, 3, 4, 5, 6, 7] (l' := [(0, .ref b), (1, .ref d), (2, .ref m0), (3, .ref o), (4, .ref oD), (5, .int (nI i9))]) rfl
    exact W.widen (show cl + 8300 ≤ cl + 20000 from by omega) (show sl + 17000 ≤ sl + 45000 from by omega) (kk ls H locs C M (((q_form (dC M) (sx9 xs (i9 + 1)))).1) W2_4328 W2_4335 of2_4327 og hP hD hS hl hq_4331 hq_4337 hLw.up)
  · refine lv_aload_n hx hb dL_law_1903 rfl (lv_at hl 5 rfl) ?_
    refine lv_iconst (v := nI 0) hx hb dL_law_1904 (by decide) ?_
    refine r_lald (v := (((q_form (dC C) (sx9 xs (i9 + 1)))).2).toInt64) hx hb hK hP 1 5 rfl rfl (i := 0) (by omega) (by omega) ((hq_4329 (by omega))) dL_law_1905 ?_
    refine lv_iload hx hb dL_law_1906 (lv_at hl 0 rfl) ?_
    refine lv_toi (y := ((q_form (dC C) (sx9 xs (i9 + 1)))).2) ((hq_4336 (by rw [hqs]; omega)).trans (by rw [hqs])) ?_
    refine lv_i2l (v := (((q_form (dC C) (sx9 xs (i9 + 1)))).2).toInt64) hx hb dL_law_1908 rfl ?_
    refine W.lcmp hx hb dL_law_1909 ?_
    refine lv_ton (n := 0) (lcmp0 _) ?_
    refine n_if_eq (tgt := 1915) hx hb (by omega) dL_law_1910 (by decide) (fun c_4343 => ?_) (fun c_4343 => absurd c_4343 (by omega))
    refine lv_goto (tgt := 2788) hx hb dL_law_1915 (by decide) ?_
    have hpm_4344 : (([(oD, .inl (G.2 6, 1, .inr (.inr (.inr (.inl og))))), (o, .inl (G.2 5, 1, .inr (.inl of2_4327)))] ++ (W2_4328 ++ (W2_4335 ++ []))) : va_W).Perm (([(o, .inl (G.2 5, 1, .inr (.inl of2_4327))), (oD, .inl (G.2 6, 1, .inr (.inr (.inr (.inl og)))))] ++ (W2_4328 ++ (W2_4335 ++ []))) ++ []) := segs_perm [[(oD, .inl (G.2 6, 1, .inr (.inr (.inr (.inl og)))))], [(o, .inl (G.2 5, 1, .inr (.inl of2_4327)))], W2_4328, W2_4335] [1, 0, 2, 3] [] rfl
    have hP : va_P G.1 CL ([(o, .inl (G.2 5, 1, .inr (.inl of2_4327))), (oD, .inl (G.2 6, 1, .inr (.inr (.inr (.inl og)))))] ++ (W2_4328 ++ (W2_4335 ++ []))) H := P_left (P_perm hpm_4344 hP)
    have hD : va_D A ([(o, .inl (G.2 5, 1, .inr (.inl of2_4327))), (oD, .inl (G.2 6, 1, .inr (.inr (.inr (.inl og)))))] ++ (W2_4328 ++ (W2_4335 ++ []))) := D_left (D_perm hpm_4344 hD)
    have hl := lv_sub hl [2, 3, 4, 5, 6, 7] (l' := [(0, .ref b), (1, .ref d), (2, .ref m0), (3, .ref o), (4, .ref oD), (5, .int (nI i9))]) rfl
    exact W.widen (show cl + 8300 ≤ cl + 20000 from by omega) (show sl + 17000 ≤ sl + 45000 from by omega) (kk ls H locs C M (((q_form (dC M) (sx9 xs (i9 + 1)))).1) W2_4328 W2_4335 of2_4327 og hP hD hS hl hq_4331 hq_4337 hLw.up)

set_option maxHeartbeats 4000000 in
theorem lawK_30 {p : Program} {l : Launch} {e : Env} {s : State} {m : MethodId} {below : List Frame} {meth : Method} {c : Code} {G : Gt} {A : Nat → Prop} {b L : Nat} {xs : Nat → Int32} {Q : State → Prop} {d m0 o oD i9 N cl sl : Nat} (hfl : l.stackTraces = false) (F : LwF G A p s m c b L xs) (hi9 : i9 + 4 ≤ L) (hN24 : N ≤ 24) (hcl : cl + 20000 ≤ 1200144) (hsl : sl + 45000 ≤ 5495674) (kk : ∀ (ls : Array Slot) (H : Heap) (locs : List Loc) (C M : DS) (th : Nat) (WD WM : va_W) (of : Nat → Int64) (og : Nat → UInt64), va_P G.1 CL ([(o, .inl (G.2 5, 1, .inr (.inl of))), (oD, .inl (G.2 6, 1, .inr (.inr (.inr (.inl og)))))] ++ (WD ++ (WM ++ []))) H → va_D A ([(o, .inl (G.2 5, 1, .inr (.inl of))), (oD, .inl (G.2 6, 1, .inr (.inr (.inr (.inl og)))))] ++ (WD ++ (WM ++ []))) → va_S A s.heap H locs → lv_has ls 10 [(0, .ref b), (1, .ref d), (2, .ref m0), (3, .ref o), (4, .ref oD), (5, .int (nI i9))] → DyW G d C WD → MdW G m0 M th WM → LawI C M (N + 1) → W p l e room_1 s m #[Value.ref b] below meth c H locs (cl + 20000) (sl + 45000) Q (F0 m 2788 ls [])) {ls : Array Slot} {H : Heap} {locs : List Loc} {C M : DS} {th : Nat} {WD WM : va_W} {of : Nat → Int64} {og : Nat → UInt64} (hP : va_P G.1 CL ([(o, .inl (G.2 5, 1, .inr (.inl of))), (oD, .inl (G.2 6, 1, .inr (.inr (.inr (.inl og)))))] ++ (WD ++ (WM ++ []))) H) (hD : va_D A ([(o, .inl (G.2 5, 1, .inr (.inl of))), (oD, .inl (G.2 6, 1, .inr (.inr (.inr (.inl og)))))] ++ (WD ++ (WM ++ [])))) (hS : va_S A s.heap H locs) (hl : lv_has ls 10 [(0, .ref b), (1, .ref d), (2, .ref m0), (3, .ref o), (4, .ref oD), (5, .int (nI i9))]) (hDy : DyW G d C WD) (hMd : MdW G m0 M th WM) (hLw : LawI C M N) : W p l e room_1 s m #[Value.ref b] below meth c H locs cl sl Q (F0 m 1918 ls []) := by
  obtain ⟨cf, hKB, hE, hA, hX9, hbl, hbA, hNc, hL96⟩ := F
  have hx := cf.1
  have hb := cf.2.1
  have hml := cf.2.2.1
  have hown : s.vm.findClass RX0 = some m.cls := cf.2.2.2.1
  have hts := cf.2.2.2.2
  have hK := hKB.1
  have hIc := hDy.inv.1
  have hIm : Inv (dC M) := Inv_sim hLw.1 hIc
  have hRk : RkOk (dC M) := RkOk_sim hLw.1 (RkOk_srt hDy.inv.2.2)
  have hl := hl
  refine lv_aload_n hx hb dL_law_1918 rfl (lv_at hl 1 rfl) ?_
  have hpm_4345 : (([(o, .inl (G.2 5, 1, .inr (.inl of))), (oD, .inl (G.2 6, 1, .inr (.inr (.inr (.inl og)))))] ++ (WD ++ (WM ++ []))) : va_W).Perm ((WD ++ []) ++ ([(o, .inl (G.2 5, 1, .inr (.inl of))), (oD, .inl (G.2 6, 1, .inr (.inr (.inr (.inl og)))))] ++ (WM ++ []))) := segs_perm [[(o, .inl (G.2 5, 1, .inr (.inl of)))], [(oD, .inl (G.2 6, 1, .inr (.inr (.inr (.inl og)))))], WD, WM] [2] [0, 1, 3] rfl
  have hF := hF_ofP (wc := (WD ++ [])) hD hS hA hpm_4345
  refine go_ctP hS hP hD hpm_4345 hF
      (va_runV (As := []) (rest := []) cf (dX1_bestFormDay l G d C WD (hDy) H.size) (cwV 0 hts (lw_V q454 q455 q456 q47 q457) rfl rfl rfl (by decide +kernel) ⟨Nat.le_of_ble_eq_true rfl, Nat.le_of_ble_eq_true rfl⟩) (preV_of hKB hE hS hF (DyW.recv hK hDy (seg_at [[(o, .inl (G.2 5, 1, .inr (.inl of)))], [(oD, .inl (G.2 6, 1, .inr (.inr (.inr (.inl og)))))], WD, WM] 2 rfl hP)) (P_left (P_perm hpm_4345 hP)) ((D_left (D_perm hpm_4345 hD)).weaken (fun _ _ _ _ => trivial)) trivial) rfl rfl hl.1 rfl (lv_room (Nat.le_of_ble_eq_true rfl)) dL_law_1919 ⟨show cl + 8300 ≤ 1200144 from by first | decide | omega, show sl + 17000 ≤ 5495674 from by first | decide | omega⟩)
      (fun u_ H locs hq hph (hP : va_P G.1 CL (([(o, .inl (G.2 5, 1, .inr (.inl of))), (oD, .inl (G.2 6, 1, .inr (.inr (.inr (.inl og)))))] ++ (WM ++ [])) ++ (u_.2 ++ [])) H) (hD : va_D A (([(o, .inl (G.2 5, 1, .inr (.inl of))), (oD, .inl (G.2 6, 1, .inr (.inr (.inr (.inl og)))))] ++ (WM ++ [])) ++ (u_.2 ++ []))) hS hfz hfk => ?_)
  obtain ⟨rr_4346, W2_4347⟩ := u_
  obtain ⟨hq_4348, hq_4349⟩ : q_bestForm (dC C) = (0, rr_4346) ∧ DyW G d C W2_4347 := hq
  have hpm_4350 : (([(o, .inl (G.2 5, 1, .inr (.inl of))), (oD, .inl (G.2 6, 1, .inr (.inr (.inr (.inl og)))))] ++ (WM ++ [])) ++ (W2_4347 ++ []) : va_W).Perm ([(o, .inl (G.2 5, 1, .inr (.inl of))), (oD, .inl (G.2 6, 1, .inr (.inr (.inr (.inl og)))))] ++ (WM ++ (W2_4347 ++ []))) := segs_perm2 [[(o, .inl (G.2 5, 1, .inr (.inl of)))], [(oD, .inl (G.2 6, 1, .inr (.inr (.inr (.inl og)))))], WM] [W2_4347] [0, 1, 2, 3] rfl
  have hP : va_P G.1 CL ([(o, .inl (G.2 5, 1, .inr (.inl of))), (oD, .inl (G.2 6, 1, .inr (.inr (.inr (.inl og)))))] ++ (WM ++ (W2_4347 ++ []))) H := P_perm hpm_4350 hP
  have hD : va_D A ([(o, .inl (G.2 5, 1, .inr (.inl of))), (oD, .inl (G.2 6, 1, .inr (.inr (.inr (.inl og)))))] ++ (WM ++ (W2_4347 ++ []))) := D_perm hpm_4350 hD
  refine W.eq (g2 := F0 m 1922 ls [.int rr_4346]) rfl ?_
  have hqs : (q_bestForm (dC M)) = (q_bestForm (dC C)) := q_bestForm_sim hLw.1.symm hIm 
  refine lv_toi (y := ((q_bestForm (dC C))).2) ((congrArg Prod.snd hq_4348).symm) ?_
  refine lv_aload_n hx hb dL_law_1922 rfl (lv_at hl 2 rfl) ?_
  have hpm_4351 : (([(o, .inl (G.2 5, 1, .inr (.inl of))), (oD, .inl (G.2 6, 1, .inr (.inr (.inr (.inl og)))))] ++ (WM ++ (W2_4347 ++ []))) : va_W).Perm ((WM ++ []) ++ ([(o, .inl (G.2 5, 1, .inr (.inl of))), (oD, .inl (G.2 6, 1, .inr (.inr (.inr (.inl og)))))] ++ (W2_4347 ++ []))) := segs_perm [[(o, .inl (G.2 5, 1, .inr (.inl of)))], [(oD, .inl (G.2 6, 1, .inr (.inr (.inr (.inl og)))))], WM, W2_4347] [2] [0, 1, 3] rfl
  have hF := hF_ofP (wc := (WM ++ [])) hD hS hA hpm_4351
  refine go_ctP hS hP hD hpm_4351 hF
      (va_runV (As := []) (rest := [.int (((q_bestForm (dC C))).2)]) cf (eX4_bestFormDay l G m0 M th WM (hMd) (hIm) H.size) (cwV 0 hts (lw_V q1837 q1838 q1839 q58 q1840) rfl rfl rfl (by decide +kernel) ⟨Nat.le_of_ble_eq_true rfl, Nat.le_of_ble_eq_true rfl⟩) (preV_of hKB hE hS hF (MdW.recv hK hMd (seg_at [[(o, .inl (G.2 5, 1, .inr (.inl of)))], [(oD, .inl (G.2 6, 1, .inr (.inr (.inr (.inl og)))))], WM, W2_4347] 2 rfl hP)) (P_left (P_perm hpm_4351 hP)) ((D_left (D_perm hpm_4351 hD)).weaken (fun _ _ _ _ => trivial)) trivial) rfl rfl hl.1 rfl (lv_room (Nat.le_of_ble_eq_true rfl)) dL_law_1923 ⟨show cl + 8300 + 0 ≤ 1200144 from by first | decide | omega, show sl + 17000 + 0 ≤ 5495674 from by first | decide | omega⟩)
      (fun u_ H locs hq hph (hP : va_P G.1 CL (([(o, .inl (G.2 5, 1, .inr (.inl of))), (oD, .inl (G.2 6, 1, .inr (.inr (.inr (.inl og)))))] ++ (W2_4347 ++ [])) ++ (u_.2 ++ [])) H) (hD : va_D A (([(o, .inl (G.2 5, 1, .inr (.inl of))), (oD, .inl (G.2 6, 1, .inr (.inr (.inr (.inl og)))))] ++ (W2_4347 ++ [])) ++ (u_.2 ++ []))) hS hfz hfk => ?_)
  obtain ⟨rr_4352, W2_4353⟩ := u_
  obtain ⟨hq_4354, hq_4355⟩ : ((q_bestForm (dC M)).1 = 0 → rr_4352 = (q_bestForm (dC M)).2) ∧ MdW G m0 M (q_bestForm (dC M)).1 W2_4353 := hq
  have hpm_4356 : (([(o, .inl (G.2 5, 1, .inr (.inl of))), (oD, .inl (G.2 6, 1, .inr (.inr (.inr (.inl og)))))] ++ (W2_4347 ++ [])) ++ (W2_4353 ++ []) : va_W).Perm ([(o, .inl (G.2 5, 1, .inr (.inl of))), (oD, .inl (G.2 6, 1, .inr (.inr (.inr (.inl og)))))] ++ (W2_4347 ++ (W2_4353 ++ []))) := segs_perm2 [[(o, .inl (G.2 5, 1, .inr (.inl of)))], [(oD, .inl (G.2 6, 1, .inr (.inr (.inr (.inl og)))))], W2_4347] [W2_4353] [0, 1, 2, 3] rfl
  have hP : va_P G.1 CL ([(o, .inl (G.2 5, 1, .inr (.inl of))), (oD, .inl (G.2 6, 1, .inr (.inr (.inr (.inl og)))))] ++ (W2_4347 ++ (W2_4353 ++ []))) H := P_perm hpm_4356 hP
  have hD : va_D A ([(o, .inl (G.2 5, 1, .inr (.inl of))), (oD, .inl (G.2 6, 1, .inr (.inr (.inr (.inl og)))))] ++ (W2_4347 ++ (W2_4353 ++ []))) := D_perm hpm_4356 hD
  refine W.eq (g2 := F0 m 1926 ls [.int rr_4352, .int (((q_bestForm (dC C))).2)]) rfl ?_
  refine lv_toi (y := ((q_bestForm (dC C))).2) ((hq_4354 (by rw [hqs, hq_4348])).trans (by rw [hqs])) ?_
  refine lv_icmp_eq (tgt := 2788) hx hb dL_law_1926 (by decide) (fun _ => ?_) (fun c9 => absurd rfl c9)
  have hpm_4357 : (([(o, .inl (G.2 5, 1, .inr (.inl of))), (oD, .inl (G.2 6, 1, .inr (.inr (.inr (.inl og)))))] ++ (W2_4347 ++ (W2_4353 ++ []))) : va_W).Perm (([(o, .inl (G.2 5, 1, .inr (.inl of))), (oD, .inl (G.2 6, 1, .inr (.inr (.inr (.inl og)))))] ++ (W2_4347 ++ (W2_4353 ++ []))) ++ []) := segs_perm [[(o, .inl (G.2 5, 1, .inr (.inl of)))], [(oD, .inl (G.2 6, 1, .inr (.inr (.inr (.inl og)))))], W2_4347, W2_4353] [0, 1, 2, 3] [] rfl
  have hP : va_P G.1 CL ([(o, .inl (G.2 5, 1, .inr (.inl of))), (oD, .inl (G.2 6, 1, .inr (.inr (.inr (.inl og)))))] ++ (W2_4347 ++ (W2_4353 ++ []))) H := P_left (P_perm hpm_4357 hP)
  have hD : va_D A ([(o, .inl (G.2 5, 1, .inr (.inl of))), (oD, .inl (G.2 6, 1, .inr (.inr (.inr (.inl og)))))] ++ (W2_4347 ++ (W2_4353 ++ []))) := D_left (D_perm hpm_4357 hD)
  have hl := lv_sub hl [0, 1, 2, 3, 4, 5] (l' := [(0, .ref b), (1, .ref d), (2, .ref m0), (3, .ref o), (4, .ref oD), (5, .int (nI i9))]) rfl
  exact W.widen (show cl + 8300 ≤ cl + 20000 from by omega) (show sl + 17000 ≤ sl + 45000 from by omega) (kk ls H locs C M (((q_bestForm (dC M))).1) W2_4347 W2_4353 of og hP hD hS hl hq_4349 hq_4355 hLw.up)

set_option maxHeartbeats 4000000 in
theorem lawK_31 {p : Program} {l : Launch} {e : Env} {s : State} {m : MethodId} {below : List Frame} {meth : Method} {c : Code} {G : Gt} {A : Nat → Prop} {b L : Nat} {xs : Nat → Int32} {Q : State → Prop} {d m0 o oD i9 N cl sl : Nat} (hfl : l.stackTraces = false) (F : LwF G A p s m c b L xs) (hi9 : i9 + 4 ≤ L) (hN24 : N ≤ 24) (hcl : cl + 20000 ≤ 1200144) (hsl : sl + 45000 ≤ 5495674) (kk : ∀ (ls : Array Slot) (H : Heap) (locs : List Loc) (C M : DS) (th : Nat) (WD WM : va_W) (of : Nat → Int64) (og : Nat → UInt64), va_P G.1 CL ([(o, .inl (G.2 5, 1, .inr (.inl of))), (oD, .inl (G.2 6, 1, .inr (.inr (.inr (.inl og)))))] ++ (WD ++ (WM ++ []))) H → va_D A ([(o, .inl (G.2 5, 1, .inr (.inl of))), (oD, .inl (G.2 6, 1, .inr (.inr (.inr (.inl og)))))] ++ (WD ++ (WM ++ []))) → va_S A s.heap H locs → lv_has ls 10 [(0, .ref b), (1, .ref d), (2, .ref m0), (3, .ref o), (4, .ref oD), (5, .int (nI i9))] → DyW G d C WD → MdW G m0 M th WM → LawI C M (N + 1) → W p l e room_1 s m #[Value.ref b] below meth c H locs (cl + 20000) (sl + 45000) Q (F0 m 2788 ls [])) {ls : Array Slot} {H : Heap} {locs : List Loc} {C M : DS} {th : Nat} {WD WM : va_W} {of : Nat → Int64} {og : Nat → UInt64} (hP : va_P G.1 CL ([(o, .inl (G.2 5, 1, .inr (.inl of))), (oD, .inl (G.2 6, 1, .inr (.inr (.inr (.inl og)))))] ++ (WD ++ (WM ++ []))) H) (hD : va_D A ([(o, .inl (G.2 5, 1, .inr (.inl of))), (oD, .inl (G.2 6, 1, .inr (.inr (.inr (.inl og)))))] ++ (WD ++ (WM ++ [])))) (hS : va_S A s.heap H locs) (hl : lv_has ls 10 [(0, .ref b), (1, .ref d), (2, .ref m0), (3, .ref o), (4, .ref oD), (5, .int (nI i9))]) (hDy : DyW G d C WD) (hMd : MdW G m0 M th WM) (hLw : LawI C M N) : W p l e room_1 s m #[Value.ref b] below meth c H locs cl sl Q (F0 m 1931 ls []) := by
  obtain ⟨cf, hKB, hE, hA, hX9, hbl, hbA, hNc, hL96⟩ := F
  have hx := cf.1
  have hb := cf.2.1
  have hml := cf.2.2.1
  have hown : s.vm.findClass RX0 = some m.cls := cf.2.2.2.1
  have hts := cf.2.2.2.2
  have hK := hKB.1
  have hIc := hDy.inv.1
  have hIm : Inv (dC M) := Inv_sim hLw.1 hIc
  have hRk : RkOk (dC M) := RkOk_sim hLw.1 (RkOk_srt hDy.inv.2.2)
  have hl := hl
  refine lv_aload_n hx hb dL_law_1931 rfl (lv_at hl 1 rfl) ?_
  refine lv_aload_n hx hb dL_law_1932 rfl (lv_at hl 0 rfl) ?_
  refine lv_iload hx hb dL_law_1933 (lv_at hl 5 rfl) ?_
  refine lv_iconst (v := nI 1) hx hb dL_law_1935 (by decide) ?_
  refine lv_iadd hx hb dL_law_1936 ?_
  refine lv_ton (n := i9 + 1) (nadd (by omega)) ?_
  refine va_sld hx hb hX9 hbl hbA hS (i := nI (i9 + 1)) (vp9 (by omega) hL96) dL_law_1937 ?_
  refine W.eq (g2 := F0 m 1938 ls [.int (sx9 xs (i9 + 1)), .ref d]) rfl ?_
  refine lv_aload_n hx hb dL_law_1938 rfl (lv_at hl 3 rfl) ?_
  have hpm_4358 : (([(o, .inl (G.2 5, 1, .inr (.inl of))), (oD, .inl (G.2 6, 1, .inr (.inr (.inr (.inl og)))))] ++ (WD ++ (WM ++ []))) : va_W).Perm (([(o, .inl (G.2 5, 1, .inr (.inl of)))] ++ (WD ++ [])) ++ ([(oD, .inl (G.2 6, 1, .inr (.inr (.inr (.inl og)))))] ++ (WM ++ []))) := segs_perm [[(o, .inl (G.2 5, 1, .inr (.inl of)))], [(oD, .inl (G.2 6, 1, .inr (.inr (.inr (.inl og)))))], WD, WM] [0, 2] [1, 3] rfl
  have hF := hF_ofP (wc := ([(o, .inl (G.2 5, 1, .inr (.inl of)))] ++ (WD ++ []))) hD hS hA hpm_4358
  refine go_ctP hS hP hD hpm_4358 hF
      (vx_runSW (As := [.ref d, .int (sx9 xs (i9 + 1)), .ref o]) (rest := []) cf (wX0_daysToForm l G d C WD o of (sx9 xs (i9 + 1)) (hDy) hfl H.size) (vx_cwSW 3 hts (lw_SW q1340 q1341 q46 q1342) rfl rfl rfl (by decide +kernel) ⟨Nat.le_of_ble_eq_true rfl, Nat.le_of_ble_eq_true rfl⟩) (preS_ofW hNc hKB hE hS hF (P_left (P_perm hpm_4358 hP)) ((D_left (D_perm hpm_4358 hD)).weaken (fun _ _ _ _ => trivial)) trivial) rfl rfl hl.1 rfl (lv_room (Nat.le_of_ble_eq_true rfl)) dL_law_1939 ⟨show cl + 8300 ≤ 1200144 from by first | decide | omega, show sl + 17000 ≤ 5495674 from by first | decide | omega⟩)
      (fun u_ H locs hq hph (hP : va_P G.1 CL (([(oD, .inl (G.2 6, 1, .inr (.inr (.inr (.inl og)))))] ++ (WM ++ [])) ++ ([(o, .inl (G.2 5, 1, .inr (.inl u_.1)))] ++ (u_.2 ++ []))) H) (hD : va_D A (([(oD, .inl (G.2 6, 1, .inr (.inr (.inr (.inl og)))))] ++ (WM ++ [])) ++ ([(o, .inl (G.2 5, 1, .inr (.inl u_.1)))] ++ (u_.2 ++ [])))) hS hfz hfk => ?_)
  obtain ⟨of2_4359, W2_4360⟩ := u_
  obtain ⟨hq_4361, hq_4362, hq_4363⟩ : ((q_daysTo (dC C) (sx9 xs (i9 + 1))).1 = 0 → of2_4359 0 = ((q_daysTo (dC C) (sx9 xs (i9 + 1))).2).toInt64) ∧ (q_daysTo (dC C) (sx9 xs (i9 + 1))).1 < 10 ∧ DyW G d C W2_4360 := hq
  have hpm_4364 : (([(oD, .inl (G.2 6, 1, .inr (.inr (.inr (.inl og)))))] ++ (WM ++ [])) ++ ([(o, .inl (G.2 5, 1, .inr (.inl of2_4359)))] ++ (W2_4360 ++ [])) : va_W).Perm ([(oD, .inl (G.2 6, 1, .inr (.inr (.inr (.inl og))))), (o, .inl (G.2 5, 1, .inr (.inl of2_4359)))] ++ (WM ++ (W2_4360 ++ []))) := segs_perm2 [[(oD, .inl (G.2 6, 1, .inr (.inr (.inr (.inl og)))))], WM] [[(o, .inl (G.2 5, 1, .inr (.inl of2_4359)))], W2_4360] [0, 2, 1, 3] rfl
  have hP : va_P G.1 CL ([(oD, .inl (G.2 6, 1, .inr (.inr (.inr (.inl og))))), (o, .inl (G.2 5, 1, .inr (.inl of2_4359)))] ++ (WM ++ (W2_4360 ++ []))) H := P_perm hpm_4364 hP
  have hD : va_D A ([(oD, .inl (G.2 6, 1, .inr (.inr (.inr (.inl og))))), (o, .inl (G.2 5, 1, .inr (.inl of2_4359)))] ++ (WM ++ (W2_4360 ++ []))) := D_perm hpm_4364 hD
  refine W.eq (g2 := F0 m 1942 ls [.int (nI ((q_daysTo (dC C) (sx9 xs (i9 + 1))).1))]) rfl ?_
  have hqs : (q_daysTo (dC M) (sx9 xs (i9 + 1))) = (q_daysTo (dC C) (sx9 xs (i9 + 1))) := q_daysTo_sim hLw.1.symm hIm (sx9 xs (i9 + 1))
  refine lv_istore (lv' := [(6, .int (nI ((q_daysTo (dC C) (sx9 xs (i9 + 1))).1))), (0, .ref b), (1, .ref d), (2, .ref m0), (3, .ref o), (4, .ref oD), (5, .int (nI i9))]) hx hb dL_law_1942 hl (by decide) rfl (fun ls hl => ?_)
  refine lv_aload_n hx hb dL_law_1944 rfl (lv_at hl 3 rfl) ?_
  refine lv_aload_n hx hb dL_law_1945 rfl (lv_at hl 1 rfl) ?_
  refine lv_iload hx hb dL_law_1946 (lv_at hl 6 rfl) ?_
  refine lv_iconst (v := nI 1) hx hb dL_law_1948 (by decide) ?_
  refine lv_iadd hx hb dL_law_1949 ?_
  refine lv_ton (n := i9 + 1) (nadd (by omega)) ?_
  refine va_sld hx hb hX9 hbl hbA hS (i := nI (i9 + 1)) (vp9 (by omega) hL96) dL_law_1950 ?_
  refine W.eq (g2 := F0 m 1951 ls [.int (sx9 xs (i9 + 1)), .ref m0]) rfl ?_
  have hpm_4365 : (([(oD, .inl (G.2 6, 1, .inr (.inr (.inr (.inl og))))), (o, .inl (G.2 5, 1, .inr (.inl of2_4359)))] ++ (WM ++ (W2_4360 ++ []))) : va_W).Perm ((WM ++ []) ++ ([(oD, .inl (G.2 6, 1, .inr (.inr (.inr (.inl og))))), (o, .inl (G.2 5, 1, .inr (.inl of2_4359)))] ++ (W2_4360 ++ []))) := segs_perm [[(oD, .inl (G.2 6, 1, .inr (.inr (.inr (.inl og)))))], [(o, .inl (G.2 5, 1, .inr (.inl of2_4359)))], WM, W2_4360] [2] [0, 1, 3] rfl
  have hF := hF_ofP (wc := (WM ++ [])) hD hS hA hpm_4365
  refine go_ctP hS hP hD hpm_4365 hF
      (va_runV (As := [.int (sx9 xs (i9 + 1))]) (rest := []) cf (eX4_daysToForm l G m0 M th WM (sx9 xs (i9 + 1)) (hMd) (hIm) H.size) (cwV 1 hts (lw_V q1841 q1842 q1843 q58 q1844) rfl rfl rfl (by decide +kernel) ⟨Nat.le_of_ble_eq_true rfl, Nat.le_of_ble_eq_true rfl⟩) (preV_of hKB hE hS hF (MdW.recv hK hMd (seg_at [[(oD, .inl (G.2 6, 1, .inr (.inr (.inr (.inl og)))))], [(o, .inl (G.2 5, 1, .inr (.inl of2_4359)))], WM, W2_4360] 2 rfl hP)) (P_left (P_perm hpm_4365 hP)) ((D_left (D_perm hpm_4365 hD)).weaken (fun _ _ _ _ => trivial)) trivial) rfl rfl hl.1 rfl (lv_room (Nat.le_of_ble_eq_true rfl)) dL_law_1951 ⟨show cl + 8300 + 0 ≤ 1200144 from by first | decide | omega, show sl + 17000 + 0 ≤ 5495674 from by first | decide | omega⟩)
      (fun u_ H locs hq hph (hP : va_P G.1 CL (([(oD, .inl (G.2 6, 1, .inr (.inr (.inr (.inl og))))), (o, .inl (G.2 5, 1, .inr (.inl of2_4359)))] ++ (W2_4360 ++ [])) ++ (u_.2 ++ [])) H) (hD : va_D A (([(oD, .inl (G.2 6, 1, .inr (.inr (.inr (.inl og))))), (o, .inl (G.2 5, 1, .inr (.inl of2_4359)))] ++ (W2_4360 ++ [])) ++ (u_.2 ++ []))) hS hfz hfk => ?_)
  obtain ⟨rr_4366, W2_4367⟩ := u_
  obtain ⟨hq_4368, hq_4369⟩ : ((q_daysTo (dC M) (sx9 xs (i9 + 1))).1 = 0 → rr_4366 = (q_daysTo (dC M) (sx9 xs (i9 + 1))).2) ∧ MdW G m0 M (q_daysTo (dC M) (sx9 xs (i9 + 1))).1 W2_4367 := hq
  have hpm_4370 : (([(oD, .inl (G.2 6, 1, .inr (.inr (.inr (.inl og))))), (o, .inl (G.2 5, 1, .inr (.inl of2_4359)))] ++ (W2_4360 ++ [])) ++ (W2_4367 ++ []) : va_W).Perm ([(oD, .inl (G.2 6, 1, .inr (.inr (.inr (.inl og))))), (o, .inl (G.2 5, 1, .inr (.inl of2_4359)))] ++ (W2_4360 ++ (W2_4367 ++ []))) := segs_perm2 [[(oD, .inl (G.2 6, 1, .inr (.inr (.inr (.inl og)))))], [(o, .inl (G.2 5, 1, .inr (.inl of2_4359)))], W2_4360] [W2_4367] [0, 1, 2, 3] rfl
  have hP : va_P G.1 CL ([(oD, .inl (G.2 6, 1, .inr (.inr (.inr (.inl og))))), (o, .inl (G.2 5, 1, .inr (.inl of2_4359)))] ++ (W2_4360 ++ (W2_4367 ++ []))) H := P_perm hpm_4370 hP
  have hD : va_D A ([(oD, .inl (G.2 6, 1, .inr (.inr (.inr (.inl og))))), (o, .inl (G.2 5, 1, .inr (.inl of2_4359)))] ++ (W2_4360 ++ (W2_4367 ++ []))) := D_perm hpm_4370 hD
  refine W.eq (g2 := F0 m 1954 ls [.int rr_4366]) rfl ?_
  refine lv_istore (lv' := [(7, .int rr_4366), (6, .int (nI ((q_daysTo (dC C) (sx9 xs (i9 + 1))).1))), (0, .ref b), (1, .ref d), (2, .ref m0), (3, .ref o), (4, .ref oD), (5, .int (nI i9))]) hx hb dL_law_1954 hl (by decide) rfl (fun ls hl => ?_)
  refine lv_aload_n hx hb dL_law_1956 rfl (lv_at hl 4 rfl) ?_
  have hpm_4371 : (([(oD, .inl (G.2 6, 1, .inr (.inr (.inr (.inl og))))), (o, .inl (G.2 5, 1, .inr (.inl of2_4359)))] ++ (W2_4360 ++ (W2_4367 ++ []))) : va_W).Perm ([] ++ ([(oD, .inl (G.2 6, 1, .inr (.inr (.inr (.inl og))))), (o, .inl (G.2 5, 1, .inr (.inl of2_4359)))] ++ (W2_4360 ++ (W2_4367 ++ [])))) := segs_perm [[(oD, .inl (G.2 6, 1, .inr (.inr (.inr (.inl og)))))], [(o, .inl (G.2 5, 1, .inr (.inl of2_4359)))], W2_4360, W2_4367] [] [0, 1, 2, 3] rfl
  have hF := hF_ofP (wc := []) hD hS hA hpm_4371
  refine go_ctP hS hP hD hpm_4371 hF
      (va_runV (As := []) (rest := []) cf (eX4_thrown l G m0 M (((q_daysTo (dC M) (sx9 xs (i9 + 1)))).1) W2_4367 (hq_4369) H.size) (cwV 0 hts (lw_V q1639 q1640 q1641 q58 q1642) rfl rfl rfl (by decide +kernel) ⟨Nat.le_of_ble_eq_true rfl, Nat.le_of_ble_eq_true rfl⟩) (preV_of hKB hE hS hF (MdW.recv hK hq_4369 (seg_at [[(oD, .inl (G.2 6, 1, .inr (.inr (.inr (.inl og)))))], [(o, .inl (G.2 5, 1, .inr (.inl of2_4359)))], W2_4360, W2_4367] 3 rfl hP)) (P_left (P_perm hpm_4371 hP)) ((D_left (D_perm hpm_4371 hD)).weaken (fun _ _ _ _ => trivial)) (roW.nil (seg_at [[(oD, .inl (G.2 6, 1, .inr (.inr (.inr (.inl og)))))], [(o, .inl (G.2 5, 1, .inr (.inl of2_4359)))], W2_4360, W2_4367] 3 rfl hP))) rfl rfl hl.1 rfl (lv_room (Nat.le_of_ble_eq_true rfl)) dL_law_1957 ⟨show cl + 8300 + 0 ≤ 1200144 from by first | decide | omega, show sl + 17000 + 0 ≤ 5495674 from by first | decide | omega⟩)
      (fun u_ H locs hq hph (hP : va_P G.1 CL (([(oD, .inl (G.2 6, 1, .inr (.inr (.inr (.inl og))))), (o, .inl (G.2 5, 1, .inr (.inl of2_4359)))] ++ (W2_4360 ++ (W2_4367 ++ []))) ++ []) H) (hD : va_D A (([(oD, .inl (G.2 6, 1, .inr (.inr (.inr (.inl og))))), (o, .inl (G.2 5, 1, .inr (.inl of2_4359)))] ++ (W2_4360 ++ (W2_4367 ++ []))) ++ [])) hS hfz hfk => ?_)
  have hpm_4372 : (([(oD, .inl (G.2 6, 1, .inr (.inr (.inr (.inl og))))), (o, .inl (G.2 5, 1, .inr (.inl of2_4359)))] ++ (W2_4360 ++ (W2_4367 ++ []))) ++ [] : va_W).Perm ([(oD, .inl (G.2 6, 1, .inr (.inr (.inr (.inl og))))), (o, .inl (G.2 5, 1, .inr (.inl of2_4359)))] ++ (W2_4360 ++ (W2_4367 ++ []))) := segs_perm2 [[(oD, .inl (G.2 6, 1, .inr (.inr (.inr (.inl og)))))], [(o, .inl (G.2 5, 1, .inr (.inl of2_4359)))], W2_4360, W2_4367] [] [0, 1, 2, 3] rfl
  have hP : va_P G.1 CL ([(oD, .inl (G.2 6, 1, .inr (.inr (.inr (.inl og))))), (o, .inl (G.2 5, 1, .inr (.inl of2_4359)))] ++ (W2_4360 ++ (W2_4367 ++ []))) H := P_perm hpm_4372 hP
  have hD : va_D A ([(oD, .inl (G.2 6, 1, .inr (.inr (.inr (.inl og))))), (o, .inl (G.2 5, 1, .inr (.inl of2_4359)))] ++ (W2_4360 ++ (W2_4367 ++ []))) := D_perm hpm_4372 hD
  refine W.eq (g2 := F0 m 1960 ls [.int (nI (((q_daysTo (dC M) (sx9 xs (i9 + 1)))).1))]) rfl ?_
  refine lv_ton (n := ((q_daysTo (dC C) (sx9 xs (i9 + 1))).1)) (congrArg nI (by rw [hqs])) ?_
  refine lv_iload hx hb dL_law_1960 (lv_at hl 1 rfl) ?_
  refine lv_icmp_eq (tgt := 1967) hx hb dL_law_1962 (by decide) (fun _ => ?_) (fun c9 => absurd rfl c9)
  refine lv_iload hx hb dL_law_1967 (lv_at hl 1 rfl) ?_
  refine n_if_ne (tgt := 1984) hx hb (by omega) dL_law_1969 (by decide) (fun c_4373 => ?_) (fun c_4373 => ?_)
  · refine lv_goto (tgt := 2788) hx hb dL_law_1984 (by decide) ?_
    have hpm_4374 : (([(oD, .inl (G.2 6, 1, .inr (.inr (.inr (.inl og))))), (o, .inl (G.2 5, 1, .inr (.inl of2_4359)))] ++ (W2_4360 ++ (W2_4367 ++ []))) : va_W).Perm (([(o, .inl (G.2 5, 1, .inr (.inl of2_4359))), (oD, .inl (G.2 6, 1, .inr (.inr (.inr (.inl og)))))] ++ (W2_4360 ++ (W2_4367 ++ []))) ++ []) := segs_perm [[(oD, .inl (G.2 6, 1, .inr (.inr (.inr (.inl og)))))], [(o, .inl (G.2 5, 1, .inr (.inl of2_4359)))], W2_4360, W2_4367] [1, 0, 2, 3] [] rfl
    have hP : va_P G.1 CL ([(o, .inl (G.2 5, 1, .inr (.inl of2_4359))), (oD, .inl (G.2 6, 1, .inr (.inr (.inr (.inl og)))))] ++ (W2_4360 ++ (W2_4367 ++ []))) H := P_left (P_perm hpm_4374 hP)
    have hD : va_D A ([(o, .inl (G.2 5, 1, .inr (.inl of2_4359))), (oD, .inl (G.2 6, 1, .inr (.inr (.inr (.inl og)))))] ++ (W2_4360 ++ (W2_4367 ++ []))) := D_left (D_perm hpm_4374 hD)
    have hl := lv_sub hl [2, 3, 4, 5, 6, 7] (l' := [(0, .ref b), (1, .ref d), (2, .ref m0), (3, .ref o), (4, .ref oD), (5, .int (nI i9))]) rfl
    exact W.widen (show cl + 8300 ≤ cl + 20000 from by omega) (show sl + 17000 ≤ sl + 45000 from by omega) (kk ls H locs C M (((q_daysTo (dC M) (sx9 xs (i9 + 1)))).1) W2_4360 W2_4367 of2_4359 og hP hD hS hl hq_4363 hq_4369 hLw.up)
  · refine lv_aload_n hx hb dL_law_1972 rfl (lv_at hl 5 rfl) ?_
    refine lv_iconst (v := nI 0) hx hb dL_law_1973 (by decide) ?_
    refine r_lald (v := (((q_daysTo (dC C) (sx9 xs (i9 + 1)))).2).toInt64) hx hb hK hP 1 5 rfl rfl (i := 0) (by omega) (by omega) ((hq_4361 (by omega))) dL_law_1974 ?_
    refine lv_iload hx hb dL_law_1975 (lv_at hl 0 rfl) ?_
    refine lv_toi (y := ((q_daysTo (dC C) (sx9 xs (i9 + 1)))).2) ((hq_4368 (by rw [hqs]; omega)).trans (by rw [hqs])) ?_
    refine lv_i2l (v := (((q_daysTo (dC C) (sx9 xs (i9 + 1)))).2).toInt64) hx hb dL_law_1977 rfl ?_
    refine W.lcmp hx hb dL_law_1978 ?_
    refine lv_ton (n := 0) (lcmp0 _) ?_
    refine n_if_eq (tgt := 1984) hx hb (by omega) dL_law_1979 (by decide) (fun c_4375 => ?_) (fun c_4375 => absurd c_4375 (by omega))
    refine lv_goto (tgt := 2788) hx hb dL_law_1984 (by decide) ?_
    have hpm_4376 : (([(oD, .inl (G.2 6, 1, .inr (.inr (.inr (.inl og))))), (o, .inl (G.2 5, 1, .inr (.inl of2_4359)))] ++ (W2_4360 ++ (W2_4367 ++ []))) : va_W).Perm (([(o, .inl (G.2 5, 1, .inr (.inl of2_4359))), (oD, .inl (G.2 6, 1, .inr (.inr (.inr (.inl og)))))] ++ (W2_4360 ++ (W2_4367 ++ []))) ++ []) := segs_perm [[(oD, .inl (G.2 6, 1, .inr (.inr (.inr (.inl og)))))], [(o, .inl (G.2 5, 1, .inr (.inl of2_4359)))], W2_4360, W2_4367] [1, 0, 2, 3] [] rfl
    have hP : va_P G.1 CL ([(o, .inl (G.2 5, 1, .inr (.inl of2_4359))), (oD, .inl (G.2 6, 1, .inr (.inr (.inr (.inl og)))))] ++ (W2_4360 ++ (W2_4367 ++ []))) H := P_left (P_perm hpm_4376 hP)
    have hD : va_D A ([(o, .inl (G.2 5, 1, .inr (.inl of2_4359))), (oD, .inl (G.2 6, 1, .inr (.inr (.inr (.inl og)))))] ++ (W2_4360 ++ (W2_4367 ++ []))) := D_left (D_perm hpm_4376 hD)
    have hl := lv_sub hl [2, 3, 4, 5, 6, 7] (l' := [(0, .ref b), (1, .ref d), (2, .ref m0), (3, .ref o), (4, .ref oD), (5, .int (nI i9))]) rfl
    exact W.widen (show cl + 8300 ≤ cl + 20000 from by omega) (show sl + 17000 ≤ sl + 45000 from by omega) (kk ls H locs C M (((q_daysTo (dC M) (sx9 xs (i9 + 1)))).1) W2_4360 W2_4367 of2_4359 og hP hD hS hl hq_4363 hq_4369 hLw.up)

set_option maxHeartbeats 4000000 in
theorem lawK_32 {p : Program} {l : Launch} {e : Env} {s : State} {m : MethodId} {below : List Frame} {meth : Method} {c : Code} {G : Gt} {A : Nat → Prop} {b L : Nat} {xs : Nat → Int32} {Q : State → Prop} {d m0 o oD i9 N cl sl : Nat} (hfl : l.stackTraces = false) (F : LwF G A p s m c b L xs) (hi9 : i9 + 4 ≤ L) (hN24 : N ≤ 24) (hcl : cl + 20000 ≤ 1200144) (hsl : sl + 45000 ≤ 5495674) (kk : ∀ (ls : Array Slot) (H : Heap) (locs : List Loc) (C M : DS) (th : Nat) (WD WM : va_W) (of : Nat → Int64) (og : Nat → UInt64), va_P G.1 CL ([(o, .inl (G.2 5, 1, .inr (.inl of))), (oD, .inl (G.2 6, 1, .inr (.inr (.inr (.inl og)))))] ++ (WD ++ (WM ++ []))) H → va_D A ([(o, .inl (G.2 5, 1, .inr (.inl of))), (oD, .inl (G.2 6, 1, .inr (.inr (.inr (.inl og)))))] ++ (WD ++ (WM ++ []))) → va_S A s.heap H locs → lv_has ls 10 [(0, .ref b), (1, .ref d), (2, .ref m0), (3, .ref o), (4, .ref oD), (5, .int (nI i9))] → DyW G d C WD → MdW G m0 M th WM → LawI C M (N + 1) → W p l e room_1 s m #[Value.ref b] below meth c H locs (cl + 20000) (sl + 45000) Q (F0 m 2788 ls [])) {ls : Array Slot} {H : Heap} {locs : List Loc} {C M : DS} {th : Nat} {WD WM : va_W} {of : Nat → Int64} {og : Nat → UInt64} (hP : va_P G.1 CL ([(o, .inl (G.2 5, 1, .inr (.inl of))), (oD, .inl (G.2 6, 1, .inr (.inr (.inr (.inl og)))))] ++ (WD ++ (WM ++ []))) H) (hD : va_D A ([(o, .inl (G.2 5, 1, .inr (.inl of))), (oD, .inl (G.2 6, 1, .inr (.inr (.inr (.inl og)))))] ++ (WD ++ (WM ++ [])))) (hS : va_S A s.heap H locs) (hl : lv_has ls 10 [(0, .ref b), (1, .ref d), (2, .ref m0), (3, .ref o), (4, .ref oD), (5, .int (nI i9))]) (hDy : DyW G d C WD) (hMd : MdW G m0 M th WM) (hLw : LawI C M N) : W p l e room_1 s m #[Value.ref b] below meth c H locs cl sl Q (F0 m 1987 ls []) := by
  obtain ⟨cf, hKB, hE, hA, hX9, hbl, hbA, hNc, hL96⟩ := F
  have hx := cf.1
  have hb := cf.2.1
  have hml := cf.2.2.1
  have hown : s.vm.findClass RX0 = some m.cls := cf.2.2.2.1
  have hts := cf.2.2.2.2
  have hK := hKB.1
  have hIc := hDy.inv.1
  have hIm : Inv (dC M) := Inv_sim hLw.1 hIc
  have hRk : RkOk (dC M) := RkOk_sim hLw.1 (RkOk_srt hDy.inv.2.2)
  have hl := hl
  refine lv_aload_n hx hb dL_law_1987 rfl (lv_at hl 1 rfl) ?_
  refine lv_aload_n hx hb dL_law_1988 rfl (lv_at hl 0 rfl) ?_
  refine lv_iload hx hb dL_law_1989 (lv_at hl 5 rfl) ?_
  refine lv_iconst (v := nI 1) hx hb dL_law_1991 (by decide) ?_
  refine lv_iadd hx hb dL_law_1992 ?_
  refine lv_ton (n := i9 + 1) (nadd (by omega)) ?_
  refine va_sld hx hb hX9 hbl hbA hS (i := nI (i9 + 1)) (vp9 (by omega) hL96) dL_law_1993 ?_
  refine W.eq (g2 := F0 m 1994 ls [.int (sx9 xs (i9 + 1)), .ref d]) rfl ?_
  refine lv_aload_n hx hb dL_law_1994 rfl (lv_at hl 3 rfl) ?_
  have hpm_4377 : (([(o, .inl (G.2 5, 1, .inr (.inl of))), (oD, .inl (G.2 6, 1, .inr (.inr (.inr (.inl og)))))] ++ (WD ++ (WM ++ []))) : va_W).Perm (([(o, .inl (G.2 5, 1, .inr (.inl of)))] ++ (WD ++ [])) ++ ([(oD, .inl (G.2 6, 1, .inr (.inr (.inr (.inl og)))))] ++ (WM ++ []))) := segs_perm [[(o, .inl (G.2 5, 1, .inr (.inl of)))], [(oD, .inl (G.2 6, 1, .inr (.inr (.inr (.inl og)))))], WD, WM] [0, 2] [1, 3] rfl
  have hF := hF_ofP (wc := ([(o, .inl (G.2 5, 1, .inr (.inl of)))] ++ (WD ++ []))) hD hS hA hpm_4377
  refine go_ctP hS hP hD hpm_4377 hF
      (vx_runSW (As := [.ref d, .int (sx9 xs (i9 + 1)), .ref o]) (rest := []) cf (wX0_bestDays l G d C WD o of (sx9 xs (i9 + 1)) (hDy) hfl H.size) (vx_cwSW 3 hts (lw_SW q1350 q1351 q46 q1352) rfl rfl rfl (by decide +kernel) ⟨Nat.le_of_ble_eq_true rfl, Nat.le_of_ble_eq_true rfl⟩) (preS_ofW hNc hKB hE hS hF (P_left (P_perm hpm_4377 hP)) ((D_left (D_perm hpm_4377 hD)).weaken (fun _ _ _ _ => trivial)) trivial) rfl rfl hl.1 rfl (lv_room (Nat.le_of_ble_eq_true rfl)) dL_law_1995 ⟨show cl + 16600 ≤ 1200144 from by first | decide | omega, show sl + 34000 ≤ 5495674 from by first | decide | omega⟩)
      (fun u_ H locs hq hph (hP : va_P G.1 CL (([(oD, .inl (G.2 6, 1, .inr (.inr (.inr (.inl og)))))] ++ (WM ++ [])) ++ ([(o, .inl (G.2 5, 1, .inr (.inl u_.1)))] ++ (u_.2 ++ []))) H) (hD : va_D A (([(oD, .inl (G.2 6, 1, .inr (.inr (.inr (.inl og)))))] ++ (WM ++ [])) ++ ([(o, .inl (G.2 5, 1, .inr (.inl u_.1)))] ++ (u_.2 ++ [])))) hS hfz hfk => ?_)
  obtain ⟨of2_4378, W2_4379⟩ := u_
  obtain ⟨hq_4380, hq_4381, hq_4382⟩ : ((q_bestDays (dC C) (sx9 xs (i9 + 1))).1 = 0 → of2_4378 0 = ((q_bestDays (dC C) (sx9 xs (i9 + 1))).2).toInt64) ∧ (q_bestDays (dC C) (sx9 xs (i9 + 1))).1 < 10 ∧ DyW G d C W2_4379 := hq
  have hpm_4383 : (([(oD, .inl (G.2 6, 1, .inr (.inr (.inr (.inl og)))))] ++ (WM ++ [])) ++ ([(o, .inl (G.2 5, 1, .inr (.inl of2_4378)))] ++ (W2_4379 ++ [])) : va_W).Perm ([(oD, .inl (G.2 6, 1, .inr (.inr (.inr (.inl og))))), (o, .inl (G.2 5, 1, .inr (.inl of2_4378)))] ++ (WM ++ (W2_4379 ++ []))) := segs_perm2 [[(oD, .inl (G.2 6, 1, .inr (.inr (.inr (.inl og)))))], WM] [[(o, .inl (G.2 5, 1, .inr (.inl of2_4378)))], W2_4379] [0, 2, 1, 3] rfl
  have hP : va_P G.1 CL ([(oD, .inl (G.2 6, 1, .inr (.inr (.inr (.inl og))))), (o, .inl (G.2 5, 1, .inr (.inl of2_4378)))] ++ (WM ++ (W2_4379 ++ []))) H := P_perm hpm_4383 hP
  have hD : va_D A ([(oD, .inl (G.2 6, 1, .inr (.inr (.inr (.inl og))))), (o, .inl (G.2 5, 1, .inr (.inl of2_4378)))] ++ (WM ++ (W2_4379 ++ []))) := D_perm hpm_4383 hD
  refine W.eq (g2 := F0 m 1998 ls [.int (nI ((q_bestDays (dC C) (sx9 xs (i9 + 1))).1))]) rfl ?_
  have hqs : (q_bestDays (dC M) (sx9 xs (i9 + 1))) = (q_bestDays (dC C) (sx9 xs (i9 + 1))) := q_bestDays_sim hLw.1.symm hIm (sx9 xs (i9 + 1))
  refine lv_istore (lv' := [(6, .int (nI ((q_bestDays (dC C) (sx9 xs (i9 + 1))).1))), (0, .ref b), (1, .ref d), (2, .ref m0), (3, .ref o), (4, .ref oD), (5, .int (nI i9))]) hx hb dL_law_1998 hl (by decide) rfl (fun ls hl => ?_)
  refine lv_aload_n hx hb dL_law_2000 rfl (lv_at hl 3 rfl) ?_
  refine lv_aload_n hx hb dL_law_2001 rfl (lv_at hl 1 rfl) ?_
  refine lv_iload hx hb dL_law_2002 (lv_at hl 6 rfl) ?_
  refine lv_iconst (v := nI 1) hx hb dL_law_2004 (by decide) ?_
  refine lv_iadd hx hb dL_law_2005 ?_
  refine lv_ton (n := i9 + 1) (nadd (by omega)) ?_
  refine va_sld hx hb hX9 hbl hbA hS (i := nI (i9 + 1)) (vp9 (by omega) hL96) dL_law_2006 ?_
  refine W.eq (g2 := F0 m 2007 ls [.int (sx9 xs (i9 + 1)), .ref m0]) rfl ?_
  have hpm_4384 : (([(oD, .inl (G.2 6, 1, .inr (.inr (.inr (.inl og))))), (o, .inl (G.2 5, 1, .inr (.inl of2_4378)))] ++ (WM ++ (W2_4379 ++ []))) : va_W).Perm ((WM ++ []) ++ ([(oD, .inl (G.2 6, 1, .inr (.inr (.inr (.inl og))))), (o, .inl (G.2 5, 1, .inr (.inl of2_4378)))] ++ (W2_4379 ++ []))) := segs_perm [[(oD, .inl (G.2 6, 1, .inr (.inr (.inr (.inl og)))))], [(o, .inl (G.2 5, 1, .inr (.inl of2_4378)))], WM, W2_4379] [2] [0, 1, 3] rfl
  have hF := hF_ofP (wc := (WM ++ [])) hD hS hA hpm_4384
  refine go_ctP hS hP hD hpm_4384 hF
      (va_runV (As := [.int (sx9 xs (i9 + 1))]) (rest := []) cf (eX4_bestDays l G m0 M th WM (sx9 xs (i9 + 1)) (hMd) (hIm) H.size) (cwV 1 hts (lw_V q1847 q1848 q1849 q58 q1850) rfl rfl rfl (by decide +kernel) ⟨Nat.le_of_ble_eq_true rfl, Nat.le_of_ble_eq_true rfl⟩) (preV_of hKB hE hS hF (MdW.recv hK hMd (seg_at [[(oD, .inl (G.2 6, 1, .inr (.inr (.inr (.inl og)))))], [(o, .inl (G.2 5, 1, .inr (.inl of2_4378)))], WM, W2_4379] 2 rfl hP)) (P_left (P_perm hpm_4384 hP)) ((D_left (D_perm hpm_4384 hD)).weaken (fun _ _ _ _ => trivial)) trivial) rfl rfl hl.1 rfl (lv_room (Nat.le_of_ble_eq_true rfl)) dL_law_2007 ⟨show cl + 16600 + 0 ≤ 1200144 from by first | decide | omega, show sl + 34000 + 0 ≤ 5495674 from by first | decide | omega⟩)
      (fun u_ H locs hq hph (hP : va_P G.1 CL (([(oD, .inl (G.2 6, 1, .inr (.inr (.inr (.inl og))))), (o, .inl (G.2 5, 1, .inr (.inl of2_4378)))] ++ (W2_4379 ++ [])) ++ (u_.2 ++ [])) H) (hD : va_D A (([(oD, .inl (G.2 6, 1, .inr (.inr (.inr (.inl og))))), (o, .inl (G.2 5, 1, .inr (.inl of2_4378)))] ++ (W2_4379 ++ [])) ++ (u_.2 ++ []))) hS hfz hfk => ?_)
  obtain ⟨rr_4385, W2_4386⟩ := u_
  obtain ⟨hq_4387, hq_4388⟩ : ((q_bestDays (dC M) (sx9 xs (i9 + 1))).1 = 0 → rr_4385 = (q_bestDays (dC M) (sx9 xs (i9 + 1))).2) ∧ MdW G m0 M (q_bestDays (dC M) (sx9 xs (i9 + 1))).1 W2_4386 := hq
  have hpm_4389 : (([(oD, .inl (G.2 6, 1, .inr (.inr (.inr (.inl og))))), (o, .inl (G.2 5, 1, .inr (.inl of2_4378)))] ++ (W2_4379 ++ [])) ++ (W2_4386 ++ []) : va_W).Perm ([(oD, .inl (G.2 6, 1, .inr (.inr (.inr (.inl og))))), (o, .inl (G.2 5, 1, .inr (.inl of2_4378)))] ++ (W2_4379 ++ (W2_4386 ++ []))) := segs_perm2 [[(oD, .inl (G.2 6, 1, .inr (.inr (.inr (.inl og)))))], [(o, .inl (G.2 5, 1, .inr (.inl of2_4378)))], W2_4379] [W2_4386] [0, 1, 2, 3] rfl
  have hP : va_P G.1 CL ([(oD, .inl (G.2 6, 1, .inr (.inr (.inr (.inl og))))), (o, .inl (G.2 5, 1, .inr (.inl of2_4378)))] ++ (W2_4379 ++ (W2_4386 ++ []))) H := P_perm hpm_4389 hP
  have hD : va_D A ([(oD, .inl (G.2 6, 1, .inr (.inr (.inr (.inl og))))), (o, .inl (G.2 5, 1, .inr (.inl of2_4378)))] ++ (W2_4379 ++ (W2_4386 ++ []))) := D_perm hpm_4389 hD
  refine W.eq (g2 := F0 m 2010 ls [.int rr_4385]) rfl ?_
  refine lv_istore (lv' := [(7, .int rr_4385), (6, .int (nI ((q_bestDays (dC C) (sx9 xs (i9 + 1))).1))), (0, .ref b), (1, .ref d), (2, .ref m0), (3, .ref o), (4, .ref oD), (5, .int (nI i9))]) hx hb dL_law_2010 hl (by decide) rfl (fun ls hl => ?_)
  refine lv_aload_n hx hb dL_law_2012 rfl (lv_at hl 4 rfl) ?_
  have hpm_4390 : (([(oD, .inl (G.2 6, 1, .inr (.inr (.inr (.inl og))))), (o, .inl (G.2 5, 1, .inr (.inl of2_4378)))] ++ (W2_4379 ++ (W2_4386 ++ []))) : va_W).Perm ([] ++ ([(oD, .inl (G.2 6, 1, .inr (.inr (.inr (.inl og))))), (o, .inl (G.2 5, 1, .inr (.inl of2_4378)))] ++ (W2_4379 ++ (W2_4386 ++ [])))) := segs_perm [[(oD, .inl (G.2 6, 1, .inr (.inr (.inr (.inl og)))))], [(o, .inl (G.2 5, 1, .inr (.inl of2_4378)))], W2_4379, W2_4386] [] [0, 1, 2, 3] rfl
  have hF := hF_ofP (wc := []) hD hS hA hpm_4390
  refine go_ctP hS hP hD hpm_4390 hF
      (va_runV (As := []) (rest := []) cf (eX4_thrown l G m0 M (((q_bestDays (dC M) (sx9 xs (i9 + 1)))).1) W2_4386 (hq_4388) H.size) (cwV 0 hts (lw_V q1639 q1640 q1641 q58 q1642) rfl rfl rfl (by decide +kernel) ⟨Nat.le_of_ble_eq_true rfl, Nat.le_of_ble_eq_true rfl⟩) (preV_of hKB hE hS hF (MdW.recv hK hq_4388 (seg_at [[(oD, .inl (G.2 6, 1, .inr (.inr (.inr (.inl og)))))], [(o, .inl (G.2 5, 1, .inr (.inl of2_4378)))], W2_4379, W2_4386] 3 rfl hP)) (P_left (P_perm hpm_4390 hP)) ((D_left (D_perm hpm_4390 hD)).weaken (fun _ _ _ _ => trivial)) (roW.nil (seg_at [[(oD, .inl (G.2 6, 1, .inr (.inr (.inr (.inl og)))))], [(o, .inl (G.2 5, 1, .inr (.inl of2_4378)))], W2_4379, W2_4386] 3 rfl hP))) rfl rfl hl.1 rfl (lv_room (Nat.le_of_ble_eq_true rfl)) dL_law_2013 ⟨show cl + 16600 + 0 ≤ 1200144 from by first | decide | omega, show sl + 34000 + 0 ≤ 5495674 from by first | decide | omega⟩)
      (fun u_ H locs hq hph (hP : va_P G.1 CL (([(oD, .inl (G.2 6, 1, .inr (.inr (.inr (.inl og))))), (o, .inl (G.2 5, 1, .inr (.inl of2_4378)))] ++ (W2_4379 ++ (W2_4386 ++ []))) ++ []) H) (hD : va_D A (([(oD, .inl (G.2 6, 1, .inr (.inr (.inr (.inl og))))), (o, .inl (G.2 5, 1, .inr (.inl of2_4378)))] ++ (W2_4379 ++ (W2_4386 ++ []))) ++ [])) hS hfz hfk => ?_)
  have hpm_4391 : (([(oD, .inl (G.2 6, 1, .inr (.inr (.inr (.inl og))))), (o, .inl (G.2 5, 1, .inr (.inl of2_4378)))] ++ (W2_4379 ++ (W2_4386 ++ []))) ++ [] : va_W).Perm ([(oD, .inl (G.2 6, 1, .inr (.inr (.inr (.inl og))))), (o, .inl (G.2 5, 1, .inr (.inl of2_4378)))] ++ (W2_4379 ++ (W2_4386 ++ []))) := segs_perm2 [[(oD, .inl (G.2 6, 1, .inr (.inr (.inr (.inl og)))))], [(o, .inl (G.2 5, 1, .inr (.inl of2_4378)))], W2_4379, W2_4386] [] [0, 1, 2, 3] rfl
  have hP : va_P G.1 CL ([(oD, .inl (G.2 6, 1, .inr (.inr (.inr (.inl og))))), (o, .inl (G.2 5, 1, .inr (.inl of2_4378)))] ++ (W2_4379 ++ (W2_4386 ++ []))) H := P_perm hpm_4391 hP
  have hD : va_D A ([(oD, .inl (G.2 6, 1, .inr (.inr (.inr (.inl og))))), (o, .inl (G.2 5, 1, .inr (.inl of2_4378)))] ++ (W2_4379 ++ (W2_4386 ++ []))) := D_perm hpm_4391 hD
  refine W.eq (g2 := F0 m 2016 ls [.int (nI (((q_bestDays (dC M) (sx9 xs (i9 + 1)))).1))]) rfl ?_
  refine lv_ton (n := ((q_bestDays (dC C) (sx9 xs (i9 + 1))).1)) (congrArg nI (by rw [hqs])) ?_
  refine lv_iload hx hb dL_law_2016 (lv_at hl 1 rfl) ?_
  refine lv_icmp_eq (tgt := 2023) hx hb dL_law_2018 (by decide) (fun _ => ?_) (fun c9 => absurd rfl c9)
  refine lv_iload hx hb dL_law_2023 (lv_at hl 1 rfl) ?_
  refine n_if_ne (tgt := 2040) hx hb (by omega) dL_law_2025 (by decide) (fun c_4392 => ?_) (fun c_4392 => ?_)
  · refine lv_goto (tgt := 2788) hx hb dL_law_2040 (by decide) ?_
    have hpm_4393 : (([(oD, .inl (G.2 6, 1, .inr (.inr (.inr (.inl og))))), (o, .inl (G.2 5, 1, .inr (.inl of2_4378)))] ++ (W2_4379 ++ (W2_4386 ++ []))) : va_W).Perm (([(o, .inl (G.2 5, 1, .inr (.inl of2_4378))), (oD, .inl (G.2 6, 1, .inr (.inr (.inr (.inl og)))))] ++ (W2_4379 ++ (W2_4386 ++ []))) ++ []) := segs_perm [[(oD, .inl (G.2 6, 1, .inr (.inr (.inr (.inl og)))))], [(o, .inl (G.2 5, 1, .inr (.inl of2_4378)))], W2_4379, W2_4386] [1, 0, 2, 3] [] rfl
    have hP : va_P G.1 CL ([(o, .inl (G.2 5, 1, .inr (.inl of2_4378))), (oD, .inl (G.2 6, 1, .inr (.inr (.inr (.inl og)))))] ++ (W2_4379 ++ (W2_4386 ++ []))) H := P_left (P_perm hpm_4393 hP)
    have hD : va_D A ([(o, .inl (G.2 5, 1, .inr (.inl of2_4378))), (oD, .inl (G.2 6, 1, .inr (.inr (.inr (.inl og)))))] ++ (W2_4379 ++ (W2_4386 ++ []))) := D_left (D_perm hpm_4393 hD)
    have hl := lv_sub hl [2, 3, 4, 5, 6, 7] (l' := [(0, .ref b), (1, .ref d), (2, .ref m0), (3, .ref o), (4, .ref oD), (5, .int (nI i9))]) rfl
    exact W.widen (show cl + 16600 ≤ cl + 20000 from by omega) (show sl + 34000 ≤ sl + 45000 from by omega) (kk ls H locs C M (((q_bestDays (dC M) (sx9 xs (i9 + 1)))).1) W2_4379 W2_4386 of2_4378 og hP hD hS hl hq_4382 hq_4388 hLw.up)
  · refine lv_aload_n hx hb dL_law_2028 rfl (lv_at hl 5 rfl) ?_
    refine lv_iconst (v := nI 0) hx hb dL_law_2029 (by decide) ?_
    refine r_lald (v := (((q_bestDays (dC C) (sx9 xs (i9 + 1)))).2).toInt64) hx hb hK hP 1 5 rfl rfl (i := 0) (by omega) (by omega) ((hq_4380 (by omega))) dL_law_2030 ?_
    refine lv_iload hx hb dL_law_2031 (lv_at hl 0 rfl) ?_
    refine lv_toi (y := ((q_bestDays (dC C) (sx9 xs (i9 + 1)))).2) ((hq_4387 (by rw [hqs]; omega)).trans (by rw [hqs])) ?_
    refine lv_i2l (v := (((q_bestDays (dC C) (sx9 xs (i9 + 1)))).2).toInt64) hx hb dL_law_2033 rfl ?_
    refine W.lcmp hx hb dL_law_2034 ?_
    refine lv_ton (n := 0) (lcmp0 _) ?_
    refine n_if_eq (tgt := 2040) hx hb (by omega) dL_law_2035 (by decide) (fun c_4394 => ?_) (fun c_4394 => absurd c_4394 (by omega))
    refine lv_goto (tgt := 2788) hx hb dL_law_2040 (by decide) ?_
    have hpm_4395 : (([(oD, .inl (G.2 6, 1, .inr (.inr (.inr (.inl og))))), (o, .inl (G.2 5, 1, .inr (.inl of2_4378)))] ++ (W2_4379 ++ (W2_4386 ++ []))) : va_W).Perm (([(o, .inl (G.2 5, 1, .inr (.inl of2_4378))), (oD, .inl (G.2 6, 1, .inr (.inr (.inr (.inl og)))))] ++ (W2_4379 ++ (W2_4386 ++ []))) ++ []) := segs_perm [[(oD, .inl (G.2 6, 1, .inr (.inr (.inr (.inl og)))))], [(o, .inl (G.2 5, 1, .inr (.inl of2_4378)))], W2_4379, W2_4386] [1, 0, 2, 3] [] rfl
    have hP : va_P G.1 CL ([(o, .inl (G.2 5, 1, .inr (.inl of2_4378))), (oD, .inl (G.2 6, 1, .inr (.inr (.inr (.inl og)))))] ++ (W2_4379 ++ (W2_4386 ++ []))) H := P_left (P_perm hpm_4395 hP)
    have hD : va_D A ([(o, .inl (G.2 5, 1, .inr (.inl of2_4378))), (oD, .inl (G.2 6, 1, .inr (.inr (.inr (.inl og)))))] ++ (W2_4379 ++ (W2_4386 ++ []))) := D_left (D_perm hpm_4395 hD)
    have hl := lv_sub hl [2, 3, 4, 5, 6, 7] (l' := [(0, .ref b), (1, .ref d), (2, .ref m0), (3, .ref o), (4, .ref oD), (5, .int (nI i9))]) rfl
    exact W.widen (show cl + 16600 ≤ cl + 20000 from by omega) (show sl + 34000 ≤ sl + 45000 from by omega) (kk ls H locs C M (((q_bestDays (dC M) (sx9 xs (i9 + 1)))).1) W2_4379 W2_4386 of2_4378 og hP hD hS hl hq_4382 hq_4388 hLw.up)

set_option maxHeartbeats 4000000 in
theorem lawK_33 {p : Program} {l : Launch} {e : Env} {s : State} {m : MethodId} {below : List Frame} {meth : Method} {c : Code} {G : Gt} {A : Nat → Prop} {b L : Nat} {xs : Nat → Int32} {Q : State → Prop} {d m0 o oD i9 N cl sl : Nat} (hfl : l.stackTraces = false) (F : LwF G A p s m c b L xs) (hi9 : i9 + 4 ≤ L) (hN24 : N ≤ 24) (hcl : cl + 20000 ≤ 1200144) (hsl : sl + 45000 ≤ 5495674) (kk : ∀ (ls : Array Slot) (H : Heap) (locs : List Loc) (C M : DS) (th : Nat) (WD WM : va_W) (of : Nat → Int64) (og : Nat → UInt64), va_P G.1 CL ([(o, .inl (G.2 5, 1, .inr (.inl of))), (oD, .inl (G.2 6, 1, .inr (.inr (.inr (.inl og)))))] ++ (WD ++ (WM ++ []))) H → va_D A ([(o, .inl (G.2 5, 1, .inr (.inl of))), (oD, .inl (G.2 6, 1, .inr (.inr (.inr (.inl og)))))] ++ (WD ++ (WM ++ []))) → va_S A s.heap H locs → lv_has ls 10 [(0, .ref b), (1, .ref d), (2, .ref m0), (3, .ref o), (4, .ref oD), (5, .int (nI i9))] → DyW G d C WD → MdW G m0 M th WM → LawI C M (N + 1) → W p l e room_1 s m #[Value.ref b] below meth c H locs (cl + 20000) (sl + 45000) Q (F0 m 2788 ls [])) {ls : Array Slot} {H : Heap} {locs : List Loc} {C M : DS} {th : Nat} {WD WM : va_W} {of : Nat → Int64} {og : Nat → UInt64} (hP : va_P G.1 CL ([(o, .inl (G.2 5, 1, .inr (.inl of))), (oD, .inl (G.2 6, 1, .inr (.inr (.inr (.inl og)))))] ++ (WD ++ (WM ++ []))) H) (hD : va_D A ([(o, .inl (G.2 5, 1, .inr (.inl of))), (oD, .inl (G.2 6, 1, .inr (.inr (.inr (.inl og)))))] ++ (WD ++ (WM ++ [])))) (hS : va_S A s.heap H locs) (hl : lv_has ls 10 [(0, .ref b), (1, .ref d), (2, .ref m0), (3, .ref o), (4, .ref oD), (5, .int (nI i9))]) (hDy : DyW G d C WD) (hMd : MdW G m0 M th WM) (hLw : LawI C M N) : W p l e room_1 s m #[Value.ref b] below meth c H locs cl sl Q (F0 m 2043 ls []) := by
  obtain ⟨cf, hKB, hE, hA, hX9, hbl, hbA, hNc, hL96⟩ := F
  have hx := cf.1
  have hb := cf.2.1
  have hml := cf.2.2.1
  have hown : s.vm.findClass RX0 = some m.cls := cf.2.2.2.1
  have hts := cf.2.2.2.2
  have hK := hKB.1
  have hIc := hDy.inv.1
  have hIm : Inv (dC M) := Inv_sim hLw.1 hIc
  have hRk : RkOk (dC M) := RkOk_sim hLw.1 (RkOk_srt hDy.inv.2.2)
  have hl := hl
  refine lv_aload_n hx hb dL_law_2043 rfl (lv_at hl 1 rfl) ?_
  refine lv_aload_n hx hb dL_law_2044 rfl (lv_at hl 0 rfl) ?_
  refine lv_iload hx hb dL_law_2045 (lv_at hl 5 rfl) ?_
  refine lv_iconst (v := nI 1) hx hb dL_law_2047 (by decide) ?_
  refine lv_iadd hx hb dL_law_2048 ?_
  refine lv_ton (n := i9 + 1) (nadd (by omega)) ?_
  refine va_sld hx hb hX9 hbl hbA hS (i := nI (i9 + 1)) (vp9 (by omega) hL96) dL_law_2049 ?_
  refine W.eq (g2 := F0 m 2050 ls [.int (sx9 xs (i9 + 1)), .ref d]) rfl ?_
  refine lv_aload_n hx hb dL_law_2050 rfl (lv_at hl 3 rfl) ?_
  have hpm_4396 : (([(o, .inl (G.2 5, 1, .inr (.inl of))), (oD, .inl (G.2 6, 1, .inr (.inr (.inr (.inl og)))))] ++ (WD ++ (WM ++ []))) : va_W).Perm (([(o, .inl (G.2 5, 1, .inr (.inl of)))] ++ (WD ++ [])) ++ ([(oD, .inl (G.2 6, 1, .inr (.inr (.inr (.inl og)))))] ++ (WM ++ []))) := segs_perm [[(o, .inl (G.2 5, 1, .inr (.inl of)))], [(oD, .inl (G.2 6, 1, .inr (.inr (.inr (.inl og)))))], WD, WM] [0, 2] [1, 3] rfl
  have hF := hF_ofP (wc := ([(o, .inl (G.2 5, 1, .inr (.inl of)))] ++ (WD ++ []))) hD hS hA hpm_4396
  refine go_ctP hS hP hD hpm_4396 hF
      (vx_runSW (As := [.ref d, .int (sx9 xs (i9 + 1)), .ref o]) (rest := []) cf (wX0_bestDaysByTrying l G d C WD o of (sx9 xs (i9 + 1)) (hDy) hfl H.size) (vx_cwSW 3 hts (lw_SW q1370 q1371 q46 q1372) rfl rfl rfl (by decide +kernel) ⟨Nat.le_of_ble_eq_true rfl, Nat.le_of_ble_eq_true rfl⟩) (preS_ofW hNc hKB hE hS hF (P_left (P_perm hpm_4396 hP)) ((D_left (D_perm hpm_4396 hD)).weaken (fun _ _ _ _ => trivial)) trivial) rfl rfl hl.1 rfl (lv_room (Nat.le_of_ble_eq_true rfl)) dL_law_2051 ⟨show cl + 8300 ≤ 1200144 from by first | decide | omega, show sl + 17000 ≤ 5495674 from by first | decide | omega⟩)
      (fun u_ H locs hq hph (hP : va_P G.1 CL (([(oD, .inl (G.2 6, 1, .inr (.inr (.inr (.inl og)))))] ++ (WM ++ [])) ++ ([(o, .inl (G.2 5, 1, .inr (.inl u_.1)))] ++ (u_.2 ++ []))) H) (hD : va_D A (([(oD, .inl (G.2 6, 1, .inr (.inr (.inr (.inl og)))))] ++ (WM ++ [])) ++ ([(o, .inl (G.2 5, 1, .inr (.inl u_.1)))] ++ (u_.2 ++ [])))) hS hfz hfk => ?_)
  obtain ⟨of2_4397, W2_4398⟩ := u_
  obtain ⟨hq_4399, hq_4400, hq_4401⟩ : ((q_bestDays (dC C) (sx9 xs (i9 + 1))).1 = 0 → of2_4397 0 = ((q_bestDays (dC C) (sx9 xs (i9 + 1))).2).toInt64) ∧ (q_bestDays (dC C) (sx9 xs (i9 + 1))).1 < 10 ∧ DyW G d C W2_4398 := hq
  have hpm_4402 : (([(oD, .inl (G.2 6, 1, .inr (.inr (.inr (.inl og)))))] ++ (WM ++ [])) ++ ([(o, .inl (G.2 5, 1, .inr (.inl of2_4397)))] ++ (W2_4398 ++ [])) : va_W).Perm ([(oD, .inl (G.2 6, 1, .inr (.inr (.inr (.inl og))))), (o, .inl (G.2 5, 1, .inr (.inl of2_4397)))] ++ (WM ++ (W2_4398 ++ []))) := segs_perm2 [[(oD, .inl (G.2 6, 1, .inr (.inr (.inr (.inl og)))))], WM] [[(o, .inl (G.2 5, 1, .inr (.inl of2_4397)))], W2_4398] [0, 2, 1, 3] rfl
  have hP : va_P G.1 CL ([(oD, .inl (G.2 6, 1, .inr (.inr (.inr (.inl og))))), (o, .inl (G.2 5, 1, .inr (.inl of2_4397)))] ++ (WM ++ (W2_4398 ++ []))) H := P_perm hpm_4402 hP
  have hD : va_D A ([(oD, .inl (G.2 6, 1, .inr (.inr (.inr (.inl og))))), (o, .inl (G.2 5, 1, .inr (.inl of2_4397)))] ++ (WM ++ (W2_4398 ++ []))) := D_perm hpm_4402 hD
  refine W.eq (g2 := F0 m 2054 ls [.int (nI ((q_bestDays (dC C) (sx9 xs (i9 + 1))).1))]) rfl ?_
  have hqs : (q_bestDays (dC M) (sx9 xs (i9 + 1))) = (q_bestDays (dC C) (sx9 xs (i9 + 1))) := q_bestDays_sim hLw.1.symm hIm (sx9 xs (i9 + 1))
  refine lv_istore (lv' := [(6, .int (nI ((q_bestDays (dC C) (sx9 xs (i9 + 1))).1))), (0, .ref b), (1, .ref d), (2, .ref m0), (3, .ref o), (4, .ref oD), (5, .int (nI i9))]) hx hb dL_law_2054 hl (by decide) rfl (fun ls hl => ?_)
  refine lv_aload_n hx hb dL_law_2056 rfl (lv_at hl 3 rfl) ?_
  refine lv_aload_n hx hb dL_law_2057 rfl (lv_at hl 1 rfl) ?_
  refine lv_iload hx hb dL_law_2058 (lv_at hl 6 rfl) ?_
  refine lv_iconst (v := nI 1) hx hb dL_law_2060 (by decide) ?_
  refine lv_iadd hx hb dL_law_2061 ?_
  refine lv_ton (n := i9 + 1) (nadd (by omega)) ?_
  refine va_sld hx hb hX9 hbl hbA hS (i := nI (i9 + 1)) (vp9 (by omega) hL96) dL_law_2062 ?_
  refine W.eq (g2 := F0 m 2063 ls [.int (sx9 xs (i9 + 1)), .ref m0]) rfl ?_
  have hpm_4403 : (([(oD, .inl (G.2 6, 1, .inr (.inr (.inr (.inl og))))), (o, .inl (G.2 5, 1, .inr (.inl of2_4397)))] ++ (WM ++ (W2_4398 ++ []))) : va_W).Perm ((WM ++ []) ++ ([(oD, .inl (G.2 6, 1, .inr (.inr (.inr (.inl og))))), (o, .inl (G.2 5, 1, .inr (.inl of2_4397)))] ++ (W2_4398 ++ []))) := segs_perm [[(oD, .inl (G.2 6, 1, .inr (.inr (.inr (.inl og)))))], [(o, .inl (G.2 5, 1, .inr (.inl of2_4397)))], WM, W2_4398] [2] [0, 1, 3] rfl
  have hF := hF_ofP (wc := (WM ++ [])) hD hS hA hpm_4403
  refine go_ctP hS hP hD hpm_4403 hF
      (va_runV (As := [.int (sx9 xs (i9 + 1))]) (rest := []) cf (eX4_bestDaysByTrying l G m0 M th WM (sx9 xs (i9 + 1)) (hMd) (hIm) H.size) (cwV 1 hts (lw_V q1863 q1864 q1865 q58 q1866) rfl rfl rfl (by decide +kernel) ⟨Nat.le_of_ble_eq_true rfl, Nat.le_of_ble_eq_true rfl⟩) (preV_of hKB hE hS hF (MdW.recv hK hMd (seg_at [[(oD, .inl (G.2 6, 1, .inr (.inr (.inr (.inl og)))))], [(o, .inl (G.2 5, 1, .inr (.inl of2_4397)))], WM, W2_4398] 2 rfl hP)) (P_left (P_perm hpm_4403 hP)) ((D_left (D_perm hpm_4403 hD)).weaken (fun _ _ _ _ => trivial)) trivial) rfl rfl hl.1 rfl (lv_room (Nat.le_of_ble_eq_true rfl)) dL_law_2063 ⟨show cl + 8300 + 0 ≤ 1200144 from by first | decide | omega, show sl + 17000 + 0 ≤ 5495674 from by first | decide | omega⟩)
      (fun u_ H locs hq hph (hP : va_P G.1 CL (([(oD, .inl (G.2 6, 1, .inr (.inr (.inr (.inl og))))), (o, .inl (G.2 5, 1, .inr (.inl of2_4397)))] ++ (W2_4398 ++ [])) ++ (u_.2 ++ [])) H) (hD : va_D A (([(oD, .inl (G.2 6, 1, .inr (.inr (.inr (.inl og))))), (o, .inl (G.2 5, 1, .inr (.inl of2_4397)))] ++ (W2_4398 ++ [])) ++ (u_.2 ++ []))) hS hfz hfk => ?_)
  obtain ⟨rr_4404, W2_4405⟩ := u_
  obtain ⟨hq_4406, hq_4407⟩ : ((q_bestDays (dC M) (sx9 xs (i9 + 1))).1 = 0 → rr_4404 = (q_bestDays (dC M) (sx9 xs (i9 + 1))).2) ∧ MdW G m0 M (q_bestDays (dC M) (sx9 xs (i9 + 1))).1 W2_4405 := hq
  have hpm_4408 : (([(oD, .inl (G.2 6, 1, .inr (.inr (.inr (.inl og))))), (o, .inl (G.2 5, 1, .inr (.inl of2_4397)))] ++ (W2_4398 ++ [])) ++ (W2_4405 ++ []) : va_W).Perm ([(oD, .inl (G.2 6, 1, .inr (.inr (.inr (.inl og))))), (o, .inl (G.2 5, 1, .inr (.inl of2_4397)))] ++ (W2_4398 ++ (W2_4405 ++ []))) := segs_perm2 [[(oD, .inl (G.2 6, 1, .inr (.inr (.inr (.inl og)))))], [(o, .inl (G.2 5, 1, .inr (.inl of2_4397)))], W2_4398] [W2_4405] [0, 1, 2, 3] rfl
  have hP : va_P G.1 CL ([(oD, .inl (G.2 6, 1, .inr (.inr (.inr (.inl og))))), (o, .inl (G.2 5, 1, .inr (.inl of2_4397)))] ++ (W2_4398 ++ (W2_4405 ++ []))) H := P_perm hpm_4408 hP
  have hD : va_D A ([(oD, .inl (G.2 6, 1, .inr (.inr (.inr (.inl og))))), (o, .inl (G.2 5, 1, .inr (.inl of2_4397)))] ++ (W2_4398 ++ (W2_4405 ++ []))) := D_perm hpm_4408 hD
  refine W.eq (g2 := F0 m 2066 ls [.int rr_4404]) rfl ?_
  refine lv_istore (lv' := [(7, .int rr_4404), (6, .int (nI ((q_bestDays (dC C) (sx9 xs (i9 + 1))).1))), (0, .ref b), (1, .ref d), (2, .ref m0), (3, .ref o), (4, .ref oD), (5, .int (nI i9))]) hx hb dL_law_2066 hl (by decide) rfl (fun ls hl => ?_)
  refine lv_aload_n hx hb dL_law_2068 rfl (lv_at hl 4 rfl) ?_
  have hpm_4409 : (([(oD, .inl (G.2 6, 1, .inr (.inr (.inr (.inl og))))), (o, .inl (G.2 5, 1, .inr (.inl of2_4397)))] ++ (W2_4398 ++ (W2_4405 ++ []))) : va_W).Perm ([] ++ ([(oD, .inl (G.2 6, 1, .inr (.inr (.inr (.inl og))))), (o, .inl (G.2 5, 1, .inr (.inl of2_4397)))] ++ (W2_4398 ++ (W2_4405 ++ [])))) := segs_perm [[(oD, .inl (G.2 6, 1, .inr (.inr (.inr (.inl og)))))], [(o, .inl (G.2 5, 1, .inr (.inl of2_4397)))], W2_4398, W2_4405] [] [0, 1, 2, 3] rfl
  have hF := hF_ofP (wc := []) hD hS hA hpm_4409
  refine go_ctP hS hP hD hpm_4409 hF
      (va_runV (As := []) (rest := []) cf (eX4_thrown l G m0 M (((q_bestDays (dC M) (sx9 xs (i9 + 1)))).1) W2_4405 (hq_4407) H.size) (cwV 0 hts (lw_V q1639 q1640 q1641 q58 q1642) rfl rfl rfl (by decide +kernel) ⟨Nat.le_of_ble_eq_true rfl, Nat.le_of_ble_eq_true rfl⟩) (preV_of hKB hE hS hF (MdW.recv hK hq_4407 (seg_at [[(oD, .inl (G.2 6, 1, .inr (.inr (.inr (.inl og)))))], [(o, .inl (G.2 5, 1, .inr (.inl of2_4397)))], W2_4398, W2_4405] 3 rfl hP)) (P_left (P_perm hpm_4409 hP)) ((D_left (D_perm hpm_4409 hD)).weaken (fun _ _ _ _ => trivial)) (roW.nil (seg_at [[(oD, .inl (G.2 6, 1, .inr (.inr (.inr (.inl og)))))], [(o, .inl (G.2 5, 1, .inr (.inl of2_4397)))], W2_4398, W2_4405] 3 rfl hP))) rfl rfl hl.1 rfl (lv_room (Nat.le_of_ble_eq_true rfl)) dL_law_2069 ⟨show cl + 8300 + 0 ≤ 1200144 from by first | decide | omega, show sl + 17000 + 0 ≤ 5495674 from by first | decide | omega⟩)
      (fun u_ H locs hq hph (hP : va_P G.1 CL (([(oD, .inl (G.2 6, 1, .inr (.inr (.inr (.inl og))))), (o, .inl (G.2 5, 1, .inr (.inl of2_4397)))] ++ (W2_4398 ++ (W2_4405 ++ []))) ++ []) H) (hD : va_D A (([(oD, .inl (G.2 6, 1, .inr (.inr (.inr (.inl og))))), (o, .inl (G.2 5, 1, .inr (.inl of2_4397)))] ++ (W2_4398 ++ (W2_4405 ++ []))) ++ [])) hS hfz hfk => ?_)
  have hpm_4410 : (([(oD, .inl (G.2 6, 1, .inr (.inr (.inr (.inl og))))), (o, .inl (G.2 5, 1, .inr (.inl of2_4397)))] ++ (W2_4398 ++ (W2_4405 ++ []))) ++ [] : va_W).Perm ([(oD, .inl (G.2 6, 1, .inr (.inr (.inr (.inl og))))), (o, .inl (G.2 5, 1, .inr (.inl of2_4397)))] ++ (W2_4398 ++ (W2_4405 ++ []))) := segs_perm2 [[(oD, .inl (G.2 6, 1, .inr (.inr (.inr (.inl og)))))], [(o, .inl (G.2 5, 1, .inr (.inl of2_4397)))], W2_4398, W2_4405] [] [0, 1, 2, 3] rfl
  have hP : va_P G.1 CL ([(oD, .inl (G.2 6, 1, .inr (.inr (.inr (.inl og))))), (o, .inl (G.2 5, 1, .inr (.inl of2_4397)))] ++ (W2_4398 ++ (W2_4405 ++ []))) H := P_perm hpm_4410 hP
  have hD : va_D A ([(oD, .inl (G.2 6, 1, .inr (.inr (.inr (.inl og))))), (o, .inl (G.2 5, 1, .inr (.inl of2_4397)))] ++ (W2_4398 ++ (W2_4405 ++ []))) := D_perm hpm_4410 hD
  refine W.eq (g2 := F0 m 2072 ls [.int (nI (((q_bestDays (dC M) (sx9 xs (i9 + 1)))).1))]) rfl ?_
  refine lv_ton (n := ((q_bestDays (dC C) (sx9 xs (i9 + 1))).1)) (congrArg nI (by rw [hqs])) ?_
  refine lv_iload hx hb dL_law_2072 (lv_at hl 1 rfl) ?_
  refine lv_icmp_eq (tgt := 2079) hx hb dL_law_2074 (by decide) (fun _ => ?_) (fun c9 => absurd rfl c9)
  refine lv_iload hx hb dL_law_2079 (lv_at hl 1 rfl) ?_
  refine n_if_ne (tgt := 2096) hx hb (by omega) dL_law_2081 (by decide) (fun c_4411 => ?_) (fun c_4411 => ?_)
  · refine lv_goto (tgt := 2788) hx hb dL_law_2096 (by decide) ?_
    have hpm_4412 : (([(oD, .inl (G.2 6, 1, .inr (.inr (.inr (.inl og))))), (o, .inl (G.2 5, 1, .inr (.inl of2_4397)))] ++ (W2_4398 ++ (W2_4405 ++ []))) : va_W).Perm (([(o, .inl (G.2 5, 1, .inr (.inl of2_4397))), (oD, .inl (G.2 6, 1, .inr (.inr (.inr (.inl og)))))] ++ (W2_4398 ++ (W2_4405 ++ []))) ++ []) := segs_perm [[(oD, .inl (G.2 6, 1, .inr (.inr (.inr (.inl og)))))], [(o, .inl (G.2 5, 1, .inr (.inl of2_4397)))], W2_4398, W2_4405] [1, 0, 2, 3] [] rfl
    have hP : va_P G.1 CL ([(o, .inl (G.2 5, 1, .inr (.inl of2_4397))), (oD, .inl (G.2 6, 1, .inr (.inr (.inr (.inl og)))))] ++ (W2_4398 ++ (W2_4405 ++ []))) H := P_left (P_perm hpm_4412 hP)
    have hD : va_D A ([(o, .inl (G.2 5, 1, .inr (.inl of2_4397))), (oD, .inl (G.2 6, 1, .inr (.inr (.inr (.inl og)))))] ++ (W2_4398 ++ (W2_4405 ++ []))) := D_left (D_perm hpm_4412 hD)
    have hl := lv_sub hl [2, 3, 4, 5, 6, 7] (l' := [(0, .ref b), (1, .ref d), (2, .ref m0), (3, .ref o), (4, .ref oD), (5, .int (nI i9))]) rfl
    exact W.widen (show cl + 8300 ≤ cl + 20000 from by omega) (show sl + 17000 ≤ sl + 45000 from by omega) (kk ls H locs C M (((q_bestDays (dC M) (sx9 xs (i9 + 1)))).1) W2_4398 W2_4405 of2_4397 og hP hD hS hl hq_4401 hq_4407 hLw.up)
  · refine lv_aload_n hx hb dL_law_2084 rfl (lv_at hl 5 rfl) ?_
    refine lv_iconst (v := nI 0) hx hb dL_law_2085 (by decide) ?_
    refine r_lald (v := (((q_bestDays (dC C) (sx9 xs (i9 + 1)))).2).toInt64) hx hb hK hP 1 5 rfl rfl (i := 0) (by omega) (by omega) ((hq_4399 (by omega))) dL_law_2086 ?_
    refine lv_iload hx hb dL_law_2087 (lv_at hl 0 rfl) ?_
    refine lv_toi (y := ((q_bestDays (dC C) (sx9 xs (i9 + 1)))).2) ((hq_4406 (by rw [hqs]; omega)).trans (by rw [hqs])) ?_
    refine lv_i2l (v := (((q_bestDays (dC C) (sx9 xs (i9 + 1)))).2).toInt64) hx hb dL_law_2089 rfl ?_
    refine W.lcmp hx hb dL_law_2090 ?_
    refine lv_ton (n := 0) (lcmp0 _) ?_
    refine n_if_eq (tgt := 2096) hx hb (by omega) dL_law_2091 (by decide) (fun c_4413 => ?_) (fun c_4413 => absurd c_4413 (by omega))
    refine lv_goto (tgt := 2788) hx hb dL_law_2096 (by decide) ?_
    have hpm_4414 : (([(oD, .inl (G.2 6, 1, .inr (.inr (.inr (.inl og))))), (o, .inl (G.2 5, 1, .inr (.inl of2_4397)))] ++ (W2_4398 ++ (W2_4405 ++ []))) : va_W).Perm (([(o, .inl (G.2 5, 1, .inr (.inl of2_4397))), (oD, .inl (G.2 6, 1, .inr (.inr (.inr (.inl og)))))] ++ (W2_4398 ++ (W2_4405 ++ []))) ++ []) := segs_perm [[(oD, .inl (G.2 6, 1, .inr (.inr (.inr (.inl og)))))], [(o, .inl (G.2 5, 1, .inr (.inl of2_4397)))], W2_4398, W2_4405] [1, 0, 2, 3] [] rfl
    have hP : va_P G.1 CL ([(o, .inl (G.2 5, 1, .inr (.inl of2_4397))), (oD, .inl (G.2 6, 1, .inr (.inr (.inr (.inl og)))))] ++ (W2_4398 ++ (W2_4405 ++ []))) H := P_left (P_perm hpm_4414 hP)
    have hD : va_D A ([(o, .inl (G.2 5, 1, .inr (.inl of2_4397))), (oD, .inl (G.2 6, 1, .inr (.inr (.inr (.inl og)))))] ++ (W2_4398 ++ (W2_4405 ++ []))) := D_left (D_perm hpm_4414 hD)
    have hl := lv_sub hl [2, 3, 4, 5, 6, 7] (l' := [(0, .ref b), (1, .ref d), (2, .ref m0), (3, .ref o), (4, .ref oD), (5, .int (nI i9))]) rfl
    exact W.widen (show cl + 8300 ≤ cl + 20000 from by omega) (show sl + 17000 ≤ sl + 45000 from by omega) (kk ls H locs C M (((q_bestDays (dC M) (sx9 xs (i9 + 1)))).1) W2_4398 W2_4405 of2_4397 og hP hD hS hl hq_4401 hq_4407 hLw.up)

set_option maxHeartbeats 4000000 in
theorem lawK_34 {p : Program} {l : Launch} {e : Env} {s : State} {m : MethodId} {below : List Frame} {meth : Method} {c : Code} {G : Gt} {A : Nat → Prop} {b L : Nat} {xs : Nat → Int32} {Q : State → Prop} {d m0 o oD i9 N cl sl : Nat} (hfl : l.stackTraces = false) (F : LwF G A p s m c b L xs) (hi9 : i9 + 4 ≤ L) (hN24 : N ≤ 24) (hcl : cl + 20000 ≤ 1200144) (hsl : sl + 45000 ≤ 5495674) (kk : ∀ (ls : Array Slot) (H : Heap) (locs : List Loc) (C M : DS) (th : Nat) (WD WM : va_W) (of : Nat → Int64) (og : Nat → UInt64), va_P G.1 CL ([(o, .inl (G.2 5, 1, .inr (.inl of))), (oD, .inl (G.2 6, 1, .inr (.inr (.inr (.inl og)))))] ++ (WD ++ (WM ++ []))) H → va_D A ([(o, .inl (G.2 5, 1, .inr (.inl of))), (oD, .inl (G.2 6, 1, .inr (.inr (.inr (.inl og)))))] ++ (WD ++ (WM ++ []))) → va_S A s.heap H locs → lv_has ls 10 [(0, .ref b), (1, .ref d), (2, .ref m0), (3, .ref o), (4, .ref oD), (5, .int (nI i9))] → DyW G d C WD → MdW G m0 M th WM → LawI C M (N + 1) → W p l e room_1 s m #[Value.ref b] below meth c H locs (cl + 20000) (sl + 45000) Q (F0 m 2788 ls [])) {ls : Array Slot} {H : Heap} {locs : List Loc} {C M : DS} {th : Nat} {WD WM : va_W} {of : Nat → Int64} {og : Nat → UInt64} (hP : va_P G.1 CL ([(o, .inl (G.2 5, 1, .inr (.inl of))), (oD, .inl (G.2 6, 1, .inr (.inr (.inr (.inl og)))))] ++ (WD ++ (WM ++ []))) H) (hD : va_D A ([(o, .inl (G.2 5, 1, .inr (.inl of))), (oD, .inl (G.2 6, 1, .inr (.inr (.inr (.inl og)))))] ++ (WD ++ (WM ++ [])))) (hS : va_S A s.heap H locs) (hl : lv_has ls 10 [(0, .ref b), (1, .ref d), (2, .ref m0), (3, .ref o), (4, .ref oD), (5, .int (nI i9))]) (hDy : DyW G d C WD) (hMd : MdW G m0 M th WM) (hLw : LawI C M N) : W p l e room_1 s m #[Value.ref b] below meth c H locs cl sl Q (F0 m 2099 ls []) := by
  obtain ⟨cf, hKB, hE, hA, hX9, hbl, hbA, hNc, hL96⟩ := F
  have hx := cf.1
  have hb := cf.2.1
  have hml := cf.2.2.1
  have hown : s.vm.findClass RX0 = some m.cls := cf.2.2.2.1
  have hts := cf.2.2.2.2
  have hK := hKB.1
  have hIc := hDy.inv.1
  have hIm : Inv (dC M) := Inv_sim hLw.1 hIc
  have hRk : RkOk (dC M) := RkOk_sim hLw.1 (RkOk_srt hDy.inv.2.2)
  have hl := hl
  refine lv_aload_n hx hb dL_law_2099 rfl (lv_at hl 1 rfl) ?_
  refine lv_aload_n hx hb dL_law_2100 rfl (lv_at hl 0 rfl) ?_
  refine lv_iload hx hb dL_law_2101 (lv_at hl 5 rfl) ?_
  refine lv_iconst (v := nI 1) hx hb dL_law_2103 (by decide) ?_
  refine lv_iadd hx hb dL_law_2104 ?_
  refine lv_ton (n := i9 + 1) (nadd (by omega)) ?_
  refine va_sld hx hb hX9 hbl hbA hS (i := nI (i9 + 1)) (vp9 (by omega) hL96) dL_law_2105 ?_
  refine W.eq (g2 := F0 m 2106 ls [.int (sx9 xs (i9 + 1)), .ref d]) rfl ?_
  refine lv_aload_n hx hb dL_law_2106 rfl (lv_at hl 3 rfl) ?_
  have hpm_4415 : (([(o, .inl (G.2 5, 1, .inr (.inl of))), (oD, .inl (G.2 6, 1, .inr (.inr (.inr (.inl og)))))] ++ (WD ++ (WM ++ []))) : va_W).Perm (([(o, .inl (G.2 5, 1, .inr (.inl of)))] ++ (WD ++ [])) ++ ([(oD, .inl (G.2 6, 1, .inr (.inr (.inr (.inl og)))))] ++ (WM ++ []))) := segs_perm [[(o, .inl (G.2 5, 1, .inr (.inl of)))], [(oD, .inl (G.2 6, 1, .inr (.inr (.inr (.inl og)))))], WD, WM] [0, 2] [1, 3] rfl
  have hF := hF_ofP (wc := ([(o, .inl (G.2 5, 1, .inr (.inl of)))] ++ (WD ++ []))) hD hS hA hpm_4415
  refine go_ctP hS hP hD hpm_4415 hF
      (vx_runSW (As := [.ref d, .int (sx9 xs (i9 + 1)), .ref o]) (rest := []) cf (wX0_bestDaysStart l G d C WD o of (sx9 xs (i9 + 1)) (hDy) hfl H.size) (vx_cwSW 3 hts (lw_SW q1377 q1378 q46 q1379) rfl rfl rfl (by decide +kernel) ⟨Nat.le_of_ble_eq_true rfl, Nat.le_of_ble_eq_true rfl⟩) (preS_ofW hNc hKB hE hS hF (P_left (P_perm hpm_4415 hP)) ((D_left (D_perm hpm_4415 hD)).weaken (fun _ _ _ _ => trivial)) trivial) rfl rfl hl.1 rfl (lv_room (Nat.le_of_ble_eq_true rfl)) dL_law_2107 ⟨show cl + 8300 ≤ 1200144 from by first | decide | omega, show sl + 17000 ≤ 5495674 from by first | decide | omega⟩)
      (fun u_ H locs hq hph (hP : va_P G.1 CL (([(oD, .inl (G.2 6, 1, .inr (.inr (.inr (.inl og)))))] ++ (WM ++ [])) ++ ([(o, .inl (G.2 5, 1, .inr (.inl u_.1)))] ++ (u_.2 ++ []))) H) (hD : va_D A (([(oD, .inl (G.2 6, 1, .inr (.inr (.inr (.inl og)))))] ++ (WM ++ [])) ++ ([(o, .inl (G.2 5, 1, .inr (.inl u_.1)))] ++ (u_.2 ++ [])))) hS hfz hfk => ?_)
  obtain ⟨of2_4416, W2_4417⟩ := u_
  obtain ⟨hq_4418, hq_4419, hq_4420⟩ : ((q_bestStart (dC C) (sx9 xs (i9 + 1))).1 = 0 → of2_4416 0 = ((q_bestStart (dC C) (sx9 xs (i9 + 1))).2).toInt64) ∧ (q_bestStart (dC C) (sx9 xs (i9 + 1))).1 < 10 ∧ DyW G d C W2_4417 := hq
  have hpm_4421 : (([(oD, .inl (G.2 6, 1, .inr (.inr (.inr (.inl og)))))] ++ (WM ++ [])) ++ ([(o, .inl (G.2 5, 1, .inr (.inl of2_4416)))] ++ (W2_4417 ++ [])) : va_W).Perm ([(oD, .inl (G.2 6, 1, .inr (.inr (.inr (.inl og))))), (o, .inl (G.2 5, 1, .inr (.inl of2_4416)))] ++ (WM ++ (W2_4417 ++ []))) := segs_perm2 [[(oD, .inl (G.2 6, 1, .inr (.inr (.inr (.inl og)))))], WM] [[(o, .inl (G.2 5, 1, .inr (.inl of2_4416)))], W2_4417] [0, 2, 1, 3] rfl
  have hP : va_P G.1 CL ([(oD, .inl (G.2 6, 1, .inr (.inr (.inr (.inl og))))), (o, .inl (G.2 5, 1, .inr (.inl of2_4416)))] ++ (WM ++ (W2_4417 ++ []))) H := P_perm hpm_4421 hP
  have hD : va_D A ([(oD, .inl (G.2 6, 1, .inr (.inr (.inr (.inl og))))), (o, .inl (G.2 5, 1, .inr (.inl of2_4416)))] ++ (WM ++ (W2_4417 ++ []))) := D_perm hpm_4421 hD
  refine W.eq (g2 := F0 m 2110 ls [.int (nI ((q_bestStart (dC C) (sx9 xs (i9 + 1))).1))]) rfl ?_
  have hqs : (q_bestStart (dC M) (sx9 xs (i9 + 1))) = (q_bestStart (dC C) (sx9 xs (i9 + 1))) := q_bestStart_sim hLw.1.symm hIm (sx9 xs (i9 + 1))
  refine lv_istore (lv' := [(6, .int (nI ((q_bestStart (dC C) (sx9 xs (i9 + 1))).1))), (0, .ref b), (1, .ref d), (2, .ref m0), (3, .ref o), (4, .ref oD), (5, .int (nI i9))]) hx hb dL_law_2110 hl (by decide) rfl (fun ls hl => ?_)
  refine lv_aload_n hx hb dL_law_2112 rfl (lv_at hl 3 rfl) ?_
  refine lv_aload_n hx hb dL_law_2113 rfl (lv_at hl 1 rfl) ?_
  refine lv_iload hx hb dL_law_2114 (lv_at hl 6 rfl) ?_
  refine lv_iconst (v := nI 1) hx hb dL_law_2116 (by decide) ?_
  refine lv_iadd hx hb dL_law_2117 ?_
  refine lv_ton (n := i9 + 1) (nadd (by omega)) ?_
  refine va_sld hx hb hX9 hbl hbA hS (i := nI (i9 + 1)) (vp9 (by omega) hL96) dL_law_2118 ?_
  refine W.eq (g2 := F0 m 2119 ls [.int (sx9 xs (i9 + 1)), .ref m0]) rfl ?_
  have hpm_4422 : (([(oD, .inl (G.2 6, 1, .inr (.inr (.inr (.inl og))))), (o, .inl (G.2 5, 1, .inr (.inl of2_4416)))] ++ (WM ++ (W2_4417 ++ []))) : va_W).Perm ((WM ++ []) ++ ([(oD, .inl (G.2 6, 1, .inr (.inr (.inr (.inl og))))), (o, .inl (G.2 5, 1, .inr (.inl of2_4416)))] ++ (W2_4417 ++ []))) := segs_perm [[(oD, .inl (G.2 6, 1, .inr (.inr (.inr (.inl og)))))], [(o, .inl (G.2 5, 1, .inr (.inl of2_4416)))], WM, W2_4417] [2] [0, 1, 3] rfl
  have hF := hF_ofP (wc := (WM ++ [])) hD hS hA hpm_4422
  refine go_ctP hS hP hD hpm_4422 hF
      (va_runV (As := [.int (sx9 xs (i9 + 1))]) (rest := []) cf (eX4_bestDaysStart l G m0 M th WM (sx9 xs (i9 + 1)) (hMd) (hIm) H.size) (cwV 1 hts (lw_V q1868 q1869 q1870 q58 q1871) rfl rfl rfl (by decide +kernel) ⟨Nat.le_of_ble_eq_true rfl, Nat.le_of_ble_eq_true rfl⟩) (preV_of hKB hE hS hF (MdW.recv hK hMd (seg_at [[(oD, .inl (G.2 6, 1, .inr (.inr (.inr (.inl og)))))], [(o, .inl (G.2 5, 1, .inr (.inl of2_4416)))], WM, W2_4417] 2 rfl hP)) (P_left (P_perm hpm_4422 hP)) ((D_left (D_perm hpm_4422 hD)).weaken (fun _ _ _ _ => trivial)) trivial) rfl rfl hl.1 rfl (lv_room (Nat.le_of_ble_eq_true rfl)) dL_law_2119 ⟨show cl + 8300 + 0 ≤ 1200144 from by first | decide | omega, show sl + 17000 + 0 ≤ 5495674 from by first | decide | omega⟩)
      (fun u_ H locs hq hph (hP : va_P G.1 CL (([(oD, .inl (G.2 6, 1, .inr (.inr (.inr (.inl og))))), (o, .inl (G.2 5, 1, .inr (.inl of2_4416)))] ++ (W2_4417 ++ [])) ++ (u_.2 ++ [])) H) (hD : va_D A (([(oD, .inl (G.2 6, 1, .inr (.inr (.inr (.inl og))))), (o, .inl (G.2 5, 1, .inr (.inl of2_4416)))] ++ (W2_4417 ++ [])) ++ (u_.2 ++ []))) hS hfz hfk => ?_)
  obtain ⟨rr_4423, W2_4424⟩ := u_
  obtain ⟨hq_4425, hq_4426⟩ : ((q_bestStart (dC M) (sx9 xs (i9 + 1))).1 = 0 → rr_4423 = (q_bestStart (dC M) (sx9 xs (i9 + 1))).2) ∧ MdW G m0 M (q_bestStart (dC M) (sx9 xs (i9 + 1))).1 W2_4424 := hq
  have hpm_4427 : (([(oD, .inl (G.2 6, 1, .inr (.inr (.inr (.inl og))))), (o, .inl (G.2 5, 1, .inr (.inl of2_4416)))] ++ (W2_4417 ++ [])) ++ (W2_4424 ++ []) : va_W).Perm ([(oD, .inl (G.2 6, 1, .inr (.inr (.inr (.inl og))))), (o, .inl (G.2 5, 1, .inr (.inl of2_4416)))] ++ (W2_4417 ++ (W2_4424 ++ []))) := segs_perm2 [[(oD, .inl (G.2 6, 1, .inr (.inr (.inr (.inl og)))))], [(o, .inl (G.2 5, 1, .inr (.inl of2_4416)))], W2_4417] [W2_4424] [0, 1, 2, 3] rfl
  have hP : va_P G.1 CL ([(oD, .inl (G.2 6, 1, .inr (.inr (.inr (.inl og))))), (o, .inl (G.2 5, 1, .inr (.inl of2_4416)))] ++ (W2_4417 ++ (W2_4424 ++ []))) H := P_perm hpm_4427 hP
  have hD : va_D A ([(oD, .inl (G.2 6, 1, .inr (.inr (.inr (.inl og))))), (o, .inl (G.2 5, 1, .inr (.inl of2_4416)))] ++ (W2_4417 ++ (W2_4424 ++ []))) := D_perm hpm_4427 hD
  refine W.eq (g2 := F0 m 2122 ls [.int rr_4423]) rfl ?_
  refine lv_istore (lv' := [(7, .int rr_4423), (6, .int (nI ((q_bestStart (dC C) (sx9 xs (i9 + 1))).1))), (0, .ref b), (1, .ref d), (2, .ref m0), (3, .ref o), (4, .ref oD), (5, .int (nI i9))]) hx hb dL_law_2122 hl (by decide) rfl (fun ls hl => ?_)
  refine lv_aload_n hx hb dL_law_2124 rfl (lv_at hl 4 rfl) ?_
  have hpm_4428 : (([(oD, .inl (G.2 6, 1, .inr (.inr (.inr (.inl og))))), (o, .inl (G.2 5, 1, .inr (.inl of2_4416)))] ++ (W2_4417 ++ (W2_4424 ++ []))) : va_W).Perm ([] ++ ([(oD, .inl (G.2 6, 1, .inr (.inr (.inr (.inl og))))), (o, .inl (G.2 5, 1, .inr (.inl of2_4416)))] ++ (W2_4417 ++ (W2_4424 ++ [])))) := segs_perm [[(oD, .inl (G.2 6, 1, .inr (.inr (.inr (.inl og)))))], [(o, .inl (G.2 5, 1, .inr (.inl of2_4416)))], W2_4417, W2_4424] [] [0, 1, 2, 3] rfl
  have hF := hF_ofP (wc := []) hD hS hA hpm_4428
  refine go_ctP hS hP hD hpm_4428 hF
      (va_runV (As := []) (rest := []) cf (eX4_thrown l G m0 M (((q_bestStart (dC M) (sx9 xs (i9 + 1)))).1) W2_4424 (hq_4426) H.size) (cwV 0 hts (lw_V q1639 q1640 q1641 q58 q1642) rfl rfl rfl (by decide +kernel) ⟨Nat.le_of_ble_eq_true rfl, Nat.le_of_ble_eq_true rfl⟩) (preV_of hKB hE hS hF (MdW.recv hK hq_4426 (seg_at [[(oD, .inl (G.2 6, 1, .inr (.inr (.inr (.inl og)))))], [(o, .inl (G.2 5, 1, .inr (.inl of2_4416)))], W2_4417, W2_4424] 3 rfl hP)) (P_left (P_perm hpm_4428 hP)) ((D_left (D_perm hpm_4428 hD)).weaken (fun _ _ _ _ => trivial)) (roW.nil (seg_at [[(oD, .inl (G.2 6, 1, .inr (.inr (.inr (.inl og)))))], [(o, .inl (G.2 5, 1, .inr (.inl of2_4416)))], W2_4417, W2_4424] 3 rfl hP))) rfl rfl hl.1 rfl (lv_room (Nat.le_of_ble_eq_true rfl)) dL_law_2125 ⟨show cl + 8300 + 0 ≤ 1200144 from by first | decide | omega, show sl + 17000 + 0 ≤ 5495674 from by first | decide | omega⟩)
      (fun u_ H locs hq hph (hP : va_P G.1 CL (([(oD, .inl (G.2 6, 1, .inr (.inr (.inr (.inl og))))), (o, .inl (G.2 5, 1, .inr (.inl of2_4416)))] ++ (W2_4417 ++ (W2_4424 ++ []))) ++ []) H) (hD : va_D A (([(oD, .inl (G.2 6, 1, .inr (.inr (.inr (.inl og))))), (o, .inl (G.2 5, 1, .inr (.inl of2_4416)))] ++ (W2_4417 ++ (W2_4424 ++ []))) ++ [])) hS hfz hfk => ?_)
  have hpm_4429 : (([(oD, .inl (G.2 6, 1, .inr (.inr (.inr (.inl og))))), (o, .inl (G.2 5, 1, .inr (.inl of2_4416)))] ++ (W2_4417 ++ (W2_4424 ++ []))) ++ [] : va_W).Perm ([(oD, .inl (G.2 6, 1, .inr (.inr (.inr (.inl og))))), (o, .inl (G.2 5, 1, .inr (.inl of2_4416)))] ++ (W2_4417 ++ (W2_4424 ++ []))) := segs_perm2 [[(oD, .inl (G.2 6, 1, .inr (.inr (.inr (.inl og)))))], [(o, .inl (G.2 5, 1, .inr (.inl of2_4416)))], W2_4417, W2_4424] [] [0, 1, 2, 3] rfl
  have hP : va_P G.1 CL ([(oD, .inl (G.2 6, 1, .inr (.inr (.inr (.inl og))))), (o, .inl (G.2 5, 1, .inr (.inl of2_4416)))] ++ (W2_4417 ++ (W2_4424 ++ []))) H := P_perm hpm_4429 hP
  have hD : va_D A ([(oD, .inl (G.2 6, 1, .inr (.inr (.inr (.inl og))))), (o, .inl (G.2 5, 1, .inr (.inl of2_4416)))] ++ (W2_4417 ++ (W2_4424 ++ []))) := D_perm hpm_4429 hD
  refine W.eq (g2 := F0 m 2128 ls [.int (nI (((q_bestStart (dC M) (sx9 xs (i9 + 1)))).1))]) rfl ?_
  refine lv_ton (n := ((q_bestStart (dC C) (sx9 xs (i9 + 1))).1)) (congrArg nI (by rw [hqs])) ?_
  refine lv_iload hx hb dL_law_2128 (lv_at hl 1 rfl) ?_
  refine lv_icmp_eq (tgt := 2135) hx hb dL_law_2130 (by decide) (fun _ => ?_) (fun c9 => absurd rfl c9)
  refine lv_iload hx hb dL_law_2135 (lv_at hl 1 rfl) ?_
  refine n_if_ne (tgt := 2152) hx hb (by omega) dL_law_2137 (by decide) (fun c_4430 => ?_) (fun c_4430 => ?_)
  · refine lv_goto (tgt := 2788) hx hb dL_law_2152 (by decide) ?_
    have hpm_4431 : (([(oD, .inl (G.2 6, 1, .inr (.inr (.inr (.inl og))))), (o, .inl (G.2 5, 1, .inr (.inl of2_4416)))] ++ (W2_4417 ++ (W2_4424 ++ []))) : va_W).Perm (([(o, .inl (G.2 5, 1, .inr (.inl of2_4416))), (oD, .inl (G.2 6, 1, .inr (.inr (.inr (.inl og)))))] ++ (W2_4417 ++ (W2_4424 ++ []))) ++ []) := segs_perm [[(oD, .inl (G.2 6, 1, .inr (.inr (.inr (.inl og)))))], [(o, .inl (G.2 5, 1, .inr (.inl of2_4416)))], W2_4417, W2_4424] [1, 0, 2, 3] [] rfl
    have hP : va_P G.1 CL ([(o, .inl (G.2 5, 1, .inr (.inl of2_4416))), (oD, .inl (G.2 6, 1, .inr (.inr (.inr (.inl og)))))] ++ (W2_4417 ++ (W2_4424 ++ []))) H := P_left (P_perm hpm_4431 hP)
    have hD : va_D A ([(o, .inl (G.2 5, 1, .inr (.inl of2_4416))), (oD, .inl (G.2 6, 1, .inr (.inr (.inr (.inl og)))))] ++ (W2_4417 ++ (W2_4424 ++ []))) := D_left (D_perm hpm_4431 hD)
    have hl := lv_sub hl [2, 3, 4, 5, 6, 7] (l' := [(0, .ref b), (1, .ref d), (2, .ref m0), (3, .ref o), (4, .ref oD), (5, .int (nI i9))]) rfl
    exact W.widen (show cl + 8300 ≤ cl + 20000 from by omega) (show sl + 17000 ≤ sl + 45000 from by omega) (kk ls H locs C M (((q_bestStart (dC M) (sx9 xs (i9 + 1)))).1) W2_4417 W2_4424 of2_4416 og hP hD hS hl hq_4420 hq_4426 hLw.up)
  · refine lv_aload_n hx hb dL_law_2140 rfl (lv_at hl 5 rfl) ?_
    refine lv_iconst (v := nI 0) hx hb dL_law_2141 (by decide) ?_
    refine r_lald (v := (((q_bestStart (dC C) (sx9 xs (i9 + 1)))).2).toInt64) hx hb hK hP 1 5 rfl rfl (i := 0) (by omega) (by omega) ((hq_4418 (by omega))) dL_law_2142 ?_
    refine lv_iload hx hb dL_law_2143 (lv_at hl 0 rfl) ?_
    refine lv_toi (y := ((q_bestStart (dC C) (sx9 xs (i9 + 1)))).2) ((hq_4425 (by rw [hqs]; omega)).trans (by rw [hqs])) ?_
    refine lv_i2l (v := (((q_bestStart (dC C) (sx9 xs (i9 + 1)))).2).toInt64) hx hb dL_law_2145 rfl ?_
    refine W.lcmp hx hb dL_law_2146 ?_
    refine lv_ton (n := 0) (lcmp0 _) ?_
    refine n_if_eq (tgt := 2152) hx hb (by omega) dL_law_2147 (by decide) (fun c_4432 => ?_) (fun c_4432 => absurd c_4432 (by omega))
    refine lv_goto (tgt := 2788) hx hb dL_law_2152 (by decide) ?_
    have hpm_4433 : (([(oD, .inl (G.2 6, 1, .inr (.inr (.inr (.inl og))))), (o, .inl (G.2 5, 1, .inr (.inl of2_4416)))] ++ (W2_4417 ++ (W2_4424 ++ []))) : va_W).Perm (([(o, .inl (G.2 5, 1, .inr (.inl of2_4416))), (oD, .inl (G.2 6, 1, .inr (.inr (.inr (.inl og)))))] ++ (W2_4417 ++ (W2_4424 ++ []))) ++ []) := segs_perm [[(oD, .inl (G.2 6, 1, .inr (.inr (.inr (.inl og)))))], [(o, .inl (G.2 5, 1, .inr (.inl of2_4416)))], W2_4417, W2_4424] [1, 0, 2, 3] [] rfl
    have hP : va_P G.1 CL ([(o, .inl (G.2 5, 1, .inr (.inl of2_4416))), (oD, .inl (G.2 6, 1, .inr (.inr (.inr (.inl og)))))] ++ (W2_4417 ++ (W2_4424 ++ []))) H := P_left (P_perm hpm_4433 hP)
    have hD : va_D A ([(o, .inl (G.2 5, 1, .inr (.inl of2_4416))), (oD, .inl (G.2 6, 1, .inr (.inr (.inr (.inl og)))))] ++ (W2_4417 ++ (W2_4424 ++ []))) := D_left (D_perm hpm_4433 hD)
    have hl := lv_sub hl [2, 3, 4, 5, 6, 7] (l' := [(0, .ref b), (1, .ref d), (2, .ref m0), (3, .ref o), (4, .ref oD), (5, .int (nI i9))]) rfl
    exact W.widen (show cl + 8300 ≤ cl + 20000 from by omega) (show sl + 17000 ≤ sl + 45000 from by omega) (kk ls H locs C M (((q_bestStart (dC M) (sx9 xs (i9 + 1)))).1) W2_4417 W2_4424 of2_4416 og hP hD hS hl hq_4420 hq_4426 hLw.up)

set_option maxHeartbeats 4000000 in
theorem lawK_35 {p : Program} {l : Launch} {e : Env} {s : State} {m : MethodId} {below : List Frame} {meth : Method} {c : Code} {G : Gt} {A : Nat → Prop} {b L : Nat} {xs : Nat → Int32} {Q : State → Prop} {d m0 o oD i9 N cl sl : Nat} (hfl : l.stackTraces = false) (F : LwF G A p s m c b L xs) (hi9 : i9 + 4 ≤ L) (hN24 : N ≤ 24) (hcl : cl + 20000 ≤ 1200144) (hsl : sl + 45000 ≤ 5495674) (kk : ∀ (ls : Array Slot) (H : Heap) (locs : List Loc) (C M : DS) (th : Nat) (WD WM : va_W) (of : Nat → Int64) (og : Nat → UInt64), va_P G.1 CL ([(o, .inl (G.2 5, 1, .inr (.inl of))), (oD, .inl (G.2 6, 1, .inr (.inr (.inr (.inl og)))))] ++ (WD ++ (WM ++ []))) H → va_D A ([(o, .inl (G.2 5, 1, .inr (.inl of))), (oD, .inl (G.2 6, 1, .inr (.inr (.inr (.inl og)))))] ++ (WD ++ (WM ++ []))) → va_S A s.heap H locs → lv_has ls 10 [(0, .ref b), (1, .ref d), (2, .ref m0), (3, .ref o), (4, .ref oD), (5, .int (nI i9))] → DyW G d C WD → MdW G m0 M th WM → LawI C M (N + 1) → W p l e room_1 s m #[Value.ref b] below meth c H locs (cl + 20000) (sl + 45000) Q (F0 m 2788 ls [])) {ls : Array Slot} {H : Heap} {locs : List Loc} {C M : DS} {th : Nat} {WD WM : va_W} {of : Nat → Int64} {og : Nat → UInt64} (hP : va_P G.1 CL ([(o, .inl (G.2 5, 1, .inr (.inl of))), (oD, .inl (G.2 6, 1, .inr (.inr (.inr (.inl og)))))] ++ (WD ++ (WM ++ []))) H) (hD : va_D A ([(o, .inl (G.2 5, 1, .inr (.inl of))), (oD, .inl (G.2 6, 1, .inr (.inr (.inr (.inl og)))))] ++ (WD ++ (WM ++ [])))) (hS : va_S A s.heap H locs) (hl : lv_has ls 10 [(0, .ref b), (1, .ref d), (2, .ref m0), (3, .ref o), (4, .ref oD), (5, .int (nI i9))]) (hDy : DyW G d C WD) (hMd : MdW G m0 M th WM) (hLw : LawI C M N) : W p l e room_1 s m #[Value.ref b] below meth c H locs cl sl Q (F0 m 2155 ls []) := by
  obtain ⟨cf, hKB, hE, hA, hX9, hbl, hbA, hNc, hL96⟩ := F
  have hx := cf.1
  have hb := cf.2.1
  have hml := cf.2.2.1
  have hown : s.vm.findClass RX0 = some m.cls := cf.2.2.2.1
  have hts := cf.2.2.2.2
  have hK := hKB.1
  have hIc := hDy.inv.1
  have hIm : Inv (dC M) := Inv_sim hLw.1 hIc
  have hRk : RkOk (dC M) := RkOk_sim hLw.1 (RkOk_srt hDy.inv.2.2)
  have hl := hl
  refine lv_aload_n hx hb dL_law_2155 rfl (lv_at hl 1 rfl) ?_
  refine lv_aload_n hx hb dL_law_2156 rfl (lv_at hl 0 rfl) ?_
  refine lv_iload hx hb dL_law_2157 (lv_at hl 5 rfl) ?_
  refine lv_iconst (v := nI 1) hx hb dL_law_2159 (by decide) ?_
  refine lv_iadd hx hb dL_law_2160 ?_
  refine lv_ton (n := i9 + 1) (nadd (by omega)) ?_
  refine va_sld hx hb hX9 hbl hbA hS (i := nI (i9 + 1)) (vp9 (by omega) hL96) dL_law_2161 ?_
  refine W.eq (g2 := F0 m 2162 ls [.int (sx9 xs (i9 + 1)), .ref d]) rfl ?_
  refine lv_aload_n hx hb dL_law_2162 rfl (lv_at hl 3 rfl) ?_
  have hpm_4434 : (([(o, .inl (G.2 5, 1, .inr (.inl of))), (oD, .inl (G.2 6, 1, .inr (.inr (.inr (.inl og)))))] ++ (WD ++ (WM ++ []))) : va_W).Perm (([(o, .inl (G.2 5, 1, .inr (.inl of)))] ++ (WD ++ [])) ++ ([(oD, .inl (G.2 6, 1, .inr (.inr (.inr (.inl og)))))] ++ (WM ++ []))) := segs_perm [[(o, .inl (G.2 5, 1, .inr (.inl of)))], [(oD, .inl (G.2 6, 1, .inr (.inr (.inr (.inl og)))))], WD, WM] [0, 2] [1, 3] rfl
  have hF := hF_ofP (wc := ([(o, .inl (G.2 5, 1, .inr (.inl of)))] ++ (WD ++ []))) hD hS hA hpm_4434
  refine go_ctP hS hP hD hpm_4434 hF
      (vx_runSW (As := [.ref d, .int (sx9 xs (i9 + 1)), .ref o]) (rest := []) cf (wX0_bestEffort l G d C WD o of (sx9 xs (i9 + 1)) (hDy) hfl H.size) (vx_cwSW 3 hts (lw_SW q1384 q1385 q46 q1386) rfl rfl rfl (by decide +kernel) ⟨Nat.le_of_ble_eq_true rfl, Nat.le_of_ble_eq_true rfl⟩) (preS_ofW hNc hKB hE hS hF (P_left (P_perm hpm_4434 hP)) ((D_left (D_perm hpm_4434 hD)).weaken (fun _ _ _ _ => trivial)) trivial) rfl rfl hl.1 rfl (lv_room (Nat.le_of_ble_eq_true rfl)) dL_law_2163 ⟨show cl + 90 ≤ 1200144 from by first | decide | omega, show sl + 20000 ≤ 5495674 from by first | decide | omega⟩)
      (fun u_ H locs hq hph (hP : va_P G.1 CL (([(oD, .inl (G.2 6, 1, .inr (.inr (.inr (.inl og)))))] ++ (WM ++ [])) ++ ([(o, .inl (G.2 5, 1, .inr (.inl u_.1)))] ++ (u_.2 ++ []))) H) (hD : va_D A (([(oD, .inl (G.2 6, 1, .inr (.inr (.inr (.inl og)))))] ++ (WM ++ [])) ++ ([(o, .inl (G.2 5, 1, .inr (.inl u_.1)))] ++ (u_.2 ++ [])))) hS hfz hfk => ?_)
  obtain ⟨of2_4435, W2_4436⟩ := u_
  obtain ⟨hq_4437, hq_4438, hq_4439⟩ : ((q_bestEff (dC C) (sx9 xs (i9 + 1))).1 = 0 → of2_4435 0 = ((q_bestEff (dC C) (sx9 xs (i9 + 1))).2).toInt64) ∧ (q_bestEff (dC C) (sx9 xs (i9 + 1))).1 < 10 ∧ DyW G d C W2_4436 := hq
  have hpm_4440 : (([(oD, .inl (G.2 6, 1, .inr (.inr (.inr (.inl og)))))] ++ (WM ++ [])) ++ ([(o, .inl (G.2 5, 1, .inr (.inl of2_4435)))] ++ (W2_4436 ++ [])) : va_W).Perm ([(oD, .inl (G.2 6, 1, .inr (.inr (.inr (.inl og))))), (o, .inl (G.2 5, 1, .inr (.inl of2_4435)))] ++ (WM ++ (W2_4436 ++ []))) := segs_perm2 [[(oD, .inl (G.2 6, 1, .inr (.inr (.inr (.inl og)))))], WM] [[(o, .inl (G.2 5, 1, .inr (.inl of2_4435)))], W2_4436] [0, 2, 1, 3] rfl
  have hP : va_P G.1 CL ([(oD, .inl (G.2 6, 1, .inr (.inr (.inr (.inl og))))), (o, .inl (G.2 5, 1, .inr (.inl of2_4435)))] ++ (WM ++ (W2_4436 ++ []))) H := P_perm hpm_4440 hP
  have hD : va_D A ([(oD, .inl (G.2 6, 1, .inr (.inr (.inr (.inl og))))), (o, .inl (G.2 5, 1, .inr (.inl of2_4435)))] ++ (WM ++ (W2_4436 ++ []))) := D_perm hpm_4440 hD
  refine W.eq (g2 := F0 m 2166 ls [.int (nI ((q_bestEff (dC C) (sx9 xs (i9 + 1))).1))]) rfl ?_
  have hqs : (q_bestEff (dC M) (sx9 xs (i9 + 1))) = (q_bestEff (dC C) (sx9 xs (i9 + 1))) := q_bestEff_sim hLw.1.symm hIm (sx9 xs (i9 + 1))
  refine lv_istore (lv' := [(6, .int (nI ((q_bestEff (dC C) (sx9 xs (i9 + 1))).1))), (0, .ref b), (1, .ref d), (2, .ref m0), (3, .ref o), (4, .ref oD), (5, .int (nI i9))]) hx hb dL_law_2166 hl (by decide) rfl (fun ls hl => ?_)
  refine lv_aload_n hx hb dL_law_2168 rfl (lv_at hl 3 rfl) ?_
  refine lv_aload_n hx hb dL_law_2169 rfl (lv_at hl 1 rfl) ?_
  refine lv_iload hx hb dL_law_2170 (lv_at hl 6 rfl) ?_
  refine lv_iconst (v := nI 1) hx hb dL_law_2172 (by decide) ?_
  refine lv_iadd hx hb dL_law_2173 ?_
  refine lv_ton (n := i9 + 1) (nadd (by omega)) ?_
  refine va_sld hx hb hX9 hbl hbA hS (i := nI (i9 + 1)) (vp9 (by omega) hL96) dL_law_2174 ?_
  refine W.eq (g2 := F0 m 2175 ls [.int (sx9 xs (i9 + 1)), .ref m0]) rfl ?_
  have hpm_4441 : (([(oD, .inl (G.2 6, 1, .inr (.inr (.inr (.inl og))))), (o, .inl (G.2 5, 1, .inr (.inl of2_4435)))] ++ (WM ++ (W2_4436 ++ []))) : va_W).Perm ((WM ++ []) ++ ([(oD, .inl (G.2 6, 1, .inr (.inr (.inr (.inl og))))), (o, .inl (G.2 5, 1, .inr (.inl of2_4435)))] ++ (W2_4436 ++ []))) := segs_perm [[(oD, .inl (G.2 6, 1, .inr (.inr (.inr (.inl og)))))], [(o, .inl (G.2 5, 1, .inr (.inl of2_4435)))], WM, W2_4436] [2] [0, 1, 3] rfl
  have hF := hF_ofP (wc := (WM ++ [])) hD hS hA hpm_4441
  refine go_ctP hS hP hD hpm_4441 hF
      (va_runV (As := [.int (sx9 xs (i9 + 1))]) (rest := []) cf (eX4_bestEffort l G m0 M th WM (sx9 xs (i9 + 1)) (hMd) (hIm) (hRk) H.size) (cwV 1 hts (lw_V q1872 q1873 q1874 q58 q1875) rfl rfl rfl (by decide +kernel) ⟨Nat.le_of_ble_eq_true rfl, Nat.le_of_ble_eq_true rfl⟩) (preV_of hKB hE hS hF (MdW.recv hK hMd (seg_at [[(oD, .inl (G.2 6, 1, .inr (.inr (.inr (.inl og)))))], [(o, .inl (G.2 5, 1, .inr (.inl of2_4435)))], WM, W2_4436] 2 rfl hP)) (P_left (P_perm hpm_4441 hP)) ((D_left (D_perm hpm_4441 hD)).weaken (fun _ _ _ _ => trivial)) trivial) rfl rfl hl.1 rfl (lv_room (Nat.le_of_ble_eq_true rfl)) dL_law_2175 ⟨show cl + 90 + 0 ≤ 1200144 from by first | decide | omega, show sl + 20000 + 0 ≤ 5495674 from by first | decide | omega⟩)
      (fun u_ H locs hq hph (hP : va_P G.1 CL (([(oD, .inl (G.2 6, 1, .inr (.inr (.inr (.inl og))))), (o, .inl (G.2 5, 1, .inr (.inl of2_4435)))] ++ (W2_4436 ++ [])) ++ (u_.2 ++ [])) H) (hD : va_D A (([(oD, .inl (G.2 6, 1, .inr (.inr (.inr (.inl og))))), (o, .inl (G.2 5, 1, .inr (.inl of2_4435)))] ++ (W2_4436 ++ [])) ++ (u_.2 ++ []))) hS hfz hfk => ?_)
  obtain ⟨rr_4442, W2_4443⟩ := u_
  obtain ⟨hq_4444, hq_4445⟩ : ((q_bestEff (dC M) (sx9 xs (i9 + 1))).1 = 0 → rr_4442 = (q_bestEff (dC M) (sx9 xs (i9 + 1))).2) ∧ MdW G m0 M (q_bestEff (dC M) (sx9 xs (i9 + 1))).1 W2_4443 := hq
  have hpm_4446 : (([(oD, .inl (G.2 6, 1, .inr (.inr (.inr (.inl og))))), (o, .inl (G.2 5, 1, .inr (.inl of2_4435)))] ++ (W2_4436 ++ [])) ++ (W2_4443 ++ []) : va_W).Perm ([(oD, .inl (G.2 6, 1, .inr (.inr (.inr (.inl og))))), (o, .inl (G.2 5, 1, .inr (.inl of2_4435)))] ++ (W2_4436 ++ (W2_4443 ++ []))) := segs_perm2 [[(oD, .inl (G.2 6, 1, .inr (.inr (.inr (.inl og)))))], [(o, .inl (G.2 5, 1, .inr (.inl of2_4435)))], W2_4436] [W2_4443] [0, 1, 2, 3] rfl
  have hP : va_P G.1 CL ([(oD, .inl (G.2 6, 1, .inr (.inr (.inr (.inl og))))), (o, .inl (G.2 5, 1, .inr (.inl of2_4435)))] ++ (W2_4436 ++ (W2_4443 ++ []))) H := P_perm hpm_4446 hP
  have hD : va_D A ([(oD, .inl (G.2 6, 1, .inr (.inr (.inr (.inl og))))), (o, .inl (G.2 5, 1, .inr (.inl of2_4435)))] ++ (W2_4436 ++ (W2_4443 ++ []))) := D_perm hpm_4446 hD
  refine W.eq (g2 := F0 m 2178 ls [.int rr_4442]) rfl ?_
  refine lv_istore (lv' := [(7, .int rr_4442), (6, .int (nI ((q_bestEff (dC C) (sx9 xs (i9 + 1))).1))), (0, .ref b), (1, .ref d), (2, .ref m0), (3, .ref o), (4, .ref oD), (5, .int (nI i9))]) hx hb dL_law_2178 hl (by decide) rfl (fun ls hl => ?_)
  refine lv_aload_n hx hb dL_law_2180 rfl (lv_at hl 4 rfl) ?_
  have hpm_4447 : (([(oD, .inl (G.2 6, 1, .inr (.inr (.inr (.inl og))))), (o, .inl (G.2 5, 1, .inr (.inl of2_4435)))] ++ (W2_4436 ++ (W2_4443 ++ []))) : va_W).Perm ([] ++ ([(oD, .inl (G.2 6, 1, .inr (.inr (.inr (.inl og))))), (o, .inl (G.2 5, 1, .inr (.inl of2_4435)))] ++ (W2_4436 ++ (W2_4443 ++ [])))) := segs_perm [[(oD, .inl (G.2 6, 1, .inr (.inr (.inr (.inl og)))))], [(o, .inl (G.2 5, 1, .inr (.inl of2_4435)))], W2_4436, W2_4443] [] [0, 1, 2, 3] rfl
  have hF := hF_ofP (wc := []) hD hS hA hpm_4447
  refine go_ctP hS hP hD hpm_4447 hF
      (va_runV (As := []) (rest := []) cf (eX4_thrown l G m0 M (((q_bestEff (dC M) (sx9 xs (i9 + 1)))).1) W2_4443 (hq_4445) H.size) (cwV 0 hts (lw_V q1639 q1640 q1641 q58 q1642) rfl rfl rfl (by decide +kernel) ⟨Nat.le_of_ble_eq_true rfl, Nat.le_of_ble_eq_true rfl⟩) (preV_of hKB hE hS hF (MdW.recv hK hq_4445 (seg_at [[(oD, .inl (G.2 6, 1, .inr (.inr (.inr (.inl og)))))], [(o, .inl (G.2 5, 1, .inr (.inl of2_4435)))], W2_4436, W2_4443] 3 rfl hP)) (P_left (P_perm hpm_4447 hP)) ((D_left (D_perm hpm_4447 hD)).weaken (fun _ _ _ _ => trivial)) (roW.nil (seg_at [[(oD, .inl (G.2 6, 1, .inr (.inr (.inr (.inl og)))))], [(o, .inl (G.2 5, 1, .inr (.inl of2_4435)))], W2_4436, W2_4443] 3 rfl hP))) rfl rfl hl.1 rfl (lv_room (Nat.le_of_ble_eq_true rfl)) dL_law_2181 ⟨show cl + 90 + 0 ≤ 1200144 from by first | decide | omega, show sl + 20000 + 0 ≤ 5495674 from by first | decide | omega⟩)
      (fun u_ H locs hq hph (hP : va_P G.1 CL (([(oD, .inl (G.2 6, 1, .inr (.inr (.inr (.inl og))))), (o, .inl (G.2 5, 1, .inr (.inl of2_4435)))] ++ (W2_4436 ++ (W2_4443 ++ []))) ++ []) H) (hD : va_D A (([(oD, .inl (G.2 6, 1, .inr (.inr (.inr (.inl og))))), (o, .inl (G.2 5, 1, .inr (.inl of2_4435)))] ++ (W2_4436 ++ (W2_4443 ++ []))) ++ [])) hS hfz hfk => ?_)
  have hpm_4448 : (([(oD, .inl (G.2 6, 1, .inr (.inr (.inr (.inl og))))), (o, .inl (G.2 5, 1, .inr (.inl of2_4435)))] ++ (W2_4436 ++ (W2_4443 ++ []))) ++ [] : va_W).Perm ([(oD, .inl (G.2 6, 1, .inr (.inr (.inr (.inl og))))), (o, .inl (G.2 5, 1, .inr (.inl of2_4435)))] ++ (W2_4436 ++ (W2_4443 ++ []))) := segs_perm2 [[(oD, .inl (G.2 6, 1, .inr (.inr (.inr (.inl og)))))], [(o, .inl (G.2 5, 1, .inr (.inl of2_4435)))], W2_4436, W2_4443] [] [0, 1, 2, 3] rfl
  have hP : va_P G.1 CL ([(oD, .inl (G.2 6, 1, .inr (.inr (.inr (.inl og))))), (o, .inl (G.2 5, 1, .inr (.inl of2_4435)))] ++ (W2_4436 ++ (W2_4443 ++ []))) H := P_perm hpm_4448 hP
  have hD : va_D A ([(oD, .inl (G.2 6, 1, .inr (.inr (.inr (.inl og))))), (o, .inl (G.2 5, 1, .inr (.inl of2_4435)))] ++ (W2_4436 ++ (W2_4443 ++ []))) := D_perm hpm_4448 hD
  refine W.eq (g2 := F0 m 2184 ls [.int (nI (((q_bestEff (dC M) (sx9 xs (i9 + 1)))).1))]) rfl ?_
  refine lv_ton (n := ((q_bestEff (dC C) (sx9 xs (i9 + 1))).1)) (congrArg nI (by rw [hqs])) ?_
  refine lv_iload hx hb dL_law_2184 (lv_at hl 1 rfl) ?_
  refine lv_icmp_eq (tgt := 2191) hx hb dL_law_2186 (by decide) (fun _ => ?_) (fun c9 => absurd rfl c9)
  refine lv_iload hx hb dL_law_2191 (lv_at hl 1 rfl) ?_
  refine n_if_ne (tgt := 2208) hx hb (by omega) dL_law_2193 (by decide) (fun c_4449 => ?_) (fun c_4449 => ?_)
  · refine lv_goto (tgt := 2788) hx hb dL_law_2208 (by decide) ?_
    have hpm_4450 : (([(oD, .inl (G.2 6, 1, .inr (.inr (.inr (.inl og))))), (o, .inl (G.2 5, 1, .inr (.inl of2_4435)))] ++ (W2_4436 ++ (W2_4443 ++ []))) : va_W).Perm (([(o, .inl (G.2 5, 1, .inr (.inl of2_4435))), (oD, .inl (G.2 6, 1, .inr (.inr (.inr (.inl og)))))] ++ (W2_4436 ++ (W2_4443 ++ []))) ++ []) := segs_perm [[(oD, .inl (G.2 6, 1, .inr (.inr (.inr (.inl og)))))], [(o, .inl (G.2 5, 1, .inr (.inl of2_4435)))], W2_4436, W2_4443] [1, 0, 2, 3] [] rfl
    have hP : va_P G.1 CL ([(o, .inl (G.2 5, 1, .inr (.inl of2_4435))), (oD, .inl (G.2 6, 1, .inr (.inr (.inr (.inl og)))))] ++ (W2_4436 ++ (W2_4443 ++ []))) H := P_left (P_perm hpm_4450 hP)
    have hD : va_D A ([(o, .inl (G.2 5, 1, .inr (.inl of2_4435))), (oD, .inl (G.2 6, 1, .inr (.inr (.inr (.inl og)))))] ++ (W2_4436 ++ (W2_4443 ++ []))) := D_left (D_perm hpm_4450 hD)
    have hl := lv_sub hl [2, 3, 4, 5, 6, 7] (l' := [(0, .ref b), (1, .ref d), (2, .ref m0), (3, .ref o), (4, .ref oD), (5, .int (nI i9))]) rfl
    exact W.widen (show cl + 90 ≤ cl + 20000 from by omega) (show sl + 20000 ≤ sl + 45000 from by omega) (kk ls H locs C M (((q_bestEff (dC M) (sx9 xs (i9 + 1)))).1) W2_4436 W2_4443 of2_4435 og hP hD hS hl hq_4439 hq_4445 hLw.up)
  · refine lv_aload_n hx hb dL_law_2196 rfl (lv_at hl 5 rfl) ?_
    refine lv_iconst (v := nI 0) hx hb dL_law_2197 (by decide) ?_
    refine r_lald (v := (((q_bestEff (dC C) (sx9 xs (i9 + 1)))).2).toInt64) hx hb hK hP 1 5 rfl rfl (i := 0) (by omega) (by omega) ((hq_4437 (by omega))) dL_law_2198 ?_
    refine lv_iload hx hb dL_law_2199 (lv_at hl 0 rfl) ?_
    refine lv_toi (y := ((q_bestEff (dC C) (sx9 xs (i9 + 1)))).2) ((hq_4444 (by rw [hqs]; omega)).trans (by rw [hqs])) ?_
    refine lv_i2l (v := (((q_bestEff (dC C) (sx9 xs (i9 + 1)))).2).toInt64) hx hb dL_law_2201 rfl ?_
    refine W.lcmp hx hb dL_law_2202 ?_
    refine lv_ton (n := 0) (lcmp0 _) ?_
    refine n_if_eq (tgt := 2208) hx hb (by omega) dL_law_2203 (by decide) (fun c_4451 => ?_) (fun c_4451 => absurd c_4451 (by omega))
    refine lv_goto (tgt := 2788) hx hb dL_law_2208 (by decide) ?_
    have hpm_4452 : (([(oD, .inl (G.2 6, 1, .inr (.inr (.inr (.inl og))))), (o, .inl (G.2 5, 1, .inr (.inl of2_4435)))] ++ (W2_4436 ++ (W2_4443 ++ []))) : va_W).Perm (([(o, .inl (G.2 5, 1, .inr (.inl of2_4435))), (oD, .inl (G.2 6, 1, .inr (.inr (.inr (.inl og)))))] ++ (W2_4436 ++ (W2_4443 ++ []))) ++ []) := segs_perm [[(oD, .inl (G.2 6, 1, .inr (.inr (.inr (.inl og)))))], [(o, .inl (G.2 5, 1, .inr (.inl of2_4435)))], W2_4436, W2_4443] [1, 0, 2, 3] [] rfl
    have hP : va_P G.1 CL ([(o, .inl (G.2 5, 1, .inr (.inl of2_4435))), (oD, .inl (G.2 6, 1, .inr (.inr (.inr (.inl og)))))] ++ (W2_4436 ++ (W2_4443 ++ []))) H := P_left (P_perm hpm_4452 hP)
    have hD : va_D A ([(o, .inl (G.2 5, 1, .inr (.inl of2_4435))), (oD, .inl (G.2 6, 1, .inr (.inr (.inr (.inl og)))))] ++ (W2_4436 ++ (W2_4443 ++ []))) := D_left (D_perm hpm_4452 hD)
    have hl := lv_sub hl [2, 3, 4, 5, 6, 7] (l' := [(0, .ref b), (1, .ref d), (2, .ref m0), (3, .ref o), (4, .ref oD), (5, .int (nI i9))]) rfl
    exact W.widen (show cl + 90 ≤ cl + 20000 from by omega) (show sl + 20000 ≤ sl + 45000 from by omega) (kk ls H locs C M (((q_bestEff (dC M) (sx9 xs (i9 + 1)))).1) W2_4436 W2_4443 of2_4435 og hP hD hS hl hq_4439 hq_4445 hLw.up)

set_option maxHeartbeats 4000000 in
theorem lawK_36 {p : Program} {l : Launch} {e : Env} {s : State} {m : MethodId} {below : List Frame} {meth : Method} {c : Code} {G : Gt} {A : Nat → Prop} {b L : Nat} {xs : Nat → Int32} {Q : State → Prop} {d m0 o oD i9 N cl sl : Nat} (hfl : l.stackTraces = false) (F : LwF G A p s m c b L xs) (hi9 : i9 + 4 ≤ L) (hN24 : N ≤ 24) (hcl : cl + 20000 ≤ 1200144) (hsl : sl + 45000 ≤ 5495674) (kk : ∀ (ls : Array Slot) (H : Heap) (locs : List Loc) (C M : DS) (th : Nat) (WD WM : va_W) (of : Nat → Int64) (og : Nat → UInt64), va_P G.1 CL ([(o, .inl (G.2 5, 1, .inr (.inl of))), (oD, .inl (G.2 6, 1, .inr (.inr (.inr (.inl og)))))] ++ (WD ++ (WM ++ []))) H → va_D A ([(o, .inl (G.2 5, 1, .inr (.inl of))), (oD, .inl (G.2 6, 1, .inr (.inr (.inr (.inl og)))))] ++ (WD ++ (WM ++ []))) → va_S A s.heap H locs → lv_has ls 10 [(0, .ref b), (1, .ref d), (2, .ref m0), (3, .ref o), (4, .ref oD), (5, .int (nI i9))] → DyW G d C WD → MdW G m0 M th WM → LawI C M (N + 1) → W p l e room_1 s m #[Value.ref b] below meth c H locs (cl + 20000) (sl + 45000) Q (F0 m 2788 ls [])) {ls : Array Slot} {H : Heap} {locs : List Loc} {C M : DS} {th : Nat} {WD WM : va_W} {of : Nat → Int64} {og : Nat → UInt64} (hP : va_P G.1 CL ([(o, .inl (G.2 5, 1, .inr (.inl of))), (oD, .inl (G.2 6, 1, .inr (.inr (.inr (.inl og)))))] ++ (WD ++ (WM ++ []))) H) (hD : va_D A ([(o, .inl (G.2 5, 1, .inr (.inl of))), (oD, .inl (G.2 6, 1, .inr (.inr (.inr (.inl og)))))] ++ (WD ++ (WM ++ [])))) (hS : va_S A s.heap H locs) (hl : lv_has ls 10 [(0, .ref b), (1, .ref d), (2, .ref m0), (3, .ref o), (4, .ref oD), (5, .int (nI i9))]) (hDy : DyW G d C WD) (hMd : MdW G m0 M th WM) (hLw : LawI C M N) : W p l e room_1 s m #[Value.ref b] below meth c H locs cl sl Q (F0 m 2211 ls []) := by
  obtain ⟨cf, hKB, hE, hA, hX9, hbl, hbA, hNc, hL96⟩ := F
  have hx := cf.1
  have hb := cf.2.1
  have hml := cf.2.2.1
  have hown : s.vm.findClass RX0 = some m.cls := cf.2.2.2.1
  have hts := cf.2.2.2.2
  have hK := hKB.1
  have hIc := hDy.inv.1
  have hIm : Inv (dC M) := Inv_sim hLw.1 hIc
  have hRk : RkOk (dC M) := RkOk_sim hLw.1 (RkOk_srt hDy.inv.2.2)
  have hl := hl
  refine lv_aload_n hx hb dL_law_2211 rfl (lv_at hl 1 rfl) ?_
  refine lv_aload_n hx hb dL_law_2212 rfl (lv_at hl 0 rfl) ?_
  refine lv_iload hx hb dL_law_2213 (lv_at hl 5 rfl) ?_
  refine lv_iconst (v := nI 1) hx hb dL_law_2215 (by decide) ?_
  refine lv_iadd hx hb dL_law_2216 ?_
  refine lv_ton (n := i9 + 1) (nadd (by omega)) ?_
  refine va_sld hx hb hX9 hbl hbA hS (i := nI (i9 + 1)) (vp9 (by omega) hL96) dL_law_2217 ?_
  refine W.eq (g2 := F0 m 2218 ls [.int (sx9 xs (i9 + 1)), .ref d]) rfl ?_
  refine lv_aload_n hx hb dL_law_2218 rfl (lv_at hl 3 rfl) ?_
  have hpm_4453 : (([(o, .inl (G.2 5, 1, .inr (.inl of))), (oD, .inl (G.2 6, 1, .inr (.inr (.inr (.inl og)))))] ++ (WD ++ (WM ++ []))) : va_W).Perm (([(o, .inl (G.2 5, 1, .inr (.inl of)))] ++ (WD ++ [])) ++ ([(oD, .inl (G.2 6, 1, .inr (.inr (.inr (.inl og)))))] ++ (WM ++ []))) := segs_perm [[(o, .inl (G.2 5, 1, .inr (.inl of)))], [(oD, .inl (G.2 6, 1, .inr (.inr (.inr (.inl og)))))], WD, WM] [0, 2] [1, 3] rfl
  have hF := hF_ofP (wc := ([(o, .inl (G.2 5, 1, .inr (.inl of)))] ++ (WD ++ []))) hD hS hA hpm_4453
  refine go_ctP hS hP hD hpm_4453 hF
      (vx_runSW (As := [.ref d, .int (sx9 xs (i9 + 1)), .ref o]) (rest := []) cf (wX0_bestEffortByTrying l G d C WD o of (sx9 xs (i9 + 1)) (hDy) hfl H.size) (vx_cwSW 3 hts (lw_SW q1399 q1400 q46 q1401) rfl rfl rfl (by decide +kernel) ⟨Nat.le_of_ble_eq_true rfl, Nat.le_of_ble_eq_true rfl⟩) (preS_ofW hNc hKB hE hS hF (P_left (P_perm hpm_4453 hP)) ((D_left (D_perm hpm_4453 hD)).weaken (fun _ _ _ _ => trivial)) trivial) rfl rfl hl.1 rfl (lv_room (Nat.le_of_ble_eq_true rfl)) dL_law_2219 ⟨show cl + 90 ≤ 1200144 from by first | decide | omega, show sl + 20000 ≤ 5495674 from by first | decide | omega⟩)
      (fun u_ H locs hq hph (hP : va_P G.1 CL (([(oD, .inl (G.2 6, 1, .inr (.inr (.inr (.inl og)))))] ++ (WM ++ [])) ++ ([(o, .inl (G.2 5, 1, .inr (.inl u_.1)))] ++ (u_.2 ++ []))) H) (hD : va_D A (([(oD, .inl (G.2 6, 1, .inr (.inr (.inr (.inl og)))))] ++ (WM ++ [])) ++ ([(o, .inl (G.2 5, 1, .inr (.inl u_.1)))] ++ (u_.2 ++ [])))) hS hfz hfk => ?_)
  obtain ⟨of2_4454, W2_4455⟩ := u_
  obtain ⟨hq_4456, hq_4457, hq_4458⟩ : ((q_bestEff (dC C) (sx9 xs (i9 + 1))).1 = 0 → of2_4454 0 = ((q_bestEff (dC C) (sx9 xs (i9 + 1))).2).toInt64) ∧ (q_bestEff (dC C) (sx9 xs (i9 + 1))).1 < 10 ∧ DyW G d C W2_4455 := hq
  have hpm_4459 : (([(oD, .inl (G.2 6, 1, .inr (.inr (.inr (.inl og)))))] ++ (WM ++ [])) ++ ([(o, .inl (G.2 5, 1, .inr (.inl of2_4454)))] ++ (W2_4455 ++ [])) : va_W).Perm ([(oD, .inl (G.2 6, 1, .inr (.inr (.inr (.inl og))))), (o, .inl (G.2 5, 1, .inr (.inl of2_4454)))] ++ (WM ++ (W2_4455 ++ []))) := segs_perm2 [[(oD, .inl (G.2 6, 1, .inr (.inr (.inr (.inl og)))))], WM] [[(o, .inl (G.2 5, 1, .inr (.inl of2_4454)))], W2_4455] [0, 2, 1, 3] rfl
  have hP : va_P G.1 CL ([(oD, .inl (G.2 6, 1, .inr (.inr (.inr (.inl og))))), (o, .inl (G.2 5, 1, .inr (.inl of2_4454)))] ++ (WM ++ (W2_4455 ++ []))) H := P_perm hpm_4459 hP
  have hD : va_D A ([(oD, .inl (G.2 6, 1, .inr (.inr (.inr (.inl og))))), (o, .inl (G.2 5, 1, .inr (.inl of2_4454)))] ++ (WM ++ (W2_4455 ++ []))) := D_perm hpm_4459 hD
  refine W.eq (g2 := F0 m 2222 ls [.int (nI ((q_bestEff (dC C) (sx9 xs (i9 + 1))).1))]) rfl ?_
  have hqs : (q_bestEff (dC M) (sx9 xs (i9 + 1))) = (q_bestEff (dC C) (sx9 xs (i9 + 1))) := q_bestEff_sim hLw.1.symm hIm (sx9 xs (i9 + 1))
  refine lv_istore (lv' := [(6, .int (nI ((q_bestEff (dC C) (sx9 xs (i9 + 1))).1))), (0, .ref b), (1, .ref d), (2, .ref m0), (3, .ref o), (4, .ref oD), (5, .int (nI i9))]) hx hb dL_law_2222 hl (by decide) rfl (fun ls hl => ?_)
  refine lv_aload_n hx hb dL_law_2224 rfl (lv_at hl 3 rfl) ?_
  refine lv_aload_n hx hb dL_law_2225 rfl (lv_at hl 1 rfl) ?_
  refine lv_iload hx hb dL_law_2226 (lv_at hl 6 rfl) ?_
  refine lv_iconst (v := nI 1) hx hb dL_law_2228 (by decide) ?_
  refine lv_iadd hx hb dL_law_2229 ?_
  refine lv_ton (n := i9 + 1) (nadd (by omega)) ?_
  refine va_sld hx hb hX9 hbl hbA hS (i := nI (i9 + 1)) (vp9 (by omega) hL96) dL_law_2230 ?_
  refine W.eq (g2 := F0 m 2231 ls [.int (sx9 xs (i9 + 1)), .ref m0]) rfl ?_
  have hpm_4460 : (([(oD, .inl (G.2 6, 1, .inr (.inr (.inr (.inl og))))), (o, .inl (G.2 5, 1, .inr (.inl of2_4454)))] ++ (WM ++ (W2_4455 ++ []))) : va_W).Perm ((WM ++ []) ++ ([(oD, .inl (G.2 6, 1, .inr (.inr (.inr (.inl og))))), (o, .inl (G.2 5, 1, .inr (.inl of2_4454)))] ++ (W2_4455 ++ []))) := segs_perm [[(oD, .inl (G.2 6, 1, .inr (.inr (.inr (.inl og)))))], [(o, .inl (G.2 5, 1, .inr (.inl of2_4454)))], WM, W2_4455] [2] [0, 1, 3] rfl
  have hF := hF_ofP (wc := (WM ++ [])) hD hS hA hpm_4460
  refine go_ctP hS hP hD hpm_4460 hF
      (va_runV (As := [.int (sx9 xs (i9 + 1))]) (rest := []) cf (eX4_bestEffortByTrying l G m0 M th WM (sx9 xs (i9 + 1)) (hMd) (hIm) (hRk) H.size) (cwV 1 hts (lw_V q1893 q1894 q1895 q58 q1896) rfl rfl rfl (by decide +kernel) ⟨Nat.le_of_ble_eq_true rfl, Nat.le_of_ble_eq_true rfl⟩) (preV_of hKB hE hS hF (MdW.recv hK hMd (seg_at [[(oD, .inl (G.2 6, 1, .inr (.inr (.inr (.inl og)))))], [(o, .inl (G.2 5, 1, .inr (.inl of2_4454)))], WM, W2_4455] 2 rfl hP)) (P_left (P_perm hpm_4460 hP)) ((D_left (D_perm hpm_4460 hD)).weaken (fun _ _ _ _ => trivial)) trivial) rfl rfl hl.1 rfl (lv_room (Nat.le_of_ble_eq_true rfl)) dL_law_2231 ⟨show cl + 90 + 0 ≤ 1200144 from by first | decide | omega, show sl + 20000 + 0 ≤ 5495674 from by first | decide | omega⟩)
      (fun u_ H locs hq hph (hP : va_P G.1 CL (([(oD, .inl (G.2 6, 1, .inr (.inr (.inr (.inl og))))), (o, .inl (G.2 5, 1, .inr (.inl of2_4454)))] ++ (W2_4455 ++ [])) ++ (u_.2 ++ [])) H) (hD : va_D A (([(oD, .inl (G.2 6, 1, .inr (.inr (.inr (.inl og))))), (o, .inl (G.2 5, 1, .inr (.inl of2_4454)))] ++ (W2_4455 ++ [])) ++ (u_.2 ++ []))) hS hfz hfk => ?_)
  obtain ⟨rr_4461, W2_4462⟩ := u_
  obtain ⟨hq_4463, hq_4464⟩ : ((q_bestEff (dC M) (sx9 xs (i9 + 1))).1 = 0 → rr_4461 = (q_bestEff (dC M) (sx9 xs (i9 + 1))).2) ∧ MdW G m0 M (q_bestEff (dC M) (sx9 xs (i9 + 1))).1 W2_4462 := hq
  have hpm_4465 : (([(oD, .inl (G.2 6, 1, .inr (.inr (.inr (.inl og))))), (o, .inl (G.2 5, 1, .inr (.inl of2_4454)))] ++ (W2_4455 ++ [])) ++ (W2_4462 ++ []) : va_W).Perm ([(oD, .inl (G.2 6, 1, .inr (.inr (.inr (.inl og))))), (o, .inl (G.2 5, 1, .inr (.inl of2_4454)))] ++ (W2_4455 ++ (W2_4462 ++ []))) := segs_perm2 [[(oD, .inl (G.2 6, 1, .inr (.inr (.inr (.inl og)))))], [(o, .inl (G.2 5, 1, .inr (.inl of2_4454)))], W2_4455] [W2_4462] [0, 1, 2, 3] rfl
  have hP : va_P G.1 CL ([(oD, .inl (G.2 6, 1, .inr (.inr (.inr (.inl og))))), (o, .inl (G.2 5, 1, .inr (.inl of2_4454)))] ++ (W2_4455 ++ (W2_4462 ++ []))) H := P_perm hpm_4465 hP
  have hD : va_D A ([(oD, .inl (G.2 6, 1, .inr (.inr (.inr (.inl og))))), (o, .inl (G.2 5, 1, .inr (.inl of2_4454)))] ++ (W2_4455 ++ (W2_4462 ++ []))) := D_perm hpm_4465 hD
  refine W.eq (g2 := F0 m 2234 ls [.int rr_4461]) rfl ?_
  refine lv_istore (lv' := [(7, .int rr_4461), (6, .int (nI ((q_bestEff (dC C) (sx9 xs (i9 + 1))).1))), (0, .ref b), (1, .ref d), (2, .ref m0), (3, .ref o), (4, .ref oD), (5, .int (nI i9))]) hx hb dL_law_2234 hl (by decide) rfl (fun ls hl => ?_)
  refine lv_aload_n hx hb dL_law_2236 rfl (lv_at hl 4 rfl) ?_
  have hpm_4466 : (([(oD, .inl (G.2 6, 1, .inr (.inr (.inr (.inl og))))), (o, .inl (G.2 5, 1, .inr (.inl of2_4454)))] ++ (W2_4455 ++ (W2_4462 ++ []))) : va_W).Perm ([] ++ ([(oD, .inl (G.2 6, 1, .inr (.inr (.inr (.inl og))))), (o, .inl (G.2 5, 1, .inr (.inl of2_4454)))] ++ (W2_4455 ++ (W2_4462 ++ [])))) := segs_perm [[(oD, .inl (G.2 6, 1, .inr (.inr (.inr (.inl og)))))], [(o, .inl (G.2 5, 1, .inr (.inl of2_4454)))], W2_4455, W2_4462] [] [0, 1, 2, 3] rfl
  have hF := hF_ofP (wc := []) hD hS hA hpm_4466
  refine go_ctP hS hP hD hpm_4466 hF
      (va_runV (As := []) (rest := []) cf (eX4_thrown l G m0 M (((q_bestEff (dC M) (sx9 xs (i9 + 1)))).1) W2_4462 (hq_4464) H.size) (cwV 0 hts (lw_V q1639 q1640 q1641 q58 q1642) rfl rfl rfl (by decide +kernel) ⟨Nat.le_of_ble_eq_true rfl, Nat.le_of_ble_eq_true rfl⟩) (preV_of hKB hE hS hF (MdW.recv hK hq_4464 (seg_at [[(oD, .inl (G.2 6, 1, .inr (.inr (.inr (.inl og)))))], [(o, .inl (G.2 5, 1, .inr (.inl of2_4454)))], W2_4455, W2_4462] 3 rfl hP)) (P_left (P_perm hpm_4466 hP)) ((D_left (D_perm hpm_4466 hD)).weaken (fun _ _ _ _ => trivial)) (roW.nil (seg_at [[(oD, .inl (G.2 6, 1, .inr (.inr (.inr (.inl og)))))], [(o, .inl (G.2 5, 1, .inr (.inl of2_4454)))], W2_4455, W2_4462] 3 rfl hP))) rfl rfl hl.1 rfl (lv_room (Nat.le_of_ble_eq_true rfl)) dL_law_2237 ⟨show cl + 90 + 0 ≤ 1200144 from by first | decide | omega, show sl + 20000 + 0 ≤ 5495674 from by first | decide | omega⟩)
      (fun u_ H locs hq hph (hP : va_P G.1 CL (([(oD, .inl (G.2 6, 1, .inr (.inr (.inr (.inl og))))), (o, .inl (G.2 5, 1, .inr (.inl of2_4454)))] ++ (W2_4455 ++ (W2_4462 ++ []))) ++ []) H) (hD : va_D A (([(oD, .inl (G.2 6, 1, .inr (.inr (.inr (.inl og))))), (o, .inl (G.2 5, 1, .inr (.inl of2_4454)))] ++ (W2_4455 ++ (W2_4462 ++ []))) ++ [])) hS hfz hfk => ?_)
  have hpm_4467 : (([(oD, .inl (G.2 6, 1, .inr (.inr (.inr (.inl og))))), (o, .inl (G.2 5, 1, .inr (.inl of2_4454)))] ++ (W2_4455 ++ (W2_4462 ++ []))) ++ [] : va_W).Perm ([(oD, .inl (G.2 6, 1, .inr (.inr (.inr (.inl og))))), (o, .inl (G.2 5, 1, .inr (.inl of2_4454)))] ++ (W2_4455 ++ (W2_4462 ++ []))) := segs_perm2 [[(oD, .inl (G.2 6, 1, .inr (.inr (.inr (.inl og)))))], [(o, .inl (G.2 5, 1, .inr (.inl of2_4454)))], W2_4455, W2_4462] [] [0, 1, 2, 3] rfl
  have hP : va_P G.1 CL ([(oD, .inl (G.2 6, 1, .inr (.inr (.inr (.inl og))))), (o, .inl (G.2 5, 1, .inr (.inl of2_4454)))] ++ (W2_4455 ++ (W2_4462 ++ []))) H := P_perm hpm_4467 hP
  have hD : va_D A ([(oD, .inl (G.2 6, 1, .inr (.inr (.inr (.inl og))))), (o, .inl (G.2 5, 1, .inr (.inl of2_4454)))] ++ (W2_4455 ++ (W2_4462 ++ []))) := D_perm hpm_4467 hD
  refine W.eq (g2 := F0 m 2240 ls [.int (nI (((q_bestEff (dC M) (sx9 xs (i9 + 1)))).1))]) rfl ?_
  refine lv_ton (n := ((q_bestEff (dC C) (sx9 xs (i9 + 1))).1)) (congrArg nI (by rw [hqs])) ?_
  refine lv_iload hx hb dL_law_2240 (lv_at hl 1 rfl) ?_
  refine lv_icmp_eq (tgt := 2247) hx hb dL_law_2242 (by decide) (fun _ => ?_) (fun c9 => absurd rfl c9)
  refine lv_iload hx hb dL_law_2247 (lv_at hl 1 rfl) ?_
  refine n_if_ne (tgt := 2264) hx hb (by omega) dL_law_2249 (by decide) (fun c_4468 => ?_) (fun c_4468 => ?_)
  · refine lv_goto (tgt := 2788) hx hb dL_law_2264 (by decide) ?_
    have hpm_4469 : (([(oD, .inl (G.2 6, 1, .inr (.inr (.inr (.inl og))))), (o, .inl (G.2 5, 1, .inr (.inl of2_4454)))] ++ (W2_4455 ++ (W2_4462 ++ []))) : va_W).Perm (([(o, .inl (G.2 5, 1, .inr (.inl of2_4454))), (oD, .inl (G.2 6, 1, .inr (.inr (.inr (.inl og)))))] ++ (W2_4455 ++ (W2_4462 ++ []))) ++ []) := segs_perm [[(oD, .inl (G.2 6, 1, .inr (.inr (.inr (.inl og)))))], [(o, .inl (G.2 5, 1, .inr (.inl of2_4454)))], W2_4455, W2_4462] [1, 0, 2, 3] [] rfl
    have hP : va_P G.1 CL ([(o, .inl (G.2 5, 1, .inr (.inl of2_4454))), (oD, .inl (G.2 6, 1, .inr (.inr (.inr (.inl og)))))] ++ (W2_4455 ++ (W2_4462 ++ []))) H := P_left (P_perm hpm_4469 hP)
    have hD : va_D A ([(o, .inl (G.2 5, 1, .inr (.inl of2_4454))), (oD, .inl (G.2 6, 1, .inr (.inr (.inr (.inl og)))))] ++ (W2_4455 ++ (W2_4462 ++ []))) := D_left (D_perm hpm_4469 hD)
    have hl := lv_sub hl [2, 3, 4, 5, 6, 7] (l' := [(0, .ref b), (1, .ref d), (2, .ref m0), (3, .ref o), (4, .ref oD), (5, .int (nI i9))]) rfl
    exact W.widen (show cl + 90 ≤ cl + 20000 from by omega) (show sl + 20000 ≤ sl + 45000 from by omega) (kk ls H locs C M (((q_bestEff (dC M) (sx9 xs (i9 + 1)))).1) W2_4455 W2_4462 of2_4454 og hP hD hS hl hq_4458 hq_4464 hLw.up)
  · refine lv_aload_n hx hb dL_law_2252 rfl (lv_at hl 5 rfl) ?_
    refine lv_iconst (v := nI 0) hx hb dL_law_2253 (by decide) ?_
    refine r_lald (v := (((q_bestEff (dC C) (sx9 xs (i9 + 1)))).2).toInt64) hx hb hK hP 1 5 rfl rfl (i := 0) (by omega) (by omega) ((hq_4456 (by omega))) dL_law_2254 ?_
    refine lv_iload hx hb dL_law_2255 (lv_at hl 0 rfl) ?_
    refine lv_toi (y := ((q_bestEff (dC C) (sx9 xs (i9 + 1)))).2) ((hq_4463 (by rw [hqs]; omega)).trans (by rw [hqs])) ?_
    refine lv_i2l (v := (((q_bestEff (dC C) (sx9 xs (i9 + 1)))).2).toInt64) hx hb dL_law_2257 rfl ?_
    refine W.lcmp hx hb dL_law_2258 ?_
    refine lv_ton (n := 0) (lcmp0 _) ?_
    refine n_if_eq (tgt := 2264) hx hb (by omega) dL_law_2259 (by decide) (fun c_4470 => ?_) (fun c_4470 => absurd c_4470 (by omega))
    refine lv_goto (tgt := 2788) hx hb dL_law_2264 (by decide) ?_
    have hpm_4471 : (([(oD, .inl (G.2 6, 1, .inr (.inr (.inr (.inl og))))), (o, .inl (G.2 5, 1, .inr (.inl of2_4454)))] ++ (W2_4455 ++ (W2_4462 ++ []))) : va_W).Perm (([(o, .inl (G.2 5, 1, .inr (.inl of2_4454))), (oD, .inl (G.2 6, 1, .inr (.inr (.inr (.inl og)))))] ++ (W2_4455 ++ (W2_4462 ++ []))) ++ []) := segs_perm [[(oD, .inl (G.2 6, 1, .inr (.inr (.inr (.inl og)))))], [(o, .inl (G.2 5, 1, .inr (.inl of2_4454)))], W2_4455, W2_4462] [1, 0, 2, 3] [] rfl
    have hP : va_P G.1 CL ([(o, .inl (G.2 5, 1, .inr (.inl of2_4454))), (oD, .inl (G.2 6, 1, .inr (.inr (.inr (.inl og)))))] ++ (W2_4455 ++ (W2_4462 ++ []))) H := P_left (P_perm hpm_4471 hP)
    have hD : va_D A ([(o, .inl (G.2 5, 1, .inr (.inl of2_4454))), (oD, .inl (G.2 6, 1, .inr (.inr (.inr (.inl og)))))] ++ (W2_4455 ++ (W2_4462 ++ []))) := D_left (D_perm hpm_4471 hD)
    have hl := lv_sub hl [2, 3, 4, 5, 6, 7] (l' := [(0, .ref b), (1, .ref d), (2, .ref m0), (3, .ref o), (4, .ref oD), (5, .int (nI i9))]) rfl
    exact W.widen (show cl + 90 ≤ cl + 20000 from by omega) (show sl + 20000 ≤ sl + 45000 from by omega) (kk ls H locs C M (((q_bestEff (dC M) (sx9 xs (i9 + 1)))).1) W2_4455 W2_4462 of2_4454 og hP hD hS hl hq_4458 hq_4464 hLw.up)

set_option maxHeartbeats 4000000 in
theorem lawK_37 {p : Program} {l : Launch} {e : Env} {s : State} {m : MethodId} {below : List Frame} {meth : Method} {c : Code} {G : Gt} {A : Nat → Prop} {b L : Nat} {xs : Nat → Int32} {Q : State → Prop} {d m0 o oD i9 N cl sl : Nat} (hfl : l.stackTraces = false) (F : LwF G A p s m c b L xs) (hi9 : i9 + 4 ≤ L) (hN24 : N ≤ 24) (hcl : cl + 20000 ≤ 1200144) (hsl : sl + 45000 ≤ 5495674) (kk : ∀ (ls : Array Slot) (H : Heap) (locs : List Loc) (C M : DS) (th : Nat) (WD WM : va_W) (of : Nat → Int64) (og : Nat → UInt64), va_P G.1 CL ([(o, .inl (G.2 5, 1, .inr (.inl of))), (oD, .inl (G.2 6, 1, .inr (.inr (.inr (.inl og)))))] ++ (WD ++ (WM ++ []))) H → va_D A ([(o, .inl (G.2 5, 1, .inr (.inl of))), (oD, .inl (G.2 6, 1, .inr (.inr (.inr (.inl og)))))] ++ (WD ++ (WM ++ []))) → va_S A s.heap H locs → lv_has ls 10 [(0, .ref b), (1, .ref d), (2, .ref m0), (3, .ref o), (4, .ref oD), (5, .int (nI i9))] → DyW G d C WD → MdW G m0 M th WM → LawI C M (N + 1) → W p l e room_1 s m #[Value.ref b] below meth c H locs (cl + 20000) (sl + 45000) Q (F0 m 2788 ls [])) {ls : Array Slot} {H : Heap} {locs : List Loc} {C M : DS} {th : Nat} {WD WM : va_W} {of : Nat → Int64} {og : Nat → UInt64} (hP : va_P G.1 CL ([(o, .inl (G.2 5, 1, .inr (.inl of))), (oD, .inl (G.2 6, 1, .inr (.inr (.inr (.inl og)))))] ++ (WD ++ (WM ++ []))) H) (hD : va_D A ([(o, .inl (G.2 5, 1, .inr (.inl of))), (oD, .inl (G.2 6, 1, .inr (.inr (.inr (.inl og)))))] ++ (WD ++ (WM ++ [])))) (hS : va_S A s.heap H locs) (hl : lv_has ls 10 [(0, .ref b), (1, .ref d), (2, .ref m0), (3, .ref o), (4, .ref oD), (5, .int (nI i9))]) (hDy : DyW G d C WD) (hMd : MdW G m0 M th WM) (hLw : LawI C M N) : W p l e room_1 s m #[Value.ref b] below meth c H locs cl sl Q (F0 m 2267 ls []) := by
  obtain ⟨cf, hKB, hE, hA, hX9, hbl, hbA, hNc, hL96⟩ := F
  have hx := cf.1
  have hb := cf.2.1
  have hml := cf.2.2.1
  have hown : s.vm.findClass RX0 = some m.cls := cf.2.2.2.1
  have hts := cf.2.2.2.2
  have hK := hKB.1
  have hIc := hDy.inv.1
  have hIm : Inv (dC M) := Inv_sim hLw.1 hIc
  have hRk : RkOk (dC M) := RkOk_sim hLw.1 (RkOk_srt hDy.inv.2.2)
  have hl := hl
  refine lv_aload_n hx hb dL_law_2267 rfl (lv_at hl 1 rfl) ?_
  refine lv_aload_n hx hb dL_law_2268 rfl (lv_at hl 0 rfl) ?_
  refine lv_iload hx hb dL_law_2269 (lv_at hl 5 rfl) ?_
  refine lv_iconst (v := nI 1) hx hb dL_law_2271 (by decide) ?_
  refine lv_iadd hx hb dL_law_2272 ?_
  refine lv_ton (n := i9 + 1) (nadd (by omega)) ?_
  refine va_sld hx hb hX9 hbl hbA hS (i := nI (i9 + 1)) (vp9 (by omega) hL96) dL_law_2273 ?_
  refine W.eq (g2 := F0 m 2274 ls [.int (sx9 xs (i9 + 1)), .ref d]) rfl ?_
  refine lv_aload_n hx hb dL_law_2274 rfl (lv_at hl 3 rfl) ?_
  have hpm_4472 : (([(o, .inl (G.2 5, 1, .inr (.inl of))), (oD, .inl (G.2 6, 1, .inr (.inr (.inr (.inl og)))))] ++ (WD ++ (WM ++ []))) : va_W).Perm (([(o, .inl (G.2 5, 1, .inr (.inl of)))] ++ (WD ++ [])) ++ ([(oD, .inl (G.2 6, 1, .inr (.inr (.inr (.inl og)))))] ++ (WM ++ []))) := segs_perm [[(o, .inl (G.2 5, 1, .inr (.inl of)))], [(oD, .inl (G.2 6, 1, .inr (.inr (.inr (.inl og)))))], WD, WM] [0, 2] [1, 3] rfl
  have hF := hF_ofP (wc := ([(o, .inl (G.2 5, 1, .inr (.inl of)))] ++ (WD ++ []))) hD hS hA hpm_4472
  refine go_ctP hS hP hD hpm_4472 hF
      (vx_runSW (As := [.ref d, .int (sx9 xs (i9 + 1)), .ref o]) (rest := []) cf (wX0_bestEffortSession l G d C WD o of (sx9 xs (i9 + 1)) (hDy) hfl H.size) (vx_cwSW 3 hts (lw_SW q1406 q1407 q46 q1408) rfl rfl rfl (by decide +kernel) ⟨Nat.le_of_ble_eq_true rfl, Nat.le_of_ble_eq_true rfl⟩) (preS_ofW hNc hKB hE hS hF (P_left (P_perm hpm_4472 hP)) ((D_left (D_perm hpm_4472 hD)).weaken (fun _ _ _ _ => trivial)) trivial) rfl rfl hl.1 rfl (lv_room (Nat.le_of_ble_eq_true rfl)) dL_law_2275 ⟨show cl + 90 ≤ 1200144 from by first | decide | omega, show sl + 20000 ≤ 5495674 from by first | decide | omega⟩)
      (fun u_ H locs hq hph (hP : va_P G.1 CL (([(oD, .inl (G.2 6, 1, .inr (.inr (.inr (.inl og)))))] ++ (WM ++ [])) ++ ([(o, .inl (G.2 5, 1, .inr (.inl u_.1)))] ++ (u_.2 ++ []))) H) (hD : va_D A (([(oD, .inl (G.2 6, 1, .inr (.inr (.inr (.inl og)))))] ++ (WM ++ [])) ++ ([(o, .inl (G.2 5, 1, .inr (.inl u_.1)))] ++ (u_.2 ++ [])))) hS hfz hfk => ?_)
  obtain ⟨of2_4473, W2_4474⟩ := u_
  obtain ⟨hq_4475, hq_4476, hq_4477⟩ : ((q_bestEffS (dC C) (sx9 xs (i9 + 1))).1 = 0 → of2_4473 0 = ((q_bestEffS (dC C) (sx9 xs (i9 + 1))).2).toInt64) ∧ (q_bestEffS (dC C) (sx9 xs (i9 + 1))).1 < 10 ∧ DyW G d C W2_4474 := hq
  have hpm_4478 : (([(oD, .inl (G.2 6, 1, .inr (.inr (.inr (.inl og)))))] ++ (WM ++ [])) ++ ([(o, .inl (G.2 5, 1, .inr (.inl of2_4473)))] ++ (W2_4474 ++ [])) : va_W).Perm ([(oD, .inl (G.2 6, 1, .inr (.inr (.inr (.inl og))))), (o, .inl (G.2 5, 1, .inr (.inl of2_4473)))] ++ (WM ++ (W2_4474 ++ []))) := segs_perm2 [[(oD, .inl (G.2 6, 1, .inr (.inr (.inr (.inl og)))))], WM] [[(o, .inl (G.2 5, 1, .inr (.inl of2_4473)))], W2_4474] [0, 2, 1, 3] rfl
  have hP : va_P G.1 CL ([(oD, .inl (G.2 6, 1, .inr (.inr (.inr (.inl og))))), (o, .inl (G.2 5, 1, .inr (.inl of2_4473)))] ++ (WM ++ (W2_4474 ++ []))) H := P_perm hpm_4478 hP
  have hD : va_D A ([(oD, .inl (G.2 6, 1, .inr (.inr (.inr (.inl og))))), (o, .inl (G.2 5, 1, .inr (.inl of2_4473)))] ++ (WM ++ (W2_4474 ++ []))) := D_perm hpm_4478 hD
  refine W.eq (g2 := F0 m 2278 ls [.int (nI ((q_bestEffS (dC C) (sx9 xs (i9 + 1))).1))]) rfl ?_
  have hqs : (q_bestEffS (dC M) (sx9 xs (i9 + 1))) = (q_bestEffS (dC C) (sx9 xs (i9 + 1))) := q_bestEffS_sim hLw.1.symm hIm (sx9 xs (i9 + 1))
  refine lv_istore (lv' := [(6, .int (nI ((q_bestEffS (dC C) (sx9 xs (i9 + 1))).1))), (0, .ref b), (1, .ref d), (2, .ref m0), (3, .ref o), (4, .ref oD), (5, .int (nI i9))]) hx hb dL_law_2278 hl (by decide) rfl (fun ls hl => ?_)
  refine lv_aload_n hx hb dL_law_2280 rfl (lv_at hl 3 rfl) ?_
  refine lv_aload_n hx hb dL_law_2281 rfl (lv_at hl 1 rfl) ?_
  refine lv_iload hx hb dL_law_2282 (lv_at hl 6 rfl) ?_
  refine lv_iconst (v := nI 1) hx hb dL_law_2284 (by decide) ?_
  refine lv_iadd hx hb dL_law_2285 ?_
  refine lv_ton (n := i9 + 1) (nadd (by omega)) ?_
  refine va_sld hx hb hX9 hbl hbA hS (i := nI (i9 + 1)) (vp9 (by omega) hL96) dL_law_2286 ?_
  refine W.eq (g2 := F0 m 2287 ls [.int (sx9 xs (i9 + 1)), .ref m0]) rfl ?_
  have hpm_4479 : (([(oD, .inl (G.2 6, 1, .inr (.inr (.inr (.inl og))))), (o, .inl (G.2 5, 1, .inr (.inl of2_4473)))] ++ (WM ++ (W2_4474 ++ []))) : va_W).Perm ((WM ++ []) ++ ([(oD, .inl (G.2 6, 1, .inr (.inr (.inr (.inl og))))), (o, .inl (G.2 5, 1, .inr (.inl of2_4473)))] ++ (W2_4474 ++ []))) := segs_perm [[(oD, .inl (G.2 6, 1, .inr (.inr (.inr (.inl og)))))], [(o, .inl (G.2 5, 1, .inr (.inl of2_4473)))], WM, W2_4474] [2] [0, 1, 3] rfl
  have hF := hF_ofP (wc := (WM ++ [])) hD hS hA hpm_4479
  refine go_ctP hS hP hD hpm_4479 hF
      (va_runV (As := [.int (sx9 xs (i9 + 1))]) (rest := []) cf (eX4_bestEffortSession l G m0 M th WM (sx9 xs (i9 + 1)) (hMd) (hIm) (hRk) H.size) (cwV 1 hts (lw_V q1898 q1899 q1900 q58 q1901) rfl rfl rfl (by decide +kernel) ⟨Nat.le_of_ble_eq_true rfl, Nat.le_of_ble_eq_true rfl⟩) (preV_of hKB hE hS hF (MdW.recv hK hMd (seg_at [[(oD, .inl (G.2 6, 1, .inr (.inr (.inr (.inl og)))))], [(o, .inl (G.2 5, 1, .inr (.inl of2_4473)))], WM, W2_4474] 2 rfl hP)) (P_left (P_perm hpm_4479 hP)) ((D_left (D_perm hpm_4479 hD)).weaken (fun _ _ _ _ => trivial)) trivial) rfl rfl hl.1 rfl (lv_room (Nat.le_of_ble_eq_true rfl)) dL_law_2287 ⟨show cl + 90 + 0 ≤ 1200144 from by first | decide | omega, show sl + 20000 + 0 ≤ 5495674 from by first | decide | omega⟩)
      (fun u_ H locs hq hph (hP : va_P G.1 CL (([(oD, .inl (G.2 6, 1, .inr (.inr (.inr (.inl og))))), (o, .inl (G.2 5, 1, .inr (.inl of2_4473)))] ++ (W2_4474 ++ [])) ++ (u_.2 ++ [])) H) (hD : va_D A (([(oD, .inl (G.2 6, 1, .inr (.inr (.inr (.inl og))))), (o, .inl (G.2 5, 1, .inr (.inl of2_4473)))] ++ (W2_4474 ++ [])) ++ (u_.2 ++ []))) hS hfz hfk => ?_)
  obtain ⟨rr_4480, W2_4481⟩ := u_
  obtain ⟨hq_4482, hq_4483⟩ : ((q_bestEffS (dC M) (sx9 xs (i9 + 1))).1 = 0 → rr_4480 = (q_bestEffS (dC M) (sx9 xs (i9 + 1))).2) ∧ MdW G m0 M (q_bestEffS (dC M) (sx9 xs (i9 + 1))).1 W2_4481 := hq
  have hpm_4484 : (([(oD, .inl (G.2 6, 1, .inr (.inr (.inr (.inl og))))), (o, .inl (G.2 5, 1, .inr (.inl of2_4473)))] ++ (W2_4474 ++ [])) ++ (W2_4481 ++ []) : va_W).Perm ([(oD, .inl (G.2 6, 1, .inr (.inr (.inr (.inl og))))), (o, .inl (G.2 5, 1, .inr (.inl of2_4473)))] ++ (W2_4474 ++ (W2_4481 ++ []))) := segs_perm2 [[(oD, .inl (G.2 6, 1, .inr (.inr (.inr (.inl og)))))], [(o, .inl (G.2 5, 1, .inr (.inl of2_4473)))], W2_4474] [W2_4481] [0, 1, 2, 3] rfl
  have hP : va_P G.1 CL ([(oD, .inl (G.2 6, 1, .inr (.inr (.inr (.inl og))))), (o, .inl (G.2 5, 1, .inr (.inl of2_4473)))] ++ (W2_4474 ++ (W2_4481 ++ []))) H := P_perm hpm_4484 hP
  have hD : va_D A ([(oD, .inl (G.2 6, 1, .inr (.inr (.inr (.inl og))))), (o, .inl (G.2 5, 1, .inr (.inl of2_4473)))] ++ (W2_4474 ++ (W2_4481 ++ []))) := D_perm hpm_4484 hD
  refine W.eq (g2 := F0 m 2290 ls [.int rr_4480]) rfl ?_
  refine lv_istore (lv' := [(7, .int rr_4480), (6, .int (nI ((q_bestEffS (dC C) (sx9 xs (i9 + 1))).1))), (0, .ref b), (1, .ref d), (2, .ref m0), (3, .ref o), (4, .ref oD), (5, .int (nI i9))]) hx hb dL_law_2290 hl (by decide) rfl (fun ls hl => ?_)
  refine lv_aload_n hx hb dL_law_2292 rfl (lv_at hl 4 rfl) ?_
  have hpm_4485 : (([(oD, .inl (G.2 6, 1, .inr (.inr (.inr (.inl og))))), (o, .inl (G.2 5, 1, .inr (.inl of2_4473)))] ++ (W2_4474 ++ (W2_4481 ++ []))) : va_W).Perm ([] ++ ([(oD, .inl (G.2 6, 1, .inr (.inr (.inr (.inl og))))), (o, .inl (G.2 5, 1, .inr (.inl of2_4473)))] ++ (W2_4474 ++ (W2_4481 ++ [])))) := segs_perm [[(oD, .inl (G.2 6, 1, .inr (.inr (.inr (.inl og)))))], [(o, .inl (G.2 5, 1, .inr (.inl of2_4473)))], W2_4474, W2_4481] [] [0, 1, 2, 3] rfl
  have hF := hF_ofP (wc := []) hD hS hA hpm_4485
  refine go_ctP hS hP hD hpm_4485 hF
      (va_runV (As := []) (rest := []) cf (eX4_thrown l G m0 M (((q_bestEffS (dC M) (sx9 xs (i9 + 1)))).1) W2_4481 (hq_4483) H.size) (cwV 0 hts (lw_V q1639 q1640 q1641 q58 q1642) rfl rfl rfl (by decide +kernel) ⟨Nat.le_of_ble_eq_true rfl, Nat.le_of_ble_eq_true rfl⟩) (preV_of hKB hE hS hF (MdW.recv hK hq_4483 (seg_at [[(oD, .inl (G.2 6, 1, .inr (.inr (.inr (.inl og)))))], [(o, .inl (G.2 5, 1, .inr (.inl of2_4473)))], W2_4474, W2_4481] 3 rfl hP)) (P_left (P_perm hpm_4485 hP)) ((D_left (D_perm hpm_4485 hD)).weaken (fun _ _ _ _ => trivial)) (roW.nil (seg_at [[(oD, .inl (G.2 6, 1, .inr (.inr (.inr (.inl og)))))], [(o, .inl (G.2 5, 1, .inr (.inl of2_4473)))], W2_4474, W2_4481] 3 rfl hP))) rfl rfl hl.1 rfl (lv_room (Nat.le_of_ble_eq_true rfl)) dL_law_2293 ⟨show cl + 90 + 0 ≤ 1200144 from by first | decide | omega, show sl + 20000 + 0 ≤ 5495674 from by first | decide | omega⟩)
      (fun u_ H locs hq hph (hP : va_P G.1 CL (([(oD, .inl (G.2 6, 1, .inr (.inr (.inr (.inl og))))), (o, .inl (G.2 5, 1, .inr (.inl of2_4473)))] ++ (W2_4474 ++ (W2_4481 ++ []))) ++ []) H) (hD : va_D A (([(oD, .inl (G.2 6, 1, .inr (.inr (.inr (.inl og))))), (o, .inl (G.2 5, 1, .inr (.inl of2_4473)))] ++ (W2_4474 ++ (W2_4481 ++ []))) ++ [])) hS hfz hfk => ?_)
  have hpm_4486 : (([(oD, .inl (G.2 6, 1, .inr (.inr (.inr (.inl og))))), (o, .inl (G.2 5, 1, .inr (.inl of2_4473)))] ++ (W2_4474 ++ (W2_4481 ++ []))) ++ [] : va_W).Perm ([(oD, .inl (G.2 6, 1, .inr (.inr (.inr (.inl og))))), (o, .inl (G.2 5, 1, .inr (.inl of2_4473)))] ++ (W2_4474 ++ (W2_4481 ++ []))) := segs_perm2 [[(oD, .inl (G.2 6, 1, .inr (.inr (.inr (.inl og)))))], [(o, .inl (G.2 5, 1, .inr (.inl of2_4473)))], W2_4474, W2_4481] [] [0, 1, 2, 3] rfl
  have hP : va_P G.1 CL ([(oD, .inl (G.2 6, 1, .inr (.inr (.inr (.inl og))))), (o, .inl (G.2 5, 1, .inr (.inl of2_4473)))] ++ (W2_4474 ++ (W2_4481 ++ []))) H := P_perm hpm_4486 hP
  have hD : va_D A ([(oD, .inl (G.2 6, 1, .inr (.inr (.inr (.inl og))))), (o, .inl (G.2 5, 1, .inr (.inl of2_4473)))] ++ (W2_4474 ++ (W2_4481 ++ []))) := D_perm hpm_4486 hD
  refine W.eq (g2 := F0 m 2296 ls [.int (nI (((q_bestEffS (dC M) (sx9 xs (i9 + 1)))).1))]) rfl ?_
  refine lv_ton (n := ((q_bestEffS (dC C) (sx9 xs (i9 + 1))).1)) (congrArg nI (by rw [hqs])) ?_
  refine lv_iload hx hb dL_law_2296 (lv_at hl 1 rfl) ?_
  refine lv_icmp_eq (tgt := 2303) hx hb dL_law_2298 (by decide) (fun _ => ?_) (fun c9 => absurd rfl c9)
  refine lv_iload hx hb dL_law_2303 (lv_at hl 1 rfl) ?_
  refine n_if_ne (tgt := 2320) hx hb (by omega) dL_law_2305 (by decide) (fun c_4487 => ?_) (fun c_4487 => ?_)
  · refine lv_goto (tgt := 2788) hx hb dL_law_2320 (by decide) ?_
    have hpm_4488 : (([(oD, .inl (G.2 6, 1, .inr (.inr (.inr (.inl og))))), (o, .inl (G.2 5, 1, .inr (.inl of2_4473)))] ++ (W2_4474 ++ (W2_4481 ++ []))) : va_W).Perm (([(o, .inl (G.2 5, 1, .inr (.inl of2_4473))), (oD, .inl (G.2 6, 1, .inr (.inr (.inr (.inl og)))))] ++ (W2_4474 ++ (W2_4481 ++ []))) ++ []) := segs_perm [[(oD, .inl (G.2 6, 1, .inr (.inr (.inr (.inl og)))))], [(o, .inl (G.2 5, 1, .inr (.inl of2_4473)))], W2_4474, W2_4481] [1, 0, 2, 3] [] rfl
    have hP : va_P G.1 CL ([(o, .inl (G.2 5, 1, .inr (.inl of2_4473))), (oD, .inl (G.2 6, 1, .inr (.inr (.inr (.inl og)))))] ++ (W2_4474 ++ (W2_4481 ++ []))) H := P_left (P_perm hpm_4488 hP)
    have hD : va_D A ([(o, .inl (G.2 5, 1, .inr (.inl of2_4473))), (oD, .inl (G.2 6, 1, .inr (.inr (.inr (.inl og)))))] ++ (W2_4474 ++ (W2_4481 ++ []))) := D_left (D_perm hpm_4488 hD)
    have hl := lv_sub hl [2, 3, 4, 5, 6, 7] (l' := [(0, .ref b), (1, .ref d), (2, .ref m0), (3, .ref o), (4, .ref oD), (5, .int (nI i9))]) rfl
    exact W.widen (show cl + 90 ≤ cl + 20000 from by omega) (show sl + 20000 ≤ sl + 45000 from by omega) (kk ls H locs C M (((q_bestEffS (dC M) (sx9 xs (i9 + 1)))).1) W2_4474 W2_4481 of2_4473 og hP hD hS hl hq_4477 hq_4483 hLw.up)
  · refine lv_aload_n hx hb dL_law_2308 rfl (lv_at hl 5 rfl) ?_
    refine lv_iconst (v := nI 0) hx hb dL_law_2309 (by decide) ?_
    refine r_lald (v := (((q_bestEffS (dC C) (sx9 xs (i9 + 1)))).2).toInt64) hx hb hK hP 1 5 rfl rfl (i := 0) (by omega) (by omega) ((hq_4475 (by omega))) dL_law_2310 ?_
    refine lv_iload hx hb dL_law_2311 (lv_at hl 0 rfl) ?_
    refine lv_toi (y := ((q_bestEffS (dC C) (sx9 xs (i9 + 1)))).2) ((hq_4482 (by rw [hqs]; omega)).trans (by rw [hqs])) ?_
    refine lv_i2l (v := (((q_bestEffS (dC C) (sx9 xs (i9 + 1)))).2).toInt64) hx hb dL_law_2313 rfl ?_
    refine W.lcmp hx hb dL_law_2314 ?_
    refine lv_ton (n := 0) (lcmp0 _) ?_
    refine n_if_eq (tgt := 2320) hx hb (by omega) dL_law_2315 (by decide) (fun c_4489 => ?_) (fun c_4489 => absurd c_4489 (by omega))
    refine lv_goto (tgt := 2788) hx hb dL_law_2320 (by decide) ?_
    have hpm_4490 : (([(oD, .inl (G.2 6, 1, .inr (.inr (.inr (.inl og))))), (o, .inl (G.2 5, 1, .inr (.inl of2_4473)))] ++ (W2_4474 ++ (W2_4481 ++ []))) : va_W).Perm (([(o, .inl (G.2 5, 1, .inr (.inl of2_4473))), (oD, .inl (G.2 6, 1, .inr (.inr (.inr (.inl og)))))] ++ (W2_4474 ++ (W2_4481 ++ []))) ++ []) := segs_perm [[(oD, .inl (G.2 6, 1, .inr (.inr (.inr (.inl og)))))], [(o, .inl (G.2 5, 1, .inr (.inl of2_4473)))], W2_4474, W2_4481] [1, 0, 2, 3] [] rfl
    have hP : va_P G.1 CL ([(o, .inl (G.2 5, 1, .inr (.inl of2_4473))), (oD, .inl (G.2 6, 1, .inr (.inr (.inr (.inl og)))))] ++ (W2_4474 ++ (W2_4481 ++ []))) H := P_left (P_perm hpm_4490 hP)
    have hD : va_D A ([(o, .inl (G.2 5, 1, .inr (.inl of2_4473))), (oD, .inl (G.2 6, 1, .inr (.inr (.inr (.inl og)))))] ++ (W2_4474 ++ (W2_4481 ++ []))) := D_left (D_perm hpm_4490 hD)
    have hl := lv_sub hl [2, 3, 4, 5, 6, 7] (l' := [(0, .ref b), (1, .ref d), (2, .ref m0), (3, .ref o), (4, .ref oD), (5, .int (nI i9))]) rfl
    exact W.widen (show cl + 90 ≤ cl + 20000 from by omega) (show sl + 20000 ≤ sl + 45000 from by omega) (kk ls H locs C M (((q_bestEffS (dC M) (sx9 xs (i9 + 1)))).1) W2_4474 W2_4481 of2_4473 og hP hD hS hl hq_4477 hq_4483 hLw.up)

set_option maxHeartbeats 4000000 in
theorem lawK_38 {p : Program} {l : Launch} {e : Env} {s : State} {m : MethodId} {below : List Frame} {meth : Method} {c : Code} {G : Gt} {A : Nat → Prop} {b L : Nat} {xs : Nat → Int32} {Q : State → Prop} {d m0 o oD i9 N cl sl : Nat} (hfl : l.stackTraces = false) (F : LwF G A p s m c b L xs) (hi9 : i9 + 4 ≤ L) (hN24 : N ≤ 24) (hcl : cl + 20000 ≤ 1200144) (hsl : sl + 45000 ≤ 5495674) (kk : ∀ (ls : Array Slot) (H : Heap) (locs : List Loc) (C M : DS) (th : Nat) (WD WM : va_W) (of : Nat → Int64) (og : Nat → UInt64), va_P G.1 CL ([(o, .inl (G.2 5, 1, .inr (.inl of))), (oD, .inl (G.2 6, 1, .inr (.inr (.inr (.inl og)))))] ++ (WD ++ (WM ++ []))) H → va_D A ([(o, .inl (G.2 5, 1, .inr (.inl of))), (oD, .inl (G.2 6, 1, .inr (.inr (.inr (.inl og)))))] ++ (WD ++ (WM ++ []))) → va_S A s.heap H locs → lv_has ls 10 [(0, .ref b), (1, .ref d), (2, .ref m0), (3, .ref o), (4, .ref oD), (5, .int (nI i9))] → DyW G d C WD → MdW G m0 M th WM → LawI C M (N + 1) → W p l e room_1 s m #[Value.ref b] below meth c H locs (cl + 20000) (sl + 45000) Q (F0 m 2788 ls [])) {ls : Array Slot} {H : Heap} {locs : List Loc} {C M : DS} {th : Nat} {WD WM : va_W} {of : Nat → Int64} {og : Nat → UInt64} (hP : va_P G.1 CL ([(o, .inl (G.2 5, 1, .inr (.inl of))), (oD, .inl (G.2 6, 1, .inr (.inr (.inr (.inl og)))))] ++ (WD ++ (WM ++ []))) H) (hD : va_D A ([(o, .inl (G.2 5, 1, .inr (.inl of))), (oD, .inl (G.2 6, 1, .inr (.inr (.inr (.inl og)))))] ++ (WD ++ (WM ++ [])))) (hS : va_S A s.heap H locs) (hl : lv_has ls 10 [(0, .ref b), (1, .ref d), (2, .ref m0), (3, .ref o), (4, .ref oD), (5, .int (nI i9))]) (hDy : DyW G d C WD) (hMd : MdW G m0 M th WM) (hLw : LawI C M N) : W p l e room_1 s m #[Value.ref b] below meth c H locs cl sl Q (F0 m 2323 ls []) := by
  obtain ⟨cf, hKB, hE, hA, hX9, hbl, hbA, hNc, hL96⟩ := F
  have hx := cf.1
  have hb := cf.2.1
  have hml := cf.2.2.1
  have hown : s.vm.findClass RX0 = some m.cls := cf.2.2.2.1
  have hts := cf.2.2.2.2
  have hK := hKB.1
  have hIc := hDy.inv.1
  have hIm : Inv (dC M) := Inv_sim hLw.1 hIc
  have hRk : RkOk (dC M) := RkOk_sim hLw.1 (RkOk_srt hDy.inv.2.2)
  have hl := hl
  refine lv_aload_n hx hb dL_law_2323 rfl (lv_at hl 1 rfl) ?_
  have hpm_4491 : (([(o, .inl (G.2 5, 1, .inr (.inl of))), (oD, .inl (G.2 6, 1, .inr (.inr (.inr (.inl og)))))] ++ (WD ++ (WM ++ []))) : va_W).Perm ((WD ++ []) ++ ([(o, .inl (G.2 5, 1, .inr (.inl of))), (oD, .inl (G.2 6, 1, .inr (.inr (.inr (.inl og)))))] ++ (WM ++ []))) := segs_perm [[(o, .inl (G.2 5, 1, .inr (.inl of)))], [(oD, .inl (G.2 6, 1, .inr (.inr (.inr (.inl og)))))], WD, WM] [2] [0, 1, 3] rfl
  have hF := hF_ofP (wc := (WD ++ [])) hD hS hA hpm_4491
  refine go_ctP hS hP hD hpm_4491 hF
      (va_runV (As := []) (rest := []) cf (dX1_startPlan l G d C WD (hDy) H.size) (cwV 0 hts (lw_V q470 q471 q472 q47 q473) rfl rfl rfl (by decide +kernel) ⟨Nat.le_of_ble_eq_true rfl, Nat.le_of_ble_eq_true rfl⟩) (preV_of hKB hE hS hF (DyW.recv hK hDy (seg_at [[(o, .inl (G.2 5, 1, .inr (.inl of)))], [(oD, .inl (G.2 6, 1, .inr (.inr (.inr (.inl og)))))], WD, WM] 2 rfl hP)) (P_left (P_perm hpm_4491 hP)) ((D_left (D_perm hpm_4491 hD)).weaken (fun _ _ _ _ => trivial)) trivial) rfl rfl hl.1 rfl (lv_room (Nat.le_of_ble_eq_true rfl)) dL_law_2324 ⟨show cl + (0 + 101) ≤ 1200144 from by first | decide | omega, show sl + (0 + 5800) ≤ 5495674 from by first | decide | omega⟩)
      (fun u_ H locs hq hph (hP : va_P G.1 CL (([(o, .inl (G.2 5, 1, .inr (.inl of))), (oD, .inl (G.2 6, 1, .inr (.inr (.inr (.inl og)))))] ++ (WM ++ [])) ++ (u_.2.2 ++ [])) H) (hD : va_D A (([(o, .inl (G.2 5, 1, .inr (.inl of))), (oD, .inl (G.2 6, 1, .inr (.inr (.inr (.inl og)))))] ++ (WM ++ [])) ++ (u_.2.2 ++ []))) hS hfz hfk => ?_)
  obtain ⟨rr_4492, B2_4493, W2_4494⟩ := u_
  obtain ⟨hq_4495, hq_4496, hq_4497, hq_4498⟩ : (o_start (dC C)).1 = 0 ∧ rr_4492 = (o_start (dC C)).2.1 ∧ Sim (o_start (dC C)).2.2 B2_4493 ∧ DyW G d ((B2_4493, dS C, min 6 (dK C + 1), hsR (dH C) (dK C) (dC C), dL C, dN C) : DS) W2_4494 := hq
  have hpm_4499 : (([(o, .inl (G.2 5, 1, .inr (.inl of))), (oD, .inl (G.2 6, 1, .inr (.inr (.inr (.inl og)))))] ++ (WM ++ [])) ++ (W2_4494 ++ []) : va_W).Perm ([(o, .inl (G.2 5, 1, .inr (.inl of))), (oD, .inl (G.2 6, 1, .inr (.inr (.inr (.inl og)))))] ++ (WM ++ (W2_4494 ++ []))) := segs_perm2 [[(o, .inl (G.2 5, 1, .inr (.inl of)))], [(oD, .inl (G.2 6, 1, .inr (.inr (.inr (.inl og)))))], WM] [W2_4494] [0, 1, 2, 3] rfl
  have hP : va_P G.1 CL ([(o, .inl (G.2 5, 1, .inr (.inl of))), (oD, .inl (G.2 6, 1, .inr (.inr (.inr (.inl og)))))] ++ (WM ++ (W2_4494 ++ []))) H := P_perm hpm_4499 hP
  have hD : va_D A ([(o, .inl (G.2 5, 1, .inr (.inl of))), (oD, .inl (G.2 6, 1, .inr (.inr (.inr (.inl og)))))] ++ (WM ++ (W2_4494 ++ []))) := D_perm hpm_4499 hD
  refine W.eq (g2 := F0 m 2327 ls [.int rr_4492]) rfl ?_
  have hqs : SimR (o_start (dC C)) (o_start (dC M)) := o_start_sim hLw.1 hIc 
  refine lv_toi (y := ((o_start (dC C))).2.1) (hq_4496) ?_
  refine lv_aload_n hx hb dL_law_2327 rfl (lv_at hl 2 rfl) ?_
  have hpm_4500 : (([(o, .inl (G.2 5, 1, .inr (.inl of))), (oD, .inl (G.2 6, 1, .inr (.inr (.inr (.inl og)))))] ++ (WM ++ (W2_4494 ++ []))) : va_W).Perm ((WM ++ []) ++ ([(o, .inl (G.2 5, 1, .inr (.inl of))), (oD, .inl (G.2 6, 1, .inr (.inr (.inr (.inl og)))))] ++ (W2_4494 ++ []))) := segs_perm [[(o, .inl (G.2 5, 1, .inr (.inl of)))], [(oD, .inl (G.2 6, 1, .inr (.inr (.inr (.inl og)))))], WM, W2_4494] [2] [0, 1, 3] rfl
  have hF := hF_ofP (wc := (WM ++ [])) hD hS hA hpm_4500
  refine go_ctP hS hP hD hpm_4500 hF
      (va_runV (As := []) (rest := [.int (((o_start (dC C))).2.1)]) cf (eX4_startPlan l G m0 M th WM (hMd) (hIm) H.size) (cwV 0 hts (lw_V q1902 q1903 q1904 q58 q1905) rfl rfl rfl (by decide +kernel) ⟨Nat.le_of_ble_eq_true rfl, Nat.le_of_ble_eq_true rfl⟩) (preV_of hKB hE hS hF (MdW.recv hK hMd (seg_at [[(o, .inl (G.2 5, 1, .inr (.inl of)))], [(oD, .inl (G.2 6, 1, .inr (.inr (.inr (.inl og)))))], WM, W2_4494] 2 rfl hP)) (P_left (P_perm hpm_4500 hP)) ((D_left (D_perm hpm_4500 hD)).weaken (fun _ _ _ _ => trivial)) trivial) rfl rfl hl.1 rfl (lv_room (Nat.le_of_ble_eq_true rfl)) dL_law_2328 ⟨show cl + (0 + 101) + 0 ≤ 1200144 from by first | decide | omega, show sl + (0 + 5800) + 0 ≤ 5495674 from by first | decide | omega⟩)
      (fun u_ H locs hq hph (hP : va_P G.1 CL (([(o, .inl (G.2 5, 1, .inr (.inl of))), (oD, .inl (G.2 6, 1, .inr (.inr (.inr (.inl og)))))] ++ (W2_4494 ++ [])) ++ (u_.2 ++ [])) H) (hD : va_D A (([(o, .inl (G.2 5, 1, .inr (.inl of))), (oD, .inl (G.2 6, 1, .inr (.inr (.inr (.inl og)))))] ++ (W2_4494 ++ [])) ++ (u_.2 ++ []))) hS hfz hfk => ?_)
  obtain ⟨rr_4501, W2_4502⟩ := u_
  obtain ⟨hq_4503, hq_4504⟩ : ((o_start (dC M)).1 = 0 → rr_4501 = (o_start (dC M)).2.1) ∧ MdW G m0 (if (o_start (dC M)).1 = 0 then (((o_start (dC M)).2.2, dS M, min 6 (dK M + 1), hsR (dH M) (dK M) (dC M), dL M, dN M) : DS) else M) (o_start (dC M)).1 W2_4502 := hq
  have hpm_4505 : (([(o, .inl (G.2 5, 1, .inr (.inl of))), (oD, .inl (G.2 6, 1, .inr (.inr (.inr (.inl og)))))] ++ (W2_4494 ++ [])) ++ (W2_4502 ++ []) : va_W).Perm ([(o, .inl (G.2 5, 1, .inr (.inl of))), (oD, .inl (G.2 6, 1, .inr (.inr (.inr (.inl og)))))] ++ (W2_4494 ++ (W2_4502 ++ []))) := segs_perm2 [[(o, .inl (G.2 5, 1, .inr (.inl of)))], [(oD, .inl (G.2 6, 1, .inr (.inr (.inr (.inl og)))))], W2_4494] [W2_4502] [0, 1, 2, 3] rfl
  have hP : va_P G.1 CL ([(o, .inl (G.2 5, 1, .inr (.inl of))), (oD, .inl (G.2 6, 1, .inr (.inr (.inr (.inl og)))))] ++ (W2_4494 ++ (W2_4502 ++ []))) H := P_perm hpm_4505 hP
  have hD : va_D A ([(o, .inl (G.2 5, 1, .inr (.inl of))), (oD, .inl (G.2 6, 1, .inr (.inr (.inr (.inl og)))))] ++ (W2_4494 ++ (W2_4502 ++ []))) := D_perm hpm_4505 hD
  refine W.eq (g2 := F0 m 2331 ls [.int rr_4501, .int (((o_start (dC C))).2.1)]) rfl ?_
  refine lv_toi (y := ((o_start (dC C))).2.1) ((hq_4503 (hqs.1.symm.trans hq_4495)).trans hqs.2.1.symm) ?_
  refine lv_icmp_eq (tgt := 2788) hx hb dL_law_2331 (by decide) (fun _ => ?_) (fun c9 => absurd rfl c9)
  have hpm_4506 : (([(o, .inl (G.2 5, 1, .inr (.inl of))), (oD, .inl (G.2 6, 1, .inr (.inr (.inr (.inl og)))))] ++ (W2_4494 ++ (W2_4502 ++ []))) : va_W).Perm (([(o, .inl (G.2 5, 1, .inr (.inl of))), (oD, .inl (G.2 6, 1, .inr (.inr (.inr (.inl og)))))] ++ (W2_4494 ++ (W2_4502 ++ []))) ++ []) := segs_perm [[(o, .inl (G.2 5, 1, .inr (.inl of)))], [(oD, .inl (G.2 6, 1, .inr (.inr (.inr (.inl og)))))], W2_4494, W2_4502] [0, 1, 2, 3] [] rfl
  have hP : va_P G.1 CL ([(o, .inl (G.2 5, 1, .inr (.inl of))), (oD, .inl (G.2 6, 1, .inr (.inr (.inr (.inl og)))))] ++ (W2_4494 ++ (W2_4502 ++ []))) H := P_left (P_perm hpm_4506 hP)
  have hD : va_D A ([(o, .inl (G.2 5, 1, .inr (.inl of))), (oD, .inl (G.2 6, 1, .inr (.inr (.inr (.inl og)))))] ++ (W2_4494 ++ (W2_4502 ++ []))) := D_left (D_perm hpm_4506 hD)
  have hl := lv_sub hl [0, 1, 2, 3, 4, 5] (l' := [(0, .ref b), (1, .ref d), (2, .ref m0), (3, .ref o), (4, .ref oD), (5, .int (nI i9))]) rfl
  exact W.widen (show cl + (0 + 101) ≤ cl + 20000 from by omega) (show sl + (0 + 5800) ≤ sl + 45000 from by omega) (kk ls H locs ((B2_4493, dS C, min 6 (dK C + 1), hsR (dH C) (dK C) (dC C), dL C, dN C) : DS) (if ((o_start (dC M))).1 = 0 then ((((o_start (dC M))).2.2, dS M, min 6 (dK M + 1), hsR (dH M) (dK M) (dC M), dL M, dN M) : DS) else M) (((o_start (dC M))).1) W2_4494 W2_4502 of og hP hD hS hl hq_4498 hq_4504 (hLw.mut hqs (NxS.yes hq_4495 hq_4497) (o_start_b (dC C) )))

set_option maxHeartbeats 4000000 in
theorem lawK_39 {p : Program} {l : Launch} {e : Env} {s : State} {m : MethodId} {below : List Frame} {meth : Method} {c : Code} {G : Gt} {A : Nat → Prop} {b L : Nat} {xs : Nat → Int32} {Q : State → Prop} {d m0 o oD i9 N cl sl : Nat} (hfl : l.stackTraces = false) (F : LwF G A p s m c b L xs) (hi9 : i9 + 4 ≤ L) (hN24 : N ≤ 24) (hcl : cl + 20000 ≤ 1200144) (hsl : sl + 45000 ≤ 5495674) (kk : ∀ (ls : Array Slot) (H : Heap) (locs : List Loc) (C M : DS) (th : Nat) (WD WM : va_W) (of : Nat → Int64) (og : Nat → UInt64), va_P G.1 CL ([(o, .inl (G.2 5, 1, .inr (.inl of))), (oD, .inl (G.2 6, 1, .inr (.inr (.inr (.inl og)))))] ++ (WD ++ (WM ++ []))) H → va_D A ([(o, .inl (G.2 5, 1, .inr (.inl of))), (oD, .inl (G.2 6, 1, .inr (.inr (.inr (.inl og)))))] ++ (WD ++ (WM ++ []))) → va_S A s.heap H locs → lv_has ls 10 [(0, .ref b), (1, .ref d), (2, .ref m0), (3, .ref o), (4, .ref oD), (5, .int (nI i9))] → DyW G d C WD → MdW G m0 M th WM → LawI C M (N + 1) → W p l e room_1 s m #[Value.ref b] below meth c H locs (cl + 20000) (sl + 45000) Q (F0 m 2788 ls [])) {ls : Array Slot} {H : Heap} {locs : List Loc} {C M : DS} {th : Nat} {WD WM : va_W} {of : Nat → Int64} {og : Nat → UInt64} (hP : va_P G.1 CL ([(o, .inl (G.2 5, 1, .inr (.inl of))), (oD, .inl (G.2 6, 1, .inr (.inr (.inr (.inl og)))))] ++ (WD ++ (WM ++ []))) H) (hD : va_D A ([(o, .inl (G.2 5, 1, .inr (.inl of))), (oD, .inl (G.2 6, 1, .inr (.inr (.inr (.inl og)))))] ++ (WD ++ (WM ++ [])))) (hS : va_S A s.heap H locs) (hl : lv_has ls 10 [(0, .ref b), (1, .ref d), (2, .ref m0), (3, .ref o), (4, .ref oD), (5, .int (nI i9))]) (hDy : DyW G d C WD) (hMd : MdW G m0 M th WM) (hLw : LawI C M N) : W p l e room_1 s m #[Value.ref b] below meth c H locs cl sl Q (F0 m 2336 ls []) := by
  obtain ⟨cf, hKB, hE, hA, hX9, hbl, hbA, hNc, hL96⟩ := F
  have hx := cf.1
  have hb := cf.2.1
  have hml := cf.2.2.1
  have hown : s.vm.findClass RX0 = some m.cls := cf.2.2.2.1
  have hts := cf.2.2.2.2
  have hK := hKB.1
  have hIc := hDy.inv.1
  have hIm : Inv (dC M) := Inv_sim hLw.1 hIc
  have hRk : RkOk (dC M) := RkOk_sim hLw.1 (RkOk_srt hDy.inv.2.2)
  have hl := hl
  refine lv_aload_n hx hb dL_law_2336 rfl (lv_at hl 1 rfl) ?_
  refine lv_aload_n hx hb dL_law_2337 rfl (lv_at hl 0 rfl) ?_
  refine lv_iload hx hb dL_law_2338 (lv_at hl 5 rfl) ?_
  refine lv_iconst (v := nI 1) hx hb dL_law_2340 (by decide) ?_
  refine lv_iadd hx hb dL_law_2341 ?_
  refine lv_ton (n := i9 + 1) (nadd (by omega)) ?_
  refine va_sld hx hb hX9 hbl hbA hS (i := nI (i9 + 1)) (vp9 (by omega) hL96) dL_law_2342 ?_
  refine W.eq (g2 := F0 m 2343 ls [.int (sx9 xs (i9 + 1)), .ref d]) rfl ?_
  refine lv_aload_n hx hb dL_law_2343 rfl (lv_at hl 3 rfl) ?_
  have hpm_4507 : (([(o, .inl (G.2 5, 1, .inr (.inl of))), (oD, .inl (G.2 6, 1, .inr (.inr (.inr (.inl og)))))] ++ (WD ++ (WM ++ []))) : va_W).Perm (([(o, .inl (G.2 5, 1, .inr (.inl of)))] ++ (WD ++ [])) ++ ([(oD, .inl (G.2 6, 1, .inr (.inr (.inr (.inl og)))))] ++ (WM ++ []))) := segs_perm [[(o, .inl (G.2 5, 1, .inr (.inl of)))], [(oD, .inl (G.2 6, 1, .inr (.inr (.inr (.inl og)))))], WD, WM] [0, 2] [1, 3] rfl
  have hF := hF_ofP (wc := ([(o, .inl (G.2 5, 1, .inr (.inl of)))] ++ (WD ++ []))) hD hS hA hpm_4507
  refine go_ctP hS hP hD hpm_4507 hF
      (vx_runSW (As := [.ref d, .int (sx9 xs (i9 + 1)), .ref o]) (rest := []) cf (wX0_addTarget l G d C WD o of (sx9 xs (i9 + 1)) (hDy) hfl H.size) (vx_cwSW 3 hts (lw_SW q1413 q1414 q46 q1415) rfl rfl rfl (by decide +kernel) ⟨Nat.le_of_ble_eq_true rfl, Nat.le_of_ble_eq_true rfl⟩) (preS_ofW hNc hKB hE hS hF (P_left (P_perm hpm_4507 hP)) ((D_left (D_perm hpm_4507 hD)).weaken (fun _ _ _ _ => trivial)) trivial) rfl rfl hl.1 rfl (lv_room (Nat.le_of_ble_eq_true rfl)) dL_law_2344 ⟨show cl + (1 + 101) ≤ 1200144 from by first | decide | omega, show sl + (6 + 5800) ≤ 5495674 from by first | decide | omega⟩)
      (fun u_ H locs hq hph (hP : va_P G.1 CL (([(oD, .inl (G.2 6, 1, .inr (.inr (.inr (.inl og)))))] ++ (WM ++ [])) ++ ([(o, .inl (G.2 5, 1, .inr (.inl u_.1)))] ++ (u_.2.2 ++ []))) H) (hD : va_D A (([(oD, .inl (G.2 6, 1, .inr (.inr (.inr (.inl og)))))] ++ (WM ++ [])) ++ ([(o, .inl (G.2 5, 1, .inr (.inl u_.1)))] ++ (u_.2.2 ++ [])))) hS hfz hfk => ?_)
  obtain ⟨of2_4508, S2_4509, W2_4510⟩ := u_
  obtain ⟨hq_4511, hq_4512, hq_4513, hq_4514⟩ : ((o_addTarget (dC C) (sx9 xs (i9 + 1))).1 = 0 → of2_4508 0 = ((o_addTarget (dC C) (sx9 xs (i9 + 1))).2.1).toInt64) ∧ NxS C (o_addTarget (dC C) (sx9 xs (i9 + 1))) S2_4509 ∧ (o_addTarget (dC C) (sx9 xs (i9 + 1))).1 < 10 ∧ DyW G d S2_4509 W2_4510 := hq
  have hpm_4515 : (([(oD, .inl (G.2 6, 1, .inr (.inr (.inr (.inl og)))))] ++ (WM ++ [])) ++ ([(o, .inl (G.2 5, 1, .inr (.inl of2_4508)))] ++ (W2_4510 ++ [])) : va_W).Perm ([(oD, .inl (G.2 6, 1, .inr (.inr (.inr (.inl og))))), (o, .inl (G.2 5, 1, .inr (.inl of2_4508)))] ++ (WM ++ (W2_4510 ++ []))) := segs_perm2 [[(oD, .inl (G.2 6, 1, .inr (.inr (.inr (.inl og)))))], WM] [[(o, .inl (G.2 5, 1, .inr (.inl of2_4508)))], W2_4510] [0, 2, 1, 3] rfl
  have hP : va_P G.1 CL ([(oD, .inl (G.2 6, 1, .inr (.inr (.inr (.inl og))))), (o, .inl (G.2 5, 1, .inr (.inl of2_4508)))] ++ (WM ++ (W2_4510 ++ []))) H := P_perm hpm_4515 hP
  have hD : va_D A ([(oD, .inl (G.2 6, 1, .inr (.inr (.inr (.inl og))))), (o, .inl (G.2 5, 1, .inr (.inl of2_4508)))] ++ (WM ++ (W2_4510 ++ []))) := D_perm hpm_4515 hD
  refine W.eq (g2 := F0 m 2347 ls [.int (nI ((o_addTarget (dC C) (sx9 xs (i9 + 1))).1))]) rfl ?_
  have hqs : SimR (o_addTarget (dC C) (sx9 xs (i9 + 1))) (o_addTarget (dC M) (sx9 xs (i9 + 1))) := o_addTarget_sim hLw.1 hIc (sx9 xs (i9 + 1))
  refine lv_istore (lv' := [(6, .int (nI ((o_addTarget (dC C) (sx9 xs (i9 + 1))).1))), (0, .ref b), (1, .ref d), (2, .ref m0), (3, .ref o), (4, .ref oD), (5, .int (nI i9))]) hx hb dL_law_2347 hl (by decide) rfl (fun ls hl => ?_)
  refine lv_aload_n hx hb dL_law_2349 rfl (lv_at hl 3 rfl) ?_
  refine lv_aload_n hx hb dL_law_2350 rfl (lv_at hl 1 rfl) ?_
  refine lv_iload hx hb dL_law_2351 (lv_at hl 6 rfl) ?_
  refine lv_iconst (v := nI 1) hx hb dL_law_2353 (by decide) ?_
  refine lv_iadd hx hb dL_law_2354 ?_
  refine lv_ton (n := i9 + 1) (nadd (by omega)) ?_
  refine va_sld hx hb hX9 hbl hbA hS (i := nI (i9 + 1)) (vp9 (by omega) hL96) dL_law_2355 ?_
  refine W.eq (g2 := F0 m 2356 ls [.int (sx9 xs (i9 + 1)), .ref m0]) rfl ?_
  have hpm_4516 : (([(oD, .inl (G.2 6, 1, .inr (.inr (.inr (.inl og))))), (o, .inl (G.2 5, 1, .inr (.inl of2_4508)))] ++ (WM ++ (W2_4510 ++ []))) : va_W).Perm ((WM ++ []) ++ ([(oD, .inl (G.2 6, 1, .inr (.inr (.inr (.inl og))))), (o, .inl (G.2 5, 1, .inr (.inl of2_4508)))] ++ (W2_4510 ++ []))) := segs_perm [[(oD, .inl (G.2 6, 1, .inr (.inr (.inr (.inl og)))))], [(o, .inl (G.2 5, 1, .inr (.inl of2_4508)))], WM, W2_4510] [2] [0, 1, 3] rfl
  have hF := hF_ofP (wc := (WM ++ [])) hD hS hA hpm_4516
  refine go_ctP hS hP hD hpm_4516 hF
      (va_runV (As := [.int (sx9 xs (i9 + 1))]) (rest := []) cf (eX4_addTarget l G m0 M th WM (sx9 xs (i9 + 1)) (hMd) (hIm) H.size) (cwV 1 hts (lw_V q1906 q1907 q1908 q58 q1909) rfl rfl rfl (by decide +kernel) ⟨Nat.le_of_ble_eq_true rfl, Nat.le_of_ble_eq_true rfl⟩) (preV_of hKB hE hS hF (MdW.recv hK hMd (seg_at [[(oD, .inl (G.2 6, 1, .inr (.inr (.inr (.inl og)))))], [(o, .inl (G.2 5, 1, .inr (.inl of2_4508)))], WM, W2_4510] 2 rfl hP)) (P_left (P_perm hpm_4516 hP)) ((D_left (D_perm hpm_4516 hD)).weaken (fun _ _ _ _ => trivial)) trivial) rfl rfl hl.1 rfl (lv_room (Nat.le_of_ble_eq_true rfl)) dL_law_2356 ⟨show cl + (1 + 101) + 0 ≤ 1200144 from by first | decide | omega, show sl + (6 + 5800) + 0 ≤ 5495674 from by first | decide | omega⟩)
      (fun u_ H locs hq hph (hP : va_P G.1 CL (([(oD, .inl (G.2 6, 1, .inr (.inr (.inr (.inl og))))), (o, .inl (G.2 5, 1, .inr (.inl of2_4508)))] ++ (W2_4510 ++ [])) ++ (u_.2 ++ [])) H) (hD : va_D A (([(oD, .inl (G.2 6, 1, .inr (.inr (.inr (.inl og))))), (o, .inl (G.2 5, 1, .inr (.inl of2_4508)))] ++ (W2_4510 ++ [])) ++ (u_.2 ++ []))) hS hfz hfk => ?_)
  obtain ⟨rr_4517, W2_4518⟩ := u_
  obtain ⟨hq_4519, hq_4520⟩ : ((o_addTarget (dC M) (sx9 xs (i9 + 1))).1 = 0 → rr_4517 = (o_addTarget (dC M) (sx9 xs (i9 + 1))).2.1) ∧ MdW G m0 (if (o_addTarget (dC M) (sx9 xs (i9 + 1))).1 = 0 then (((o_addTarget (dC M) (sx9 xs (i9 + 1))).2.2, dS M, min 6 (dK M + 1), hsR (dH M) (dK M) (dC M), dL M, dN M) : DS) else M) (o_addTarget (dC M) (sx9 xs (i9 + 1))).1 W2_4518 := hq
  have hpm_4521 : (([(oD, .inl (G.2 6, 1, .inr (.inr (.inr (.inl og))))), (o, .inl (G.2 5, 1, .inr (.inl of2_4508)))] ++ (W2_4510 ++ [])) ++ (W2_4518 ++ []) : va_W).Perm ([(oD, .inl (G.2 6, 1, .inr (.inr (.inr (.inl og))))), (o, .inl (G.2 5, 1, .inr (.inl of2_4508)))] ++ (W2_4510 ++ (W2_4518 ++ []))) := segs_perm2 [[(oD, .inl (G.2 6, 1, .inr (.inr (.inr (.inl og)))))], [(o, .inl (G.2 5, 1, .inr (.inl of2_4508)))], W2_4510] [W2_4518] [0, 1, 2, 3] rfl
  have hP : va_P G.1 CL ([(oD, .inl (G.2 6, 1, .inr (.inr (.inr (.inl og))))), (o, .inl (G.2 5, 1, .inr (.inl of2_4508)))] ++ (W2_4510 ++ (W2_4518 ++ []))) H := P_perm hpm_4521 hP
  have hD : va_D A ([(oD, .inl (G.2 6, 1, .inr (.inr (.inr (.inl og))))), (o, .inl (G.2 5, 1, .inr (.inl of2_4508)))] ++ (W2_4510 ++ (W2_4518 ++ []))) := D_perm hpm_4521 hD
  refine W.eq (g2 := F0 m 2359 ls [.int rr_4517]) rfl ?_
  refine lv_istore (lv' := [(7, .int rr_4517), (6, .int (nI ((o_addTarget (dC C) (sx9 xs (i9 + 1))).1))), (0, .ref b), (1, .ref d), (2, .ref m0), (3, .ref o), (4, .ref oD), (5, .int (nI i9))]) hx hb dL_law_2359 hl (by decide) rfl (fun ls hl => ?_)
  refine lv_aload_n hx hb dL_law_2361 rfl (lv_at hl 4 rfl) ?_
  have hpm_4522 : (([(oD, .inl (G.2 6, 1, .inr (.inr (.inr (.inl og))))), (o, .inl (G.2 5, 1, .inr (.inl of2_4508)))] ++ (W2_4510 ++ (W2_4518 ++ []))) : va_W).Perm ([] ++ ([(oD, .inl (G.2 6, 1, .inr (.inr (.inr (.inl og))))), (o, .inl (G.2 5, 1, .inr (.inl of2_4508)))] ++ (W2_4510 ++ (W2_4518 ++ [])))) := segs_perm [[(oD, .inl (G.2 6, 1, .inr (.inr (.inr (.inl og)))))], [(o, .inl (G.2 5, 1, .inr (.inl of2_4508)))], W2_4510, W2_4518] [] [0, 1, 2, 3] rfl
  have hF := hF_ofP (wc := []) hD hS hA hpm_4522
  refine go_ctP hS hP hD hpm_4522 hF
      (va_runV (As := []) (rest := []) cf (eX4_thrown l G m0 (if ((o_addTarget (dC M) (sx9 xs (i9 + 1)))).1 = 0 then ((((o_addTarget (dC M) (sx9 xs (i9 + 1)))).2.2, dS M, min 6 (dK M + 1), hsR (dH M) (dK M) (dC M), dL M, dN M) : DS) else M) (((o_addTarget (dC M) (sx9 xs (i9 + 1)))).1) W2_4518 (hq_4520) H.size) (cwV 0 hts (lw_V q1639 q1640 q1641 q58 q1642) rfl rfl rfl (by decide +kernel) ⟨Nat.le_of_ble_eq_true rfl, Nat.le_of_ble_eq_true rfl⟩) (preV_of hKB hE hS hF (MdW.recv hK hq_4520 (seg_at [[(oD, .inl (G.2 6, 1, .inr (.inr (.inr (.inl og)))))], [(o, .inl (G.2 5, 1, .inr (.inl of2_4508)))], W2_4510, W2_4518] 3 rfl hP)) (P_left (P_perm hpm_4522 hP)) ((D_left (D_perm hpm_4522 hD)).weaken (fun _ _ _ _ => trivial)) (roW.nil (seg_at [[(oD, .inl (G.2 6, 1, .inr (.inr (.inr (.inl og)))))], [(o, .inl (G.2 5, 1, .inr (.inl of2_4508)))], W2_4510, W2_4518] 3 rfl hP))) rfl rfl hl.1 rfl (lv_room (Nat.le_of_ble_eq_true rfl)) dL_law_2362 ⟨show cl + (1 + 101) + 0 ≤ 1200144 from by first | decide | omega, show sl + (6 + 5800) + 0 ≤ 5495674 from by first | decide | omega⟩)
      (fun u_ H locs hq hph (hP : va_P G.1 CL (([(oD, .inl (G.2 6, 1, .inr (.inr (.inr (.inl og))))), (o, .inl (G.2 5, 1, .inr (.inl of2_4508)))] ++ (W2_4510 ++ (W2_4518 ++ []))) ++ []) H) (hD : va_D A (([(oD, .inl (G.2 6, 1, .inr (.inr (.inr (.inl og))))), (o, .inl (G.2 5, 1, .inr (.inl of2_4508)))] ++ (W2_4510 ++ (W2_4518 ++ []))) ++ [])) hS hfz hfk => ?_)
  have hpm_4523 : (([(oD, .inl (G.2 6, 1, .inr (.inr (.inr (.inl og))))), (o, .inl (G.2 5, 1, .inr (.inl of2_4508)))] ++ (W2_4510 ++ (W2_4518 ++ []))) ++ [] : va_W).Perm ([(oD, .inl (G.2 6, 1, .inr (.inr (.inr (.inl og))))), (o, .inl (G.2 5, 1, .inr (.inl of2_4508)))] ++ (W2_4510 ++ (W2_4518 ++ []))) := segs_perm2 [[(oD, .inl (G.2 6, 1, .inr (.inr (.inr (.inl og)))))], [(o, .inl (G.2 5, 1, .inr (.inl of2_4508)))], W2_4510, W2_4518] [] [0, 1, 2, 3] rfl
  have hP : va_P G.1 CL ([(oD, .inl (G.2 6, 1, .inr (.inr (.inr (.inl og))))), (o, .inl (G.2 5, 1, .inr (.inl of2_4508)))] ++ (W2_4510 ++ (W2_4518 ++ []))) H := P_perm hpm_4523 hP
  have hD : va_D A ([(oD, .inl (G.2 6, 1, .inr (.inr (.inr (.inl og))))), (o, .inl (G.2 5, 1, .inr (.inl of2_4508)))] ++ (W2_4510 ++ (W2_4518 ++ []))) := D_perm hpm_4523 hD
  refine W.eq (g2 := F0 m 2365 ls [.int (nI (((o_addTarget (dC M) (sx9 xs (i9 + 1)))).1))]) rfl ?_
  refine lv_ton (n := ((o_addTarget (dC C) (sx9 xs (i9 + 1))).1)) (congrArg nI hqs.1.symm) ?_
  refine lv_iload hx hb dL_law_2365 (lv_at hl 1 rfl) ?_
  refine lv_icmp_eq (tgt := 2372) hx hb dL_law_2367 (by decide) (fun _ => ?_) (fun c9 => absurd rfl c9)
  refine lv_iload hx hb dL_law_2372 (lv_at hl 1 rfl) ?_
  refine n_if_ne (tgt := 2389) hx hb (by omega) dL_law_2374 (by decide) (fun c_4524 => ?_) (fun c_4524 => ?_)
  · refine lv_goto (tgt := 2788) hx hb dL_law_2389 (by decide) ?_
    have hpm_4525 : (([(oD, .inl (G.2 6, 1, .inr (.inr (.inr (.inl og))))), (o, .inl (G.2 5, 1, .inr (.inl of2_4508)))] ++ (W2_4510 ++ (W2_4518 ++ []))) : va_W).Perm (([(o, .inl (G.2 5, 1, .inr (.inl of2_4508))), (oD, .inl (G.2 6, 1, .inr (.inr (.inr (.inl og)))))] ++ (W2_4510 ++ (W2_4518 ++ []))) ++ []) := segs_perm [[(oD, .inl (G.2 6, 1, .inr (.inr (.inr (.inl og)))))], [(o, .inl (G.2 5, 1, .inr (.inl of2_4508)))], W2_4510, W2_4518] [1, 0, 2, 3] [] rfl
    have hP : va_P G.1 CL ([(o, .inl (G.2 5, 1, .inr (.inl of2_4508))), (oD, .inl (G.2 6, 1, .inr (.inr (.inr (.inl og)))))] ++ (W2_4510 ++ (W2_4518 ++ []))) H := P_left (P_perm hpm_4525 hP)
    have hD : va_D A ([(o, .inl (G.2 5, 1, .inr (.inl of2_4508))), (oD, .inl (G.2 6, 1, .inr (.inr (.inr (.inl og)))))] ++ (W2_4510 ++ (W2_4518 ++ []))) := D_left (D_perm hpm_4525 hD)
    have hl := lv_sub hl [2, 3, 4, 5, 6, 7] (l' := [(0, .ref b), (1, .ref d), (2, .ref m0), (3, .ref o), (4, .ref oD), (5, .int (nI i9))]) rfl
    exact W.widen (show cl + (1 + 101) ≤ cl + 20000 from by omega) (show sl + (6 + 5800) ≤ sl + 45000 from by omega) (kk ls H locs S2_4509 (if ((o_addTarget (dC M) (sx9 xs (i9 + 1)))).1 = 0 then ((((o_addTarget (dC M) (sx9 xs (i9 + 1)))).2.2, dS M, min 6 (dK M + 1), hsR (dH M) (dK M) (dC M), dL M, dN M) : DS) else M) (((o_addTarget (dC M) (sx9 xs (i9 + 1)))).1) W2_4510 W2_4518 of2_4508 og hP hD hS hl hq_4514 hq_4520 (hLw.mut hqs hq_4512 (o_addTarget_b (dC C) (sx9 xs (i9 + 1)))))
  · refine lv_aload_n hx hb dL_law_2377 rfl (lv_at hl 5 rfl) ?_
    refine lv_iconst (v := nI 0) hx hb dL_law_2378 (by decide) ?_
    refine r_lald (v := (((o_addTarget (dC C) (sx9 xs (i9 + 1)))).2.1).toInt64) hx hb hK hP 1 5 rfl rfl (i := 0) (by omega) (by omega) ((hq_4511 (by omega))) dL_law_2379 ?_
    refine lv_iload hx hb dL_law_2380 (lv_at hl 0 rfl) ?_
    refine lv_toi (y := ((o_addTarget (dC C) (sx9 xs (i9 + 1)))).2.1) ((hq_4519 (hqs.1.symm.trans (by omega))).trans hqs.2.1.symm) ?_
    refine lv_i2l (v := (((o_addTarget (dC C) (sx9 xs (i9 + 1)))).2.1).toInt64) hx hb dL_law_2382 rfl ?_
    refine W.lcmp hx hb dL_law_2383 ?_
    refine lv_ton (n := 0) (lcmp0 _) ?_
    refine n_if_eq (tgt := 2389) hx hb (by omega) dL_law_2384 (by decide) (fun c_4526 => ?_) (fun c_4526 => absurd c_4526 (by omega))
    refine lv_goto (tgt := 2788) hx hb dL_law_2389 (by decide) ?_
    have hpm_4527 : (([(oD, .inl (G.2 6, 1, .inr (.inr (.inr (.inl og))))), (o, .inl (G.2 5, 1, .inr (.inl of2_4508)))] ++ (W2_4510 ++ (W2_4518 ++ []))) : va_W).Perm (([(o, .inl (G.2 5, 1, .inr (.inl of2_4508))), (oD, .inl (G.2 6, 1, .inr (.inr (.inr (.inl og)))))] ++ (W2_4510 ++ (W2_4518 ++ []))) ++ []) := segs_perm [[(oD, .inl (G.2 6, 1, .inr (.inr (.inr (.inl og)))))], [(o, .inl (G.2 5, 1, .inr (.inl of2_4508)))], W2_4510, W2_4518] [1, 0, 2, 3] [] rfl
    have hP : va_P G.1 CL ([(o, .inl (G.2 5, 1, .inr (.inl of2_4508))), (oD, .inl (G.2 6, 1, .inr (.inr (.inr (.inl og)))))] ++ (W2_4510 ++ (W2_4518 ++ []))) H := P_left (P_perm hpm_4527 hP)
    have hD : va_D A ([(o, .inl (G.2 5, 1, .inr (.inl of2_4508))), (oD, .inl (G.2 6, 1, .inr (.inr (.inr (.inl og)))))] ++ (W2_4510 ++ (W2_4518 ++ []))) := D_left (D_perm hpm_4527 hD)
    have hl := lv_sub hl [2, 3, 4, 5, 6, 7] (l' := [(0, .ref b), (1, .ref d), (2, .ref m0), (3, .ref o), (4, .ref oD), (5, .int (nI i9))]) rfl
    exact W.widen (show cl + (1 + 101) ≤ cl + 20000 from by omega) (show sl + (6 + 5800) ≤ sl + 45000 from by omega) (kk ls H locs S2_4509 (if ((o_addTarget (dC M) (sx9 xs (i9 + 1)))).1 = 0 then ((((o_addTarget (dC M) (sx9 xs (i9 + 1)))).2.2, dS M, min 6 (dK M + 1), hsR (dH M) (dK M) (dC M), dL M, dN M) : DS) else M) (((o_addTarget (dC M) (sx9 xs (i9 + 1)))).1) W2_4510 W2_4518 of2_4508 og hP hD hS hl hq_4514 hq_4520 (hLw.mut hqs hq_4512 (o_addTarget_b (dC C) (sx9 xs (i9 + 1)))))

set_option maxHeartbeats 4000000 in
theorem lawK_40 {p : Program} {l : Launch} {e : Env} {s : State} {m : MethodId} {below : List Frame} {meth : Method} {c : Code} {G : Gt} {A : Nat → Prop} {b L : Nat} {xs : Nat → Int32} {Q : State → Prop} {d m0 o oD i9 N cl sl : Nat} (hfl : l.stackTraces = false) (F : LwF G A p s m c b L xs) (hi9 : i9 + 4 ≤ L) (hN24 : N ≤ 24) (hcl : cl + 20000 ≤ 1200144) (hsl : sl + 45000 ≤ 5495674) (kk : ∀ (ls : Array Slot) (H : Heap) (locs : List Loc) (C M : DS) (th : Nat) (WD WM : va_W) (of : Nat → Int64) (og : Nat → UInt64), va_P G.1 CL ([(o, .inl (G.2 5, 1, .inr (.inl of))), (oD, .inl (G.2 6, 1, .inr (.inr (.inr (.inl og)))))] ++ (WD ++ (WM ++ []))) H → va_D A ([(o, .inl (G.2 5, 1, .inr (.inl of))), (oD, .inl (G.2 6, 1, .inr (.inr (.inr (.inl og)))))] ++ (WD ++ (WM ++ []))) → va_S A s.heap H locs → lv_has ls 10 [(0, .ref b), (1, .ref d), (2, .ref m0), (3, .ref o), (4, .ref oD), (5, .int (nI i9))] → DyW G d C WD → MdW G m0 M th WM → LawI C M (N + 1) → W p l e room_1 s m #[Value.ref b] below meth c H locs (cl + 20000) (sl + 45000) Q (F0 m 2788 ls [])) {ls : Array Slot} {H : Heap} {locs : List Loc} {C M : DS} {th : Nat} {WD WM : va_W} {of : Nat → Int64} {og : Nat → UInt64} (hP : va_P G.1 CL ([(o, .inl (G.2 5, 1, .inr (.inl of))), (oD, .inl (G.2 6, 1, .inr (.inr (.inr (.inl og)))))] ++ (WD ++ (WM ++ []))) H) (hD : va_D A ([(o, .inl (G.2 5, 1, .inr (.inl of))), (oD, .inl (G.2 6, 1, .inr (.inr (.inr (.inl og)))))] ++ (WD ++ (WM ++ [])))) (hS : va_S A s.heap H locs) (hl : lv_has ls 10 [(0, .ref b), (1, .ref d), (2, .ref m0), (3, .ref o), (4, .ref oD), (5, .int (nI i9))]) (hDy : DyW G d C WD) (hMd : MdW G m0 M th WM) (hLw : LawI C M N) : W p l e room_1 s m #[Value.ref b] below meth c H locs cl sl Q (F0 m 2392 ls []) := by
  obtain ⟨cf, hKB, hE, hA, hX9, hbl, hbA, hNc, hL96⟩ := F
  have hx := cf.1
  have hb := cf.2.1
  have hml := cf.2.2.1
  have hown : s.vm.findClass RX0 = some m.cls := cf.2.2.2.1
  have hts := cf.2.2.2.2
  have hK := hKB.1
  have hIc := hDy.inv.1
  have hIm : Inv (dC M) := Inv_sim hLw.1 hIc
  have hRk : RkOk (dC M) := RkOk_sim hLw.1 (RkOk_srt hDy.inv.2.2)
  have hl := hl
  refine lv_aload_n hx hb dL_law_2392 rfl (lv_at hl 1 rfl) ?_
  refine lv_aload_n hx hb dL_law_2393 rfl (lv_at hl 0 rfl) ?_
  refine lv_iload hx hb dL_law_2394 (lv_at hl 5 rfl) ?_
  refine lv_iconst (v := nI 1) hx hb dL_law_2396 (by decide) ?_
  refine lv_iadd hx hb dL_law_2397 ?_
  refine lv_ton (n := i9 + 1) (nadd (by omega)) ?_
  refine va_sld hx hb hX9 hbl hbA hS (i := nI (i9 + 1)) (vp9 (by omega) hL96) dL_law_2398 ?_
  refine W.eq (g2 := F0 m 2399 ls [.int (sx9 xs (i9 + 1)), .ref d]) rfl ?_
  refine lv_aload_n hx hb dL_law_2399 rfl (lv_at hl 3 rfl) ?_
  have hpm_4528 : (([(o, .inl (G.2 5, 1, .inr (.inl of))), (oD, .inl (G.2 6, 1, .inr (.inr (.inr (.inl og)))))] ++ (WD ++ (WM ++ []))) : va_W).Perm (([(o, .inl (G.2 5, 1, .inr (.inl of)))] ++ (WD ++ [])) ++ ([(oD, .inl (G.2 6, 1, .inr (.inr (.inr (.inl og)))))] ++ (WM ++ []))) := segs_perm [[(o, .inl (G.2 5, 1, .inr (.inl of)))], [(oD, .inl (G.2 6, 1, .inr (.inr (.inr (.inl og)))))], WD, WM] [0, 2] [1, 3] rfl
  have hF := hF_ofP (wc := ([(o, .inl (G.2 5, 1, .inr (.inl of)))] ++ (WD ++ []))) hD hS hA hpm_4528
  refine go_ctP hS hP hD hpm_4528 hF
      (vx_runSW (As := [.ref d, .int (sx9 xs (i9 + 1)), .ref o]) (rest := []) cf (wX0_targetAt l G d C WD o of (sx9 xs (i9 + 1)) (hDy) hfl H.size) (vx_cwSW 3 hts (lw_SW q1424 q1425 q46 q1426) rfl rfl rfl (by decide +kernel) ⟨Nat.le_of_ble_eq_true rfl, Nat.le_of_ble_eq_true rfl⟩) (preS_ofW hNc hKB hE hS hF (P_left (P_perm hpm_4528 hP)) ((D_left (D_perm hpm_4528 hD)).weaken (fun _ _ _ _ => trivial)) trivial) rfl rfl hl.1 rfl (lv_room (Nat.le_of_ble_eq_true rfl)) dL_law_2400 ⟨show cl + 2 ≤ 1200144 from by first | decide | omega, show sl + 8 ≤ 5495674 from by first | decide | omega⟩)
      (fun u_ H locs hq hph (hP : va_P G.1 CL (([(oD, .inl (G.2 6, 1, .inr (.inr (.inr (.inl og)))))] ++ (WM ++ [])) ++ ([(o, .inl (G.2 5, 1, .inr (.inl u_.1)))] ++ (u_.2 ++ []))) H) (hD : va_D A (([(oD, .inl (G.2 6, 1, .inr (.inr (.inr (.inl og)))))] ++ (WM ++ [])) ++ ([(o, .inl (G.2 5, 1, .inr (.inl u_.1)))] ++ (u_.2 ++ [])))) hS hfz hfk => ?_)
  obtain ⟨of2_4529, W2_4530⟩ := u_
  obtain ⟨hq_4531, hq_4532, hq_4533⟩ : ((q_target (dC C) (sx9 xs (i9 + 1))).1 = 0 → of2_4529 0 = ((q_target (dC C) (sx9 xs (i9 + 1))).2).toInt64) ∧ (q_target (dC C) (sx9 xs (i9 + 1))).1 < 10 ∧ DyW G d C W2_4530 := hq
  have hpm_4534 : (([(oD, .inl (G.2 6, 1, .inr (.inr (.inr (.inl og)))))] ++ (WM ++ [])) ++ ([(o, .inl (G.2 5, 1, .inr (.inl of2_4529)))] ++ (W2_4530 ++ [])) : va_W).Perm ([(oD, .inl (G.2 6, 1, .inr (.inr (.inr (.inl og))))), (o, .inl (G.2 5, 1, .inr (.inl of2_4529)))] ++ (WM ++ (W2_4530 ++ []))) := segs_perm2 [[(oD, .inl (G.2 6, 1, .inr (.inr (.inr (.inl og)))))], WM] [[(o, .inl (G.2 5, 1, .inr (.inl of2_4529)))], W2_4530] [0, 2, 1, 3] rfl
  have hP : va_P G.1 CL ([(oD, .inl (G.2 6, 1, .inr (.inr (.inr (.inl og))))), (o, .inl (G.2 5, 1, .inr (.inl of2_4529)))] ++ (WM ++ (W2_4530 ++ []))) H := P_perm hpm_4534 hP
  have hD : va_D A ([(oD, .inl (G.2 6, 1, .inr (.inr (.inr (.inl og))))), (o, .inl (G.2 5, 1, .inr (.inl of2_4529)))] ++ (WM ++ (W2_4530 ++ []))) := D_perm hpm_4534 hD
  refine W.eq (g2 := F0 m 2403 ls [.int (nI ((q_target (dC C) (sx9 xs (i9 + 1))).1))]) rfl ?_
  have hqs : (q_target (dC M) (sx9 xs (i9 + 1))) = (q_target (dC C) (sx9 xs (i9 + 1))) := q_target_sim hLw.1.symm hIm (sx9 xs (i9 + 1))
  refine lv_istore (lv' := [(6, .int (nI ((q_target (dC C) (sx9 xs (i9 + 1))).1))), (0, .ref b), (1, .ref d), (2, .ref m0), (3, .ref o), (4, .ref oD), (5, .int (nI i9))]) hx hb dL_law_2403 hl (by decide) rfl (fun ls hl => ?_)
  refine lv_aload_n hx hb dL_law_2405 rfl (lv_at hl 3 rfl) ?_
  refine lv_aload_n hx hb dL_law_2406 rfl (lv_at hl 1 rfl) ?_
  refine lv_iload hx hb dL_law_2407 (lv_at hl 6 rfl) ?_
  refine lv_iconst (v := nI 1) hx hb dL_law_2409 (by decide) ?_
  refine lv_iadd hx hb dL_law_2410 ?_
  refine lv_ton (n := i9 + 1) (nadd (by omega)) ?_
  refine va_sld hx hb hX9 hbl hbA hS (i := nI (i9 + 1)) (vp9 (by omega) hL96) dL_law_2411 ?_
  refine W.eq (g2 := F0 m 2412 ls [.int (sx9 xs (i9 + 1)), .ref m0]) rfl ?_
  have hpm_4535 : (([(oD, .inl (G.2 6, 1, .inr (.inr (.inr (.inl og))))), (o, .inl (G.2 5, 1, .inr (.inl of2_4529)))] ++ (WM ++ (W2_4530 ++ []))) : va_W).Perm ((WM ++ []) ++ ([(oD, .inl (G.2 6, 1, .inr (.inr (.inr (.inl og))))), (o, .inl (G.2 5, 1, .inr (.inl of2_4529)))] ++ (W2_4530 ++ []))) := segs_perm [[(oD, .inl (G.2 6, 1, .inr (.inr (.inr (.inl og)))))], [(o, .inl (G.2 5, 1, .inr (.inl of2_4529)))], WM, W2_4530] [2] [0, 1, 3] rfl
  have hF := hF_ofP (wc := (WM ++ [])) hD hS hA hpm_4535
  refine go_ctP hS hP hD hpm_4535 hF
      (va_runV (As := [.int (sx9 xs (i9 + 1))]) (rest := []) cf (eX4_targetAt l G m0 M th WM (sx9 xs (i9 + 1)) (hMd) (hIm) H.size) (cwV 1 hts (lw_V q1910 q1911 q1912 q58 q1913) rfl rfl rfl (by decide +kernel) ⟨Nat.le_of_ble_eq_true rfl, Nat.le_of_ble_eq_true rfl⟩) (preV_of hKB hE hS hF (MdW.recv hK hMd (seg_at [[(oD, .inl (G.2 6, 1, .inr (.inr (.inr (.inl og)))))], [(o, .inl (G.2 5, 1, .inr (.inl of2_4529)))], WM, W2_4530] 2 rfl hP)) (P_left (P_perm hpm_4535 hP)) ((D_left (D_perm hpm_4535 hD)).weaken (fun _ _ _ _ => trivial)) trivial) rfl rfl hl.1 rfl (lv_room (Nat.le_of_ble_eq_true rfl)) dL_law_2412 ⟨show cl + 2 + 0 ≤ 1200144 from by first | decide | omega, show sl + 8 + 0 ≤ 5495674 from by first | decide | omega⟩)
      (fun u_ H locs hq hph (hP : va_P G.1 CL (([(oD, .inl (G.2 6, 1, .inr (.inr (.inr (.inl og))))), (o, .inl (G.2 5, 1, .inr (.inl of2_4529)))] ++ (W2_4530 ++ [])) ++ (u_.2 ++ [])) H) (hD : va_D A (([(oD, .inl (G.2 6, 1, .inr (.inr (.inr (.inl og))))), (o, .inl (G.2 5, 1, .inr (.inl of2_4529)))] ++ (W2_4530 ++ [])) ++ (u_.2 ++ []))) hS hfz hfk => ?_)
  obtain ⟨rr_4536, W2_4537⟩ := u_
  obtain ⟨hq_4538, hq_4539⟩ : ((q_target (dC M) (sx9 xs (i9 + 1))).1 = 0 → rr_4536 = (q_target (dC M) (sx9 xs (i9 + 1))).2) ∧ MdW G m0 M (q_target (dC M) (sx9 xs (i9 + 1))).1 W2_4537 := hq
  have hpm_4540 : (([(oD, .inl (G.2 6, 1, .inr (.inr (.inr (.inl og))))), (o, .inl (G.2 5, 1, .inr (.inl of2_4529)))] ++ (W2_4530 ++ [])) ++ (W2_4537 ++ []) : va_W).Perm ([(oD, .inl (G.2 6, 1, .inr (.inr (.inr (.inl og))))), (o, .inl (G.2 5, 1, .inr (.inl of2_4529)))] ++ (W2_4530 ++ (W2_4537 ++ []))) := segs_perm2 [[(oD, .inl (G.2 6, 1, .inr (.inr (.inr (.inl og)))))], [(o, .inl (G.2 5, 1, .inr (.inl of2_4529)))], W2_4530] [W2_4537] [0, 1, 2, 3] rfl
  have hP : va_P G.1 CL ([(oD, .inl (G.2 6, 1, .inr (.inr (.inr (.inl og))))), (o, .inl (G.2 5, 1, .inr (.inl of2_4529)))] ++ (W2_4530 ++ (W2_4537 ++ []))) H := P_perm hpm_4540 hP
  have hD : va_D A ([(oD, .inl (G.2 6, 1, .inr (.inr (.inr (.inl og))))), (o, .inl (G.2 5, 1, .inr (.inl of2_4529)))] ++ (W2_4530 ++ (W2_4537 ++ []))) := D_perm hpm_4540 hD
  refine W.eq (g2 := F0 m 2415 ls [.int rr_4536]) rfl ?_
  refine lv_istore (lv' := [(7, .int rr_4536), (6, .int (nI ((q_target (dC C) (sx9 xs (i9 + 1))).1))), (0, .ref b), (1, .ref d), (2, .ref m0), (3, .ref o), (4, .ref oD), (5, .int (nI i9))]) hx hb dL_law_2415 hl (by decide) rfl (fun ls hl => ?_)
  refine lv_aload_n hx hb dL_law_2417 rfl (lv_at hl 4 rfl) ?_
  have hpm_4541 : (([(oD, .inl (G.2 6, 1, .inr (.inr (.inr (.inl og))))), (o, .inl (G.2 5, 1, .inr (.inl of2_4529)))] ++ (W2_4530 ++ (W2_4537 ++ []))) : va_W).Perm ([] ++ ([(oD, .inl (G.2 6, 1, .inr (.inr (.inr (.inl og))))), (o, .inl (G.2 5, 1, .inr (.inl of2_4529)))] ++ (W2_4530 ++ (W2_4537 ++ [])))) := segs_perm [[(oD, .inl (G.2 6, 1, .inr (.inr (.inr (.inl og)))))], [(o, .inl (G.2 5, 1, .inr (.inl of2_4529)))], W2_4530, W2_4537] [] [0, 1, 2, 3] rfl
  have hF := hF_ofP (wc := []) hD hS hA hpm_4541
  refine go_ctP hS hP hD hpm_4541 hF
      (va_runV (As := []) (rest := []) cf (eX4_thrown l G m0 M (((q_target (dC M) (sx9 xs (i9 + 1)))).1) W2_4537 (hq_4539) H.size) (cwV 0 hts (lw_V q1639 q1640 q1641 q58 q1642) rfl rfl rfl (by decide +kernel) ⟨Nat.le_of_ble_eq_true rfl, Nat.le_of_ble_eq_true rfl⟩) (preV_of hKB hE hS hF (MdW.recv hK hq_4539 (seg_at [[(oD, .inl (G.2 6, 1, .inr (.inr (.inr (.inl og)))))], [(o, .inl (G.2 5, 1, .inr (.inl of2_4529)))], W2_4530, W2_4537] 3 rfl hP)) (P_left (P_perm hpm_4541 hP)) ((D_left (D_perm hpm_4541 hD)).weaken (fun _ _ _ _ => trivial)) (roW.nil (seg_at [[(oD, .inl (G.2 6, 1, .inr (.inr (.inr (.inl og)))))], [(o, .inl (G.2 5, 1, .inr (.inl of2_4529)))], W2_4530, W2_4537] 3 rfl hP))) rfl rfl hl.1 rfl (lv_room (Nat.le_of_ble_eq_true rfl)) dL_law_2418 ⟨show cl + 2 + 0 ≤ 1200144 from by first | decide | omega, show sl + 8 + 0 ≤ 5495674 from by first | decide | omega⟩)
      (fun u_ H locs hq hph (hP : va_P G.1 CL (([(oD, .inl (G.2 6, 1, .inr (.inr (.inr (.inl og))))), (o, .inl (G.2 5, 1, .inr (.inl of2_4529)))] ++ (W2_4530 ++ (W2_4537 ++ []))) ++ []) H) (hD : va_D A (([(oD, .inl (G.2 6, 1, .inr (.inr (.inr (.inl og))))), (o, .inl (G.2 5, 1, .inr (.inl of2_4529)))] ++ (W2_4530 ++ (W2_4537 ++ []))) ++ [])) hS hfz hfk => ?_)
  have hpm_4542 : (([(oD, .inl (G.2 6, 1, .inr (.inr (.inr (.inl og))))), (o, .inl (G.2 5, 1, .inr (.inl of2_4529)))] ++ (W2_4530 ++ (W2_4537 ++ []))) ++ [] : va_W).Perm ([(oD, .inl (G.2 6, 1, .inr (.inr (.inr (.inl og))))), (o, .inl (G.2 5, 1, .inr (.inl of2_4529)))] ++ (W2_4530 ++ (W2_4537 ++ []))) := segs_perm2 [[(oD, .inl (G.2 6, 1, .inr (.inr (.inr (.inl og)))))], [(o, .inl (G.2 5, 1, .inr (.inl of2_4529)))], W2_4530, W2_4537] [] [0, 1, 2, 3] rfl
  have hP : va_P G.1 CL ([(oD, .inl (G.2 6, 1, .inr (.inr (.inr (.inl og))))), (o, .inl (G.2 5, 1, .inr (.inl of2_4529)))] ++ (W2_4530 ++ (W2_4537 ++ []))) H := P_perm hpm_4542 hP
  have hD : va_D A ([(oD, .inl (G.2 6, 1, .inr (.inr (.inr (.inl og))))), (o, .inl (G.2 5, 1, .inr (.inl of2_4529)))] ++ (W2_4530 ++ (W2_4537 ++ []))) := D_perm hpm_4542 hD
  refine W.eq (g2 := F0 m 2421 ls [.int (nI (((q_target (dC M) (sx9 xs (i9 + 1)))).1))]) rfl ?_
  refine lv_ton (n := ((q_target (dC C) (sx9 xs (i9 + 1))).1)) (congrArg nI (by rw [hqs])) ?_
  refine lv_iload hx hb dL_law_2421 (lv_at hl 1 rfl) ?_
  refine lv_icmp_eq (tgt := 2428) hx hb dL_law_2423 (by decide) (fun _ => ?_) (fun c9 => absurd rfl c9)
  refine lv_iload hx hb dL_law_2428 (lv_at hl 1 rfl) ?_
  refine n_if_ne (tgt := 2445) hx hb (by omega) dL_law_2430 (by decide) (fun c_4543 => ?_) (fun c_4543 => ?_)
  · refine lv_goto (tgt := 2788) hx hb dL_law_2445 (by decide) ?_
    have hpm_4544 : (([(oD, .inl (G.2 6, 1, .inr (.inr (.inr (.inl og))))), (o, .inl (G.2 5, 1, .inr (.inl of2_4529)))] ++ (W2_4530 ++ (W2_4537 ++ []))) : va_W).Perm (([(o, .inl (G.2 5, 1, .inr (.inl of2_4529))), (oD, .inl (G.2 6, 1, .inr (.inr (.inr (.inl og)))))] ++ (W2_4530 ++ (W2_4537 ++ []))) ++ []) := segs_perm [[(oD, .inl (G.2 6, 1, .inr (.inr (.inr (.inl og)))))], [(o, .inl (G.2 5, 1, .inr (.inl of2_4529)))], W2_4530, W2_4537] [1, 0, 2, 3] [] rfl
    have hP : va_P G.1 CL ([(o, .inl (G.2 5, 1, .inr (.inl of2_4529))), (oD, .inl (G.2 6, 1, .inr (.inr (.inr (.inl og)))))] ++ (W2_4530 ++ (W2_4537 ++ []))) H := P_left (P_perm hpm_4544 hP)
    have hD : va_D A ([(o, .inl (G.2 5, 1, .inr (.inl of2_4529))), (oD, .inl (G.2 6, 1, .inr (.inr (.inr (.inl og)))))] ++ (W2_4530 ++ (W2_4537 ++ []))) := D_left (D_perm hpm_4544 hD)
    have hl := lv_sub hl [2, 3, 4, 5, 6, 7] (l' := [(0, .ref b), (1, .ref d), (2, .ref m0), (3, .ref o), (4, .ref oD), (5, .int (nI i9))]) rfl
    exact W.widen (show cl + 2 ≤ cl + 20000 from by omega) (show sl + 8 ≤ sl + 45000 from by omega) (kk ls H locs C M (((q_target (dC M) (sx9 xs (i9 + 1)))).1) W2_4530 W2_4537 of2_4529 og hP hD hS hl hq_4533 hq_4539 hLw.up)
  · refine lv_aload_n hx hb dL_law_2433 rfl (lv_at hl 5 rfl) ?_
    refine lv_iconst (v := nI 0) hx hb dL_law_2434 (by decide) ?_
    refine r_lald (v := (((q_target (dC C) (sx9 xs (i9 + 1)))).2).toInt64) hx hb hK hP 1 5 rfl rfl (i := 0) (by omega) (by omega) ((hq_4531 (by omega))) dL_law_2435 ?_
    refine lv_iload hx hb dL_law_2436 (lv_at hl 0 rfl) ?_
    refine lv_toi (y := ((q_target (dC C) (sx9 xs (i9 + 1)))).2) ((hq_4538 (by rw [hqs]; omega)).trans (by rw [hqs])) ?_
    refine lv_i2l (v := (((q_target (dC C) (sx9 xs (i9 + 1)))).2).toInt64) hx hb dL_law_2438 rfl ?_
    refine W.lcmp hx hb dL_law_2439 ?_
    refine lv_ton (n := 0) (lcmp0 _) ?_
    refine n_if_eq (tgt := 2445) hx hb (by omega) dL_law_2440 (by decide) (fun c_4545 => ?_) (fun c_4545 => absurd c_4545 (by omega))
    refine lv_goto (tgt := 2788) hx hb dL_law_2445 (by decide) ?_
    have hpm_4546 : (([(oD, .inl (G.2 6, 1, .inr (.inr (.inr (.inl og))))), (o, .inl (G.2 5, 1, .inr (.inl of2_4529)))] ++ (W2_4530 ++ (W2_4537 ++ []))) : va_W).Perm (([(o, .inl (G.2 5, 1, .inr (.inl of2_4529))), (oD, .inl (G.2 6, 1, .inr (.inr (.inr (.inl og)))))] ++ (W2_4530 ++ (W2_4537 ++ []))) ++ []) := segs_perm [[(oD, .inl (G.2 6, 1, .inr (.inr (.inr (.inl og)))))], [(o, .inl (G.2 5, 1, .inr (.inl of2_4529)))], W2_4530, W2_4537] [1, 0, 2, 3] [] rfl
    have hP : va_P G.1 CL ([(o, .inl (G.2 5, 1, .inr (.inl of2_4529))), (oD, .inl (G.2 6, 1, .inr (.inr (.inr (.inl og)))))] ++ (W2_4530 ++ (W2_4537 ++ []))) H := P_left (P_perm hpm_4546 hP)
    have hD : va_D A ([(o, .inl (G.2 5, 1, .inr (.inl of2_4529))), (oD, .inl (G.2 6, 1, .inr (.inr (.inr (.inl og)))))] ++ (W2_4530 ++ (W2_4537 ++ []))) := D_left (D_perm hpm_4546 hD)
    have hl := lv_sub hl [2, 3, 4, 5, 6, 7] (l' := [(0, .ref b), (1, .ref d), (2, .ref m0), (3, .ref o), (4, .ref oD), (5, .int (nI i9))]) rfl
    exact W.widen (show cl + 2 ≤ cl + 20000 from by omega) (show sl + 8 ≤ sl + 45000 from by omega) (kk ls H locs C M (((q_target (dC M) (sx9 xs (i9 + 1)))).1) W2_4530 W2_4537 of2_4529 og hP hD hS hl hq_4533 hq_4539 hLw.up)

set_option maxHeartbeats 4000000 in
theorem lawK_41 {p : Program} {l : Launch} {e : Env} {s : State} {m : MethodId} {below : List Frame} {meth : Method} {c : Code} {G : Gt} {A : Nat → Prop} {b L : Nat} {xs : Nat → Int32} {Q : State → Prop} {d m0 o oD i9 N cl sl : Nat} (hfl : l.stackTraces = false) (F : LwF G A p s m c b L xs) (hi9 : i9 + 4 ≤ L) (hN24 : N ≤ 24) (hcl : cl + 20000 ≤ 1200144) (hsl : sl + 45000 ≤ 5495674) (kk : ∀ (ls : Array Slot) (H : Heap) (locs : List Loc) (C M : DS) (th : Nat) (WD WM : va_W) (of : Nat → Int64) (og : Nat → UInt64), va_P G.1 CL ([(o, .inl (G.2 5, 1, .inr (.inl of))), (oD, .inl (G.2 6, 1, .inr (.inr (.inr (.inl og)))))] ++ (WD ++ (WM ++ []))) H → va_D A ([(o, .inl (G.2 5, 1, .inr (.inl of))), (oD, .inl (G.2 6, 1, .inr (.inr (.inr (.inl og)))))] ++ (WD ++ (WM ++ []))) → va_S A s.heap H locs → lv_has ls 10 [(0, .ref b), (1, .ref d), (2, .ref m0), (3, .ref o), (4, .ref oD), (5, .int (nI i9))] → DyW G d C WD → MdW G m0 M th WM → LawI C M (N + 1) → W p l e room_1 s m #[Value.ref b] below meth c H locs (cl + 20000) (sl + 45000) Q (F0 m 2788 ls [])) {ls : Array Slot} {H : Heap} {locs : List Loc} {C M : DS} {th : Nat} {WD WM : va_W} {of : Nat → Int64} {og : Nat → UInt64} (hP : va_P G.1 CL ([(o, .inl (G.2 5, 1, .inr (.inl of))), (oD, .inl (G.2 6, 1, .inr (.inr (.inr (.inl og)))))] ++ (WD ++ (WM ++ []))) H) (hD : va_D A ([(o, .inl (G.2 5, 1, .inr (.inl of))), (oD, .inl (G.2 6, 1, .inr (.inr (.inr (.inl og)))))] ++ (WD ++ (WM ++ [])))) (hS : va_S A s.heap H locs) (hl : lv_has ls 10 [(0, .ref b), (1, .ref d), (2, .ref m0), (3, .ref o), (4, .ref oD), (5, .int (nI i9))]) (hDy : DyW G d C WD) (hMd : MdW G m0 M th WM) (hLw : LawI C M N) : W p l e room_1 s m #[Value.ref b] below meth c H locs cl sl Q (F0 m 2448 ls []) := by
  obtain ⟨cf, hKB, hE, hA, hX9, hbl, hbA, hNc, hL96⟩ := F
  have hx := cf.1
  have hb := cf.2.1
  have hml := cf.2.2.1
  have hown : s.vm.findClass RX0 = some m.cls := cf.2.2.2.1
  have hts := cf.2.2.2.2
  have hK := hKB.1
  have hIc := hDy.inv.1
  have hIm : Inv (dC M) := Inv_sim hLw.1 hIc
  have hRk : RkOk (dC M) := RkOk_sim hLw.1 (RkOk_srt hDy.inv.2.2)
  have hl := hl
  refine lv_aload_n hx hb dL_law_2448 rfl (lv_at hl 1 rfl) ?_
  refine lv_aload_n hx hb dL_law_2449 rfl (lv_at hl 3 rfl) ?_
  have hpm_4547 : (([(o, .inl (G.2 5, 1, .inr (.inl of))), (oD, .inl (G.2 6, 1, .inr (.inr (.inr (.inl og)))))] ++ (WD ++ (WM ++ []))) : va_W).Perm (([(o, .inl (G.2 5, 1, .inr (.inl of)))] ++ (WD ++ [])) ++ ([(oD, .inl (G.2 6, 1, .inr (.inr (.inr (.inl og)))))] ++ (WM ++ []))) := segs_perm [[(o, .inl (G.2 5, 1, .inr (.inl of)))], [(oD, .inl (G.2 6, 1, .inr (.inr (.inr (.inl og)))))], WD, WM] [0, 2] [1, 3] rfl
  have hF := hF_ofP (wc := ([(o, .inl (G.2 5, 1, .inr (.inl of)))] ++ (WD ++ []))) hD hS hA hpm_4547
  refine go_ctP hS hP hD hpm_4547 hF
      (vx_runSW (As := [.ref d, .ref o]) (rest := []) cf (wX0_dueEntry l G d C WD o of (hDy) hfl H.size) (vx_cwSW 2 hts (lw_SW q1431 q1432 q46 q1433) rfl rfl rfl (by decide +kernel) ⟨Nat.le_of_ble_eq_true rfl, Nat.le_of_ble_eq_true rfl⟩) (preS_ofW hNc hKB hE hS hF (P_left (P_perm hpm_4547 hP)) ((D_left (D_perm hpm_4547 hD)).weaken (fun _ _ _ _ => trivial)) trivial) rfl rfl hl.1 rfl (lv_room (Nat.le_of_ble_eq_true rfl)) dL_law_2450 ⟨show cl + 8300 ≤ 1200144 from by first | decide | omega, show sl + 17000 ≤ 5495674 from by first | decide | omega⟩)
      (fun u_ H locs hq hph (hP : va_P G.1 CL (([(oD, .inl (G.2 6, 1, .inr (.inr (.inr (.inl og)))))] ++ (WM ++ [])) ++ ([(o, .inl (G.2 5, 1, .inr (.inl u_.1)))] ++ (u_.2 ++ []))) H) (hD : va_D A (([(oD, .inl (G.2 6, 1, .inr (.inr (.inr (.inl og)))))] ++ (WM ++ [])) ++ ([(o, .inl (G.2 5, 1, .inr (.inl u_.1)))] ++ (u_.2 ++ [])))) hS hfz hfk => ?_)
  obtain ⟨of2_4548, W2_4549⟩ := u_
  obtain ⟨hq_4550, hq_4551, hq_4552⟩ : ((q_due (dC C)).1 = 0 → of2_4548 0 = ((q_due (dC C)).2).toInt64) ∧ (q_due (dC C)).1 < 10 ∧ DyW G d C W2_4549 := hq
  have hpm_4553 : (([(oD, .inl (G.2 6, 1, .inr (.inr (.inr (.inl og)))))] ++ (WM ++ [])) ++ ([(o, .inl (G.2 5, 1, .inr (.inl of2_4548)))] ++ (W2_4549 ++ [])) : va_W).Perm ([(oD, .inl (G.2 6, 1, .inr (.inr (.inr (.inl og))))), (o, .inl (G.2 5, 1, .inr (.inl of2_4548)))] ++ (WM ++ (W2_4549 ++ []))) := segs_perm2 [[(oD, .inl (G.2 6, 1, .inr (.inr (.inr (.inl og)))))], WM] [[(o, .inl (G.2 5, 1, .inr (.inl of2_4548)))], W2_4549] [0, 2, 1, 3] rfl
  have hP : va_P G.1 CL ([(oD, .inl (G.2 6, 1, .inr (.inr (.inr (.inl og))))), (o, .inl (G.2 5, 1, .inr (.inl of2_4548)))] ++ (WM ++ (W2_4549 ++ []))) H := P_perm hpm_4553 hP
  have hD : va_D A ([(oD, .inl (G.2 6, 1, .inr (.inr (.inr (.inl og))))), (o, .inl (G.2 5, 1, .inr (.inl of2_4548)))] ++ (WM ++ (W2_4549 ++ []))) := D_perm hpm_4553 hD
  refine W.eq (g2 := F0 m 2453 ls [.int (nI ((q_due (dC C)).1))]) rfl ?_
  have hqs : (q_due (dC M)) = (q_due (dC C)) := q_due_sim hLw.1.symm hIm 
  refine lv_istore (lv' := [(6, .int (nI ((q_due (dC C)).1))), (0, .ref b), (1, .ref d), (2, .ref m0), (3, .ref o), (4, .ref oD), (5, .int (nI i9))]) hx hb dL_law_2453 hl (by decide) rfl (fun ls hl => ?_)
  refine lv_aload_n hx hb dL_law_2455 rfl (lv_at hl 3 rfl) ?_
  have hpm_4554 : (([(oD, .inl (G.2 6, 1, .inr (.inr (.inr (.inl og))))), (o, .inl (G.2 5, 1, .inr (.inl of2_4548)))] ++ (WM ++ (W2_4549 ++ []))) : va_W).Perm ((WM ++ []) ++ ([(oD, .inl (G.2 6, 1, .inr (.inr (.inr (.inl og))))), (o, .inl (G.2 5, 1, .inr (.inl of2_4548)))] ++ (W2_4549 ++ []))) := segs_perm [[(oD, .inl (G.2 6, 1, .inr (.inr (.inr (.inl og)))))], [(o, .inl (G.2 5, 1, .inr (.inl of2_4548)))], WM, W2_4549] [2] [0, 1, 3] rfl
  have hF := hF_ofP (wc := (WM ++ [])) hD hS hA hpm_4554
  refine go_ctP hS hP hD hpm_4554 hF
      (va_runV (As := []) (rest := []) cf (eX4_dueEntry l G m0 M th WM (hMd) (hIm) H.size) (cwV 0 hts (lw_V q1914 q1915 q1916 q58 q1917) rfl rfl rfl (by decide +kernel) ⟨Nat.le_of_ble_eq_true rfl, Nat.le_of_ble_eq_true rfl⟩) (preV_of hKB hE hS hF (MdW.recv hK hMd (seg_at [[(oD, .inl (G.2 6, 1, .inr (.inr (.inr (.inl og)))))], [(o, .inl (G.2 5, 1, .inr (.inl of2_4548)))], WM, W2_4549] 2 rfl hP)) (P_left (P_perm hpm_4554 hP)) ((D_left (D_perm hpm_4554 hD)).weaken (fun _ _ _ _ => trivial)) trivial) rfl rfl hl.1 rfl (lv_room (Nat.le_of_ble_eq_true rfl)) dL_law_2456 ⟨show cl + 8300 + 0 ≤ 1200144 from by first | decide | omega, show sl + 17000 + 0 ≤ 5495674 from by first | decide | omega⟩)
      (fun u_ H locs hq hph (hP : va_P G.1 CL (([(oD, .inl (G.2 6, 1, .inr (.inr (.inr (.inl og))))), (o, .inl (G.2 5, 1, .inr (.inl of2_4548)))] ++ (W2_4549 ++ [])) ++ (u_.2 ++ [])) H) (hD : va_D A (([(oD, .inl (G.2 6, 1, .inr (.inr (.inr (.inl og))))), (o, .inl (G.2 5, 1, .inr (.inl of2_4548)))] ++ (W2_4549 ++ [])) ++ (u_.2 ++ []))) hS hfz hfk => ?_)
  obtain ⟨rr_4555, W2_4556⟩ := u_
  obtain ⟨hq_4557, hq_4558⟩ : ((q_due (dC M)).1 = 0 → rr_4555 = (q_due (dC M)).2) ∧ MdW G m0 M (q_due (dC M)).1 W2_4556 := hq
  have hpm_4559 : (([(oD, .inl (G.2 6, 1, .inr (.inr (.inr (.inl og))))), (o, .inl (G.2 5, 1, .inr (.inl of2_4548)))] ++ (W2_4549 ++ [])) ++ (W2_4556 ++ []) : va_W).Perm ([(oD, .inl (G.2 6, 1, .inr (.inr (.inr (.inl og))))), (o, .inl (G.2 5, 1, .inr (.inl of2_4548)))] ++ (W2_4549 ++ (W2_4556 ++ []))) := segs_perm2 [[(oD, .inl (G.2 6, 1, .inr (.inr (.inr (.inl og)))))], [(o, .inl (G.2 5, 1, .inr (.inl of2_4548)))], W2_4549] [W2_4556] [0, 1, 2, 3] rfl
  have hP : va_P G.1 CL ([(oD, .inl (G.2 6, 1, .inr (.inr (.inr (.inl og))))), (o, .inl (G.2 5, 1, .inr (.inl of2_4548)))] ++ (W2_4549 ++ (W2_4556 ++ []))) H := P_perm hpm_4559 hP
  have hD : va_D A ([(oD, .inl (G.2 6, 1, .inr (.inr (.inr (.inl og))))), (o, .inl (G.2 5, 1, .inr (.inl of2_4548)))] ++ (W2_4549 ++ (W2_4556 ++ []))) := D_perm hpm_4559 hD
  refine W.eq (g2 := F0 m 2459 ls [.int rr_4555]) rfl ?_
  refine lv_istore (lv' := [(7, .int rr_4555), (6, .int (nI ((q_due (dC C)).1))), (0, .ref b), (1, .ref d), (2, .ref m0), (3, .ref o), (4, .ref oD), (5, .int (nI i9))]) hx hb dL_law_2459 hl (by decide) rfl (fun ls hl => ?_)
  refine lv_aload_n hx hb dL_law_2461 rfl (lv_at hl 4 rfl) ?_
  have hpm_4560 : (([(oD, .inl (G.2 6, 1, .inr (.inr (.inr (.inl og))))), (o, .inl (G.2 5, 1, .inr (.inl of2_4548)))] ++ (W2_4549 ++ (W2_4556 ++ []))) : va_W).Perm ([] ++ ([(oD, .inl (G.2 6, 1, .inr (.inr (.inr (.inl og))))), (o, .inl (G.2 5, 1, .inr (.inl of2_4548)))] ++ (W2_4549 ++ (W2_4556 ++ [])))) := segs_perm [[(oD, .inl (G.2 6, 1, .inr (.inr (.inr (.inl og)))))], [(o, .inl (G.2 5, 1, .inr (.inl of2_4548)))], W2_4549, W2_4556] [] [0, 1, 2, 3] rfl
  have hF := hF_ofP (wc := []) hD hS hA hpm_4560
  refine go_ctP hS hP hD hpm_4560 hF
      (va_runV (As := []) (rest := []) cf (eX4_thrown l G m0 M (((q_due (dC M))).1) W2_4556 (hq_4558) H.size) (cwV 0 hts (lw_V q1639 q1640 q1641 q58 q1642) rfl rfl rfl (by decide +kernel) ⟨Nat.le_of_ble_eq_true rfl, Nat.le_of_ble_eq_true rfl⟩) (preV_of hKB hE hS hF (MdW.recv hK hq_4558 (seg_at [[(oD, .inl (G.2 6, 1, .inr (.inr (.inr (.inl og)))))], [(o, .inl (G.2 5, 1, .inr (.inl of2_4548)))], W2_4549, W2_4556] 3 rfl hP)) (P_left (P_perm hpm_4560 hP)) ((D_left (D_perm hpm_4560 hD)).weaken (fun _ _ _ _ => trivial)) (roW.nil (seg_at [[(oD, .inl (G.2 6, 1, .inr (.inr (.inr (.inl og)))))], [(o, .inl (G.2 5, 1, .inr (.inl of2_4548)))], W2_4549, W2_4556] 3 rfl hP))) rfl rfl hl.1 rfl (lv_room (Nat.le_of_ble_eq_true rfl)) dL_law_2462 ⟨show cl + 8300 + 0 ≤ 1200144 from by first | decide | omega, show sl + 17000 + 0 ≤ 5495674 from by first | decide | omega⟩)
      (fun u_ H locs hq hph (hP : va_P G.1 CL (([(oD, .inl (G.2 6, 1, .inr (.inr (.inr (.inl og))))), (o, .inl (G.2 5, 1, .inr (.inl of2_4548)))] ++ (W2_4549 ++ (W2_4556 ++ []))) ++ []) H) (hD : va_D A (([(oD, .inl (G.2 6, 1, .inr (.inr (.inr (.inl og))))), (o, .inl (G.2 5, 1, .inr (.inl of2_4548)))] ++ (W2_4549 ++ (W2_4556 ++ []))) ++ [])) hS hfz hfk => ?_)
  have hpm_4561 : (([(oD, .inl (G.2 6, 1, .inr (.inr (.inr (.inl og))))), (o, .inl (G.2 5, 1, .inr (.inl of2_4548)))] ++ (W2_4549 ++ (W2_4556 ++ []))) ++ [] : va_W).Perm ([(oD, .inl (G.2 6, 1, .inr (.inr (.inr (.inl og))))), (o, .inl (G.2 5, 1, .inr (.inl of2_4548)))] ++ (W2_4549 ++ (W2_4556 ++ []))) := segs_perm2 [[(oD, .inl (G.2 6, 1, .inr (.inr (.inr (.inl og)))))], [(o, .inl (G.2 5, 1, .inr (.inl of2_4548)))], W2_4549, W2_4556] [] [0, 1, 2, 3] rfl
  have hP : va_P G.1 CL ([(oD, .inl (G.2 6, 1, .inr (.inr (.inr (.inl og))))), (o, .inl (G.2 5, 1, .inr (.inl of2_4548)))] ++ (W2_4549 ++ (W2_4556 ++ []))) H := P_perm hpm_4561 hP
  have hD : va_D A ([(oD, .inl (G.2 6, 1, .inr (.inr (.inr (.inl og))))), (o, .inl (G.2 5, 1, .inr (.inl of2_4548)))] ++ (W2_4549 ++ (W2_4556 ++ []))) := D_perm hpm_4561 hD
  refine W.eq (g2 := F0 m 2465 ls [.int (nI (((q_due (dC M))).1))]) rfl ?_
  refine lv_ton (n := ((q_due (dC C)).1)) (congrArg nI (by rw [hqs])) ?_
  refine lv_iload hx hb dL_law_2465 (lv_at hl 1 rfl) ?_
  refine lv_icmp_eq (tgt := 2472) hx hb dL_law_2467 (by decide) (fun _ => ?_) (fun c9 => absurd rfl c9)
  refine lv_iload hx hb dL_law_2472 (lv_at hl 1 rfl) ?_
  refine n_if_ne (tgt := 2489) hx hb (by omega) dL_law_2474 (by decide) (fun c_4562 => ?_) (fun c_4562 => ?_)
  · refine lv_goto (tgt := 2788) hx hb dL_law_2489 (by decide) ?_
    have hpm_4563 : (([(oD, .inl (G.2 6, 1, .inr (.inr (.inr (.inl og))))), (o, .inl (G.2 5, 1, .inr (.inl of2_4548)))] ++ (W2_4549 ++ (W2_4556 ++ []))) : va_W).Perm (([(o, .inl (G.2 5, 1, .inr (.inl of2_4548))), (oD, .inl (G.2 6, 1, .inr (.inr (.inr (.inl og)))))] ++ (W2_4549 ++ (W2_4556 ++ []))) ++ []) := segs_perm [[(oD, .inl (G.2 6, 1, .inr (.inr (.inr (.inl og)))))], [(o, .inl (G.2 5, 1, .inr (.inl of2_4548)))], W2_4549, W2_4556] [1, 0, 2, 3] [] rfl
    have hP : va_P G.1 CL ([(o, .inl (G.2 5, 1, .inr (.inl of2_4548))), (oD, .inl (G.2 6, 1, .inr (.inr (.inr (.inl og)))))] ++ (W2_4549 ++ (W2_4556 ++ []))) H := P_left (P_perm hpm_4563 hP)
    have hD : va_D A ([(o, .inl (G.2 5, 1, .inr (.inl of2_4548))), (oD, .inl (G.2 6, 1, .inr (.inr (.inr (.inl og)))))] ++ (W2_4549 ++ (W2_4556 ++ []))) := D_left (D_perm hpm_4563 hD)
    have hl := lv_sub hl [2, 3, 4, 5, 6, 7] (l' := [(0, .ref b), (1, .ref d), (2, .ref m0), (3, .ref o), (4, .ref oD), (5, .int (nI i9))]) rfl
    exact W.widen (show cl + 8300 ≤ cl + 20000 from by omega) (show sl + 17000 ≤ sl + 45000 from by omega) (kk ls H locs C M (((q_due (dC M))).1) W2_4549 W2_4556 of2_4548 og hP hD hS hl hq_4552 hq_4558 hLw.up)
  · refine lv_aload_n hx hb dL_law_2477 rfl (lv_at hl 5 rfl) ?_
    refine lv_iconst (v := nI 0) hx hb dL_law_2478 (by decide) ?_
    refine r_lald (v := (((q_due (dC C))).2).toInt64) hx hb hK hP 1 5 rfl rfl (i := 0) (by omega) (by omega) ((hq_4550 (by omega))) dL_law_2479 ?_
    refine lv_iload hx hb dL_law_2480 (lv_at hl 0 rfl) ?_
    refine lv_toi (y := ((q_due (dC C))).2) ((hq_4557 (by rw [hqs]; omega)).trans (by rw [hqs])) ?_
    refine lv_i2l (v := (((q_due (dC C))).2).toInt64) hx hb dL_law_2482 rfl ?_
    refine W.lcmp hx hb dL_law_2483 ?_
    refine lv_ton (n := 0) (lcmp0 _) ?_
    refine n_if_eq (tgt := 2489) hx hb (by omega) dL_law_2484 (by decide) (fun c_4564 => ?_) (fun c_4564 => absurd c_4564 (by omega))
    refine lv_goto (tgt := 2788) hx hb dL_law_2489 (by decide) ?_
    have hpm_4565 : (([(oD, .inl (G.2 6, 1, .inr (.inr (.inr (.inl og))))), (o, .inl (G.2 5, 1, .inr (.inl of2_4548)))] ++ (W2_4549 ++ (W2_4556 ++ []))) : va_W).Perm (([(o, .inl (G.2 5, 1, .inr (.inl of2_4548))), (oD, .inl (G.2 6, 1, .inr (.inr (.inr (.inl og)))))] ++ (W2_4549 ++ (W2_4556 ++ []))) ++ []) := segs_perm [[(oD, .inl (G.2 6, 1, .inr (.inr (.inr (.inl og)))))], [(o, .inl (G.2 5, 1, .inr (.inl of2_4548)))], W2_4549, W2_4556] [1, 0, 2, 3] [] rfl
    have hP : va_P G.1 CL ([(o, .inl (G.2 5, 1, .inr (.inl of2_4548))), (oD, .inl (G.2 6, 1, .inr (.inr (.inr (.inl og)))))] ++ (W2_4549 ++ (W2_4556 ++ []))) H := P_left (P_perm hpm_4565 hP)
    have hD : va_D A ([(o, .inl (G.2 5, 1, .inr (.inl of2_4548))), (oD, .inl (G.2 6, 1, .inr (.inr (.inr (.inl og)))))] ++ (W2_4549 ++ (W2_4556 ++ []))) := D_left (D_perm hpm_4565 hD)
    have hl := lv_sub hl [2, 3, 4, 5, 6, 7] (l' := [(0, .ref b), (1, .ref d), (2, .ref m0), (3, .ref o), (4, .ref oD), (5, .int (nI i9))]) rfl
    exact W.widen (show cl + 8300 ≤ cl + 20000 from by omega) (show sl + 17000 ≤ sl + 45000 from by omega) (kk ls H locs C M (((q_due (dC M))).1) W2_4549 W2_4556 of2_4548 og hP hD hS hl hq_4552 hq_4558 hLw.up)

set_option maxHeartbeats 4000000 in
theorem lawK_42 {p : Program} {l : Launch} {e : Env} {s : State} {m : MethodId} {below : List Frame} {meth : Method} {c : Code} {G : Gt} {A : Nat → Prop} {b L : Nat} {xs : Nat → Int32} {Q : State → Prop} {d m0 o oD i9 N cl sl : Nat} (hfl : l.stackTraces = false) (F : LwF G A p s m c b L xs) (hi9 : i9 + 4 ≤ L) (hN24 : N ≤ 24) (hcl : cl + 20000 ≤ 1200144) (hsl : sl + 45000 ≤ 5495674) (kk : ∀ (ls : Array Slot) (H : Heap) (locs : List Loc) (C M : DS) (th : Nat) (WD WM : va_W) (of : Nat → Int64) (og : Nat → UInt64), va_P G.1 CL ([(o, .inl (G.2 5, 1, .inr (.inl of))), (oD, .inl (G.2 6, 1, .inr (.inr (.inr (.inl og)))))] ++ (WD ++ (WM ++ []))) H → va_D A ([(o, .inl (G.2 5, 1, .inr (.inl of))), (oD, .inl (G.2 6, 1, .inr (.inr (.inr (.inl og)))))] ++ (WD ++ (WM ++ []))) → va_S A s.heap H locs → lv_has ls 10 [(0, .ref b), (1, .ref d), (2, .ref m0), (3, .ref o), (4, .ref oD), (5, .int (nI i9))] → DyW G d C WD → MdW G m0 M th WM → LawI C M (N + 1) → W p l e room_1 s m #[Value.ref b] below meth c H locs (cl + 20000) (sl + 45000) Q (F0 m 2788 ls [])) {ls : Array Slot} {H : Heap} {locs : List Loc} {C M : DS} {th : Nat} {WD WM : va_W} {of : Nat → Int64} {og : Nat → UInt64} (hP : va_P G.1 CL ([(o, .inl (G.2 5, 1, .inr (.inl of))), (oD, .inl (G.2 6, 1, .inr (.inr (.inr (.inl og)))))] ++ (WD ++ (WM ++ []))) H) (hD : va_D A ([(o, .inl (G.2 5, 1, .inr (.inl of))), (oD, .inl (G.2 6, 1, .inr (.inr (.inr (.inl og)))))] ++ (WD ++ (WM ++ [])))) (hS : va_S A s.heap H locs) (hl : lv_has ls 10 [(0, .ref b), (1, .ref d), (2, .ref m0), (3, .ref o), (4, .ref oD), (5, .int (nI i9))]) (hDy : DyW G d C WD) (hMd : MdW G m0 M th WM) (hLw : LawI C M N) : W p l e room_1 s m #[Value.ref b] below meth c H locs cl sl Q (F0 m 2492 ls []) := by
  obtain ⟨cf, hKB, hE, hA, hX9, hbl, hbA, hNc, hL96⟩ := F
  have hx := cf.1
  have hb := cf.2.1
  have hml := cf.2.2.1
  have hown : s.vm.findClass RX0 = some m.cls := cf.2.2.2.1
  have hts := cf.2.2.2.2
  have hK := hKB.1
  have hIc := hDy.inv.1
  have hIm : Inv (dC M) := Inv_sim hLw.1 hIc
  have hRk : RkOk (dC M) := RkOk_sim hLw.1 (RkOk_srt hDy.inv.2.2)
  have hl := hl
  refine lv_aload_n hx hb dL_law_2492 rfl (lv_at hl 1 rfl) ?_
  have hpm_4566 : (([(o, .inl (G.2 5, 1, .inr (.inl of))), (oD, .inl (G.2 6, 1, .inr (.inr (.inr (.inl og)))))] ++ (WD ++ (WM ++ []))) : va_W).Perm ((WD ++ []) ++ ([(o, .inl (G.2 5, 1, .inr (.inl of))), (oD, .inl (G.2 6, 1, .inr (.inr (.inr (.inl og)))))] ++ (WM ++ []))) := segs_perm [[(o, .inl (G.2 5, 1, .inr (.inl of)))], [(oD, .inl (G.2 6, 1, .inr (.inr (.inr (.inl og)))))], WD, WM] [2] [0, 1, 3] rfl
  have hF := hF_ofP (wc := (WD ++ [])) hD hS hA hpm_4566
  refine go_ctP hS hP hD hpm_4566 hF
      (va_runV (As := []) (rest := []) cf (dX1_missedDays l G d C WD (hDy) H.size) (cwV 0 hts (lw_V q623 q624 q625 q47 q626) rfl rfl rfl (by decide +kernel) ⟨Nat.le_of_ble_eq_true rfl, Nat.le_of_ble_eq_true rfl⟩) (preV_of hKB hE hS hF (DyW.recv hK hDy (seg_at [[(o, .inl (G.2 5, 1, .inr (.inl of)))], [(oD, .inl (G.2 6, 1, .inr (.inr (.inr (.inl og)))))], WD, WM] 2 rfl hP)) (P_left (P_perm hpm_4566 hP)) ((D_left (D_perm hpm_4566 hD)).weaken (fun _ _ _ _ => trivial)) trivial) rfl rfl hl.1 rfl (lv_room (Nat.le_of_ble_eq_true rfl)) dL_law_2493 ⟨show cl + 8300 ≤ 1200144 from by first | decide | omega, show sl + 17000 ≤ 5495674 from by first | decide | omega⟩)
      (fun u_ H locs hq hph (hP : va_P G.1 CL (([(o, .inl (G.2 5, 1, .inr (.inl of))), (oD, .inl (G.2 6, 1, .inr (.inr (.inr (.inl og)))))] ++ (WM ++ [])) ++ (u_.2 ++ [])) H) (hD : va_D A (([(o, .inl (G.2 5, 1, .inr (.inl of))), (oD, .inl (G.2 6, 1, .inr (.inr (.inr (.inl og)))))] ++ (WM ++ [])) ++ (u_.2 ++ []))) hS hfz hfk => ?_)
  obtain ⟨rr_4567, W2_4568⟩ := u_
  obtain ⟨hq_4569, hq_4570⟩ : q_missed (dC C) = (0, rr_4567) ∧ DyW G d C W2_4568 := hq
  have hpm_4571 : (([(o, .inl (G.2 5, 1, .inr (.inl of))), (oD, .inl (G.2 6, 1, .inr (.inr (.inr (.inl og)))))] ++ (WM ++ [])) ++ (W2_4568 ++ []) : va_W).Perm ([(o, .inl (G.2 5, 1, .inr (.inl of))), (oD, .inl (G.2 6, 1, .inr (.inr (.inr (.inl og)))))] ++ (WM ++ (W2_4568 ++ []))) := segs_perm2 [[(o, .inl (G.2 5, 1, .inr (.inl of)))], [(oD, .inl (G.2 6, 1, .inr (.inr (.inr (.inl og)))))], WM] [W2_4568] [0, 1, 2, 3] rfl
  have hP : va_P G.1 CL ([(o, .inl (G.2 5, 1, .inr (.inl of))), (oD, .inl (G.2 6, 1, .inr (.inr (.inr (.inl og)))))] ++ (WM ++ (W2_4568 ++ []))) H := P_perm hpm_4571 hP
  have hD : va_D A ([(o, .inl (G.2 5, 1, .inr (.inl of))), (oD, .inl (G.2 6, 1, .inr (.inr (.inr (.inl og)))))] ++ (WM ++ (W2_4568 ++ []))) := D_perm hpm_4571 hD
  refine W.eq (g2 := F0 m 2496 ls [.int rr_4567]) rfl ?_
  have hqs : (q_missed (dC M)) = (q_missed (dC C)) := q_missed_sim hLw.1.symm hIm 
  refine lv_toi (y := ((q_missed (dC C))).2) ((congrArg Prod.snd hq_4569).symm) ?_
  refine lv_aload_n hx hb dL_law_2496 rfl (lv_at hl 2 rfl) ?_
  have hpm_4572 : (([(o, .inl (G.2 5, 1, .inr (.inl of))), (oD, .inl (G.2 6, 1, .inr (.inr (.inr (.inl og)))))] ++ (WM ++ (W2_4568 ++ []))) : va_W).Perm ((WM ++ []) ++ ([(o, .inl (G.2 5, 1, .inr (.inl of))), (oD, .inl (G.2 6, 1, .inr (.inr (.inr (.inl og)))))] ++ (W2_4568 ++ []))) := segs_perm [[(o, .inl (G.2 5, 1, .inr (.inl of)))], [(oD, .inl (G.2 6, 1, .inr (.inr (.inr (.inl og)))))], WM, W2_4568] [2] [0, 1, 3] rfl
  have hF := hF_ofP (wc := (WM ++ [])) hD hS hA hpm_4572
  refine go_ctP hS hP hD hpm_4572 hF
      (va_runV (As := []) (rest := [.int (((q_missed (dC C))).2)]) cf (eX4_missedDays l G m0 M th WM (hMd) (hIm) H.size) (cwV 0 hts (lw_V q1922 q1923 q1924 q58 q1925) rfl rfl rfl (by decide +kernel) ⟨Nat.le_of_ble_eq_true rfl, Nat.le_of_ble_eq_true rfl⟩) (preV_of hKB hE hS hF (MdW.recv hK hMd (seg_at [[(o, .inl (G.2 5, 1, .inr (.inl of)))], [(oD, .inl (G.2 6, 1, .inr (.inr (.inr (.inl og)))))], WM, W2_4568] 2 rfl hP)) (P_left (P_perm hpm_4572 hP)) ((D_left (D_perm hpm_4572 hD)).weaken (fun _ _ _ _ => trivial)) trivial) rfl rfl hl.1 rfl (lv_room (Nat.le_of_ble_eq_true rfl)) dL_law_2497 ⟨show cl + 8300 + 0 ≤ 1200144 from by first | decide | omega, show sl + 17000 + 0 ≤ 5495674 from by first | decide | omega⟩)
      (fun u_ H locs hq hph (hP : va_P G.1 CL (([(o, .inl (G.2 5, 1, .inr (.inl of))), (oD, .inl (G.2 6, 1, .inr (.inr (.inr (.inl og)))))] ++ (W2_4568 ++ [])) ++ (u_.2 ++ [])) H) (hD : va_D A (([(o, .inl (G.2 5, 1, .inr (.inl of))), (oD, .inl (G.2 6, 1, .inr (.inr (.inr (.inl og)))))] ++ (W2_4568 ++ [])) ++ (u_.2 ++ []))) hS hfz hfk => ?_)
  obtain ⟨rr_4573, W2_4574⟩ := u_
  obtain ⟨hq_4575, hq_4576⟩ : ((q_missed (dC M)).1 = 0 → rr_4573 = (q_missed (dC M)).2) ∧ MdW G m0 M (q_missed (dC M)).1 W2_4574 := hq
  have hpm_4577 : (([(o, .inl (G.2 5, 1, .inr (.inl of))), (oD, .inl (G.2 6, 1, .inr (.inr (.inr (.inl og)))))] ++ (W2_4568 ++ [])) ++ (W2_4574 ++ []) : va_W).Perm ([(o, .inl (G.2 5, 1, .inr (.inl of))), (oD, .inl (G.2 6, 1, .inr (.inr (.inr (.inl og)))))] ++ (W2_4568 ++ (W2_4574 ++ []))) := segs_perm2 [[(o, .inl (G.2 5, 1, .inr (.inl of)))], [(oD, .inl (G.2 6, 1, .inr (.inr (.inr (.inl og)))))], W2_4568] [W2_4574] [0, 1, 2, 3] rfl
  have hP : va_P G.1 CL ([(o, .inl (G.2 5, 1, .inr (.inl of))), (oD, .inl (G.2 6, 1, .inr (.inr (.inr (.inl og)))))] ++ (W2_4568 ++ (W2_4574 ++ []))) H := P_perm hpm_4577 hP
  have hD : va_D A ([(o, .inl (G.2 5, 1, .inr (.inl of))), (oD, .inl (G.2 6, 1, .inr (.inr (.inr (.inl og)))))] ++ (W2_4568 ++ (W2_4574 ++ []))) := D_perm hpm_4577 hD
  refine W.eq (g2 := F0 m 2500 ls [.int rr_4573, .int (((q_missed (dC C))).2)]) rfl ?_
  refine lv_toi (y := ((q_missed (dC C))).2) ((hq_4575 (by rw [hqs, hq_4569])).trans (by rw [hqs])) ?_
  refine lv_icmp_eq (tgt := 2788) hx hb dL_law_2500 (by decide) (fun _ => ?_) (fun c9 => absurd rfl c9)
  have hpm_4578 : (([(o, .inl (G.2 5, 1, .inr (.inl of))), (oD, .inl (G.2 6, 1, .inr (.inr (.inr (.inl og)))))] ++ (W2_4568 ++ (W2_4574 ++ []))) : va_W).Perm (([(o, .inl (G.2 5, 1, .inr (.inl of))), (oD, .inl (G.2 6, 1, .inr (.inr (.inr (.inl og)))))] ++ (W2_4568 ++ (W2_4574 ++ []))) ++ []) := segs_perm [[(o, .inl (G.2 5, 1, .inr (.inl of)))], [(oD, .inl (G.2 6, 1, .inr (.inr (.inr (.inl og)))))], W2_4568, W2_4574] [0, 1, 2, 3] [] rfl
  have hP : va_P G.1 CL ([(o, .inl (G.2 5, 1, .inr (.inl of))), (oD, .inl (G.2 6, 1, .inr (.inr (.inr (.inl og)))))] ++ (W2_4568 ++ (W2_4574 ++ []))) H := P_left (P_perm hpm_4578 hP)
  have hD : va_D A ([(o, .inl (G.2 5, 1, .inr (.inl of))), (oD, .inl (G.2 6, 1, .inr (.inr (.inr (.inl og)))))] ++ (W2_4568 ++ (W2_4574 ++ []))) := D_left (D_perm hpm_4578 hD)
  have hl := lv_sub hl [0, 1, 2, 3, 4, 5] (l' := [(0, .ref b), (1, .ref d), (2, .ref m0), (3, .ref o), (4, .ref oD), (5, .int (nI i9))]) rfl
  exact W.widen (show cl + 8300 ≤ cl + 20000 from by omega) (show sl + 17000 ≤ sl + 45000 from by omega) (kk ls H locs C M (((q_missed (dC M))).1) W2_4568 W2_4574 of og hP hD hS hl hq_4570 hq_4576 hLw.up)

set_option maxHeartbeats 4000000 in
theorem lawK_43 {p : Program} {l : Launch} {e : Env} {s : State} {m : MethodId} {below : List Frame} {meth : Method} {c : Code} {G : Gt} {A : Nat → Prop} {b L : Nat} {xs : Nat → Int32} {Q : State → Prop} {d m0 o oD i9 N cl sl : Nat} (hfl : l.stackTraces = false) (F : LwF G A p s m c b L xs) (hi9 : i9 + 4 ≤ L) (hN24 : N ≤ 24) (hcl : cl + 20000 ≤ 1200144) (hsl : sl + 45000 ≤ 5495674) (kk : ∀ (ls : Array Slot) (H : Heap) (locs : List Loc) (C M : DS) (th : Nat) (WD WM : va_W) (of : Nat → Int64) (og : Nat → UInt64), va_P G.1 CL ([(o, .inl (G.2 5, 1, .inr (.inl of))), (oD, .inl (G.2 6, 1, .inr (.inr (.inr (.inl og)))))] ++ (WD ++ (WM ++ []))) H → va_D A ([(o, .inl (G.2 5, 1, .inr (.inl of))), (oD, .inl (G.2 6, 1, .inr (.inr (.inr (.inl og)))))] ++ (WD ++ (WM ++ []))) → va_S A s.heap H locs → lv_has ls 10 [(0, .ref b), (1, .ref d), (2, .ref m0), (3, .ref o), (4, .ref oD), (5, .int (nI i9))] → DyW G d C WD → MdW G m0 M th WM → LawI C M (N + 1) → W p l e room_1 s m #[Value.ref b] below meth c H locs (cl + 20000) (sl + 45000) Q (F0 m 2788 ls [])) {ls : Array Slot} {H : Heap} {locs : List Loc} {C M : DS} {th : Nat} {WD WM : va_W} {of : Nat → Int64} {og : Nat → UInt64} (hP : va_P G.1 CL ([(o, .inl (G.2 5, 1, .inr (.inl of))), (oD, .inl (G.2 6, 1, .inr (.inr (.inr (.inl og)))))] ++ (WD ++ (WM ++ []))) H) (hD : va_D A ([(o, .inl (G.2 5, 1, .inr (.inl of))), (oD, .inl (G.2 6, 1, .inr (.inr (.inr (.inl og)))))] ++ (WD ++ (WM ++ [])))) (hS : va_S A s.heap H locs) (hl : lv_has ls 10 [(0, .ref b), (1, .ref d), (2, .ref m0), (3, .ref o), (4, .ref oD), (5, .int (nI i9))]) (hDy : DyW G d C WD) (hMd : MdW G m0 M th WM) (hLw : LawI C M N) : W p l e room_1 s m #[Value.ref b] below meth c H locs cl sl Q (F0 m 2505 ls []) := by
  obtain ⟨cf, hKB, hE, hA, hX9, hbl, hbA, hNc, hL96⟩ := F
  have hx := cf.1
  have hb := cf.2.1
  have hml := cf.2.2.1
  have hown : s.vm.findClass RX0 = some m.cls := cf.2.2.2.1
  have hts := cf.2.2.2.2
  have hK := hKB.1
  have hIc := hDy.inv.1
  have hIm : Inv (dC M) := Inv_sim hLw.1 hIc
  have hRk : RkOk (dC M) := RkOk_sim hLw.1 (RkOk_srt hDy.inv.2.2)
  have hl := hl
  refine lv_aload_n hx hb dL_law_2505 rfl (lv_at hl 1 rfl) ?_
  have hpm_4579 : (([(o, .inl (G.2 5, 1, .inr (.inl of))), (oD, .inl (G.2 6, 1, .inr (.inr (.inr (.inl og)))))] ++ (WD ++ (WM ++ []))) : va_W).Perm ((WD ++ []) ++ ([(o, .inl (G.2 5, 1, .inr (.inl of))), (oD, .inl (G.2 6, 1, .inr (.inr (.inr (.inl og)))))] ++ (WM ++ []))) := segs_perm [[(o, .inl (G.2 5, 1, .inr (.inl of)))], [(oD, .inl (G.2 6, 1, .inr (.inr (.inr (.inl og)))))], WD, WM] [2] [0, 1, 3] rfl
  have hF := hF_ofP (wc := (WD ++ [])) hD hS hA hpm_4579
  refine go_ctP hS hP hD hpm_4579 hF
      (va_runV (As := []) (rest := []) cf (dX1_droppedEntries l G d C WD (hDy) H.size) (cwV 0 hts (lw_V q661 q662 q663 q47 q664) rfl rfl rfl (by decide +kernel) ⟨Nat.le_of_ble_eq_true rfl, Nat.le_of_ble_eq_true rfl⟩) (preV_of hKB hE hS hF (DyW.recv hK hDy (seg_at [[(o, .inl (G.2 5, 1, .inr (.inl of)))], [(oD, .inl (G.2 6, 1, .inr (.inr (.inr (.inl og)))))], WD, WM] 2 rfl hP)) (P_left (P_perm hpm_4579 hP)) ((D_left (D_perm hpm_4579 hD)).weaken (fun _ _ _ _ => trivial)) trivial) rfl rfl hl.1 rfl (lv_room (Nat.le_of_ble_eq_true rfl)) dL_law_2506 ⟨show cl + 8300 ≤ 1200144 from by first | decide | omega, show sl + 17000 ≤ 5495674 from by first | decide | omega⟩)
      (fun u_ H locs hq hph (hP : va_P G.1 CL (([(o, .inl (G.2 5, 1, .inr (.inl of))), (oD, .inl (G.2 6, 1, .inr (.inr (.inr (.inl og)))))] ++ (WM ++ [])) ++ (u_.2 ++ [])) H) (hD : va_D A (([(o, .inl (G.2 5, 1, .inr (.inl of))), (oD, .inl (G.2 6, 1, .inr (.inr (.inr (.inl og)))))] ++ (WM ++ [])) ++ (u_.2 ++ []))) hS hfz hfk => ?_)
  obtain ⟨rr_4580, W2_4581⟩ := u_
  obtain ⟨hq_4582, hq_4583⟩ : q_dropped (dC C) = (0, rr_4580) ∧ DyW G d C W2_4581 := hq
  have hpm_4584 : (([(o, .inl (G.2 5, 1, .inr (.inl of))), (oD, .inl (G.2 6, 1, .inr (.inr (.inr (.inl og)))))] ++ (WM ++ [])) ++ (W2_4581 ++ []) : va_W).Perm ([(o, .inl (G.2 5, 1, .inr (.inl of))), (oD, .inl (G.2 6, 1, .inr (.inr (.inr (.inl og)))))] ++ (WM ++ (W2_4581 ++ []))) := segs_perm2 [[(o, .inl (G.2 5, 1, .inr (.inl of)))], [(oD, .inl (G.2 6, 1, .inr (.inr (.inr (.inl og)))))], WM] [W2_4581] [0, 1, 2, 3] rfl
  have hP : va_P G.1 CL ([(o, .inl (G.2 5, 1, .inr (.inl of))), (oD, .inl (G.2 6, 1, .inr (.inr (.inr (.inl og)))))] ++ (WM ++ (W2_4581 ++ []))) H := P_perm hpm_4584 hP
  have hD : va_D A ([(o, .inl (G.2 5, 1, .inr (.inl of))), (oD, .inl (G.2 6, 1, .inr (.inr (.inr (.inl og)))))] ++ (WM ++ (W2_4581 ++ []))) := D_perm hpm_4584 hD
  refine W.eq (g2 := F0 m 2509 ls [.int rr_4580]) rfl ?_
  have hqs : (q_dropped (dC M)) = (q_dropped (dC C)) := q_dropped_sim hLw.1.symm hIm 
  refine lv_toi (y := ((q_dropped (dC C))).2) ((congrArg Prod.snd hq_4582).symm) ?_
  refine lv_aload_n hx hb dL_law_2509 rfl (lv_at hl 2 rfl) ?_
  have hpm_4585 : (([(o, .inl (G.2 5, 1, .inr (.inl of))), (oD, .inl (G.2 6, 1, .inr (.inr (.inr (.inl og)))))] ++ (WM ++ (W2_4581 ++ []))) : va_W).Perm ((WM ++ []) ++ ([(o, .inl (G.2 5, 1, .inr (.inl of))), (oD, .inl (G.2 6, 1, .inr (.inr (.inr (.inl og)))))] ++ (W2_4581 ++ []))) := segs_perm [[(o, .inl (G.2 5, 1, .inr (.inl of)))], [(oD, .inl (G.2 6, 1, .inr (.inr (.inr (.inl og)))))], WM, W2_4581] [2] [0, 1, 3] rfl
  have hF := hF_ofP (wc := (WM ++ [])) hD hS hA hpm_4585
  refine go_ctP hS hP hD hpm_4585 hF
      (va_runV (As := []) (rest := [.int (((q_dropped (dC C))).2)]) cf (eX4_droppedEntries l G m0 M th WM (hMd) (hIm) H.size) (cwV 0 hts (lw_V q1926 q1927 q1928 q58 q1929) rfl rfl rfl (by decide +kernel) ⟨Nat.le_of_ble_eq_true rfl, Nat.le_of_ble_eq_true rfl⟩) (preV_of hKB hE hS hF (MdW.recv hK hMd (seg_at [[(o, .inl (G.2 5, 1, .inr (.inl of)))], [(oD, .inl (G.2 6, 1, .inr (.inr (.inr (.inl og)))))], WM, W2_4581] 2 rfl hP)) (P_left (P_perm hpm_4585 hP)) ((D_left (D_perm hpm_4585 hD)).weaken (fun _ _ _ _ => trivial)) trivial) rfl rfl hl.1 rfl (lv_room (Nat.le_of_ble_eq_true rfl)) dL_law_2510 ⟨show cl + 8300 + 0 ≤ 1200144 from by first | decide | omega, show sl + 17000 + 0 ≤ 5495674 from by first | decide | omega⟩)
      (fun u_ H locs hq hph (hP : va_P G.1 CL (([(o, .inl (G.2 5, 1, .inr (.inl of))), (oD, .inl (G.2 6, 1, .inr (.inr (.inr (.inl og)))))] ++ (W2_4581 ++ [])) ++ (u_.2 ++ [])) H) (hD : va_D A (([(o, .inl (G.2 5, 1, .inr (.inl of))), (oD, .inl (G.2 6, 1, .inr (.inr (.inr (.inl og)))))] ++ (W2_4581 ++ [])) ++ (u_.2 ++ []))) hS hfz hfk => ?_)
  obtain ⟨rr_4586, W2_4587⟩ := u_
  obtain ⟨hq_4588, hq_4589⟩ : ((q_dropped (dC M)).1 = 0 → rr_4586 = (q_dropped (dC M)).2) ∧ MdW G m0 M (q_dropped (dC M)).1 W2_4587 := hq
  have hpm_4590 : (([(o, .inl (G.2 5, 1, .inr (.inl of))), (oD, .inl (G.2 6, 1, .inr (.inr (.inr (.inl og)))))] ++ (W2_4581 ++ [])) ++ (W2_4587 ++ []) : va_W).Perm ([(o, .inl (G.2 5, 1, .inr (.inl of))), (oD, .inl (G.2 6, 1, .inr (.inr (.inr (.inl og)))))] ++ (W2_4581 ++ (W2_4587 ++ []))) := segs_perm2 [[(o, .inl (G.2 5, 1, .inr (.inl of)))], [(oD, .inl (G.2 6, 1, .inr (.inr (.inr (.inl og)))))], W2_4581] [W2_4587] [0, 1, 2, 3] rfl
  have hP : va_P G.1 CL ([(o, .inl (G.2 5, 1, .inr (.inl of))), (oD, .inl (G.2 6, 1, .inr (.inr (.inr (.inl og)))))] ++ (W2_4581 ++ (W2_4587 ++ []))) H := P_perm hpm_4590 hP
  have hD : va_D A ([(o, .inl (G.2 5, 1, .inr (.inl of))), (oD, .inl (G.2 6, 1, .inr (.inr (.inr (.inl og)))))] ++ (W2_4581 ++ (W2_4587 ++ []))) := D_perm hpm_4590 hD
  refine W.eq (g2 := F0 m 2513 ls [.int rr_4586, .int (((q_dropped (dC C))).2)]) rfl ?_
  refine lv_toi (y := ((q_dropped (dC C))).2) ((hq_4588 (by rw [hqs, hq_4582])).trans (by rw [hqs])) ?_
  refine lv_icmp_eq (tgt := 2788) hx hb dL_law_2513 (by decide) (fun _ => ?_) (fun c9 => absurd rfl c9)
  have hpm_4591 : (([(o, .inl (G.2 5, 1, .inr (.inl of))), (oD, .inl (G.2 6, 1, .inr (.inr (.inr (.inl og)))))] ++ (W2_4581 ++ (W2_4587 ++ []))) : va_W).Perm (([(o, .inl (G.2 5, 1, .inr (.inl of))), (oD, .inl (G.2 6, 1, .inr (.inr (.inr (.inl og)))))] ++ (W2_4581 ++ (W2_4587 ++ []))) ++ []) := segs_perm [[(o, .inl (G.2 5, 1, .inr (.inl of)))], [(oD, .inl (G.2 6, 1, .inr (.inr (.inr (.inl og)))))], W2_4581, W2_4587] [0, 1, 2, 3] [] rfl
  have hP : va_P G.1 CL ([(o, .inl (G.2 5, 1, .inr (.inl of))), (oD, .inl (G.2 6, 1, .inr (.inr (.inr (.inl og)))))] ++ (W2_4581 ++ (W2_4587 ++ []))) H := P_left (P_perm hpm_4591 hP)
  have hD : va_D A ([(o, .inl (G.2 5, 1, .inr (.inl of))), (oD, .inl (G.2 6, 1, .inr (.inr (.inr (.inl og)))))] ++ (W2_4581 ++ (W2_4587 ++ []))) := D_left (D_perm hpm_4591 hD)
  have hl := lv_sub hl [0, 1, 2, 3, 4, 5] (l' := [(0, .ref b), (1, .ref d), (2, .ref m0), (3, .ref o), (4, .ref oD), (5, .int (nI i9))]) rfl
  exact W.widen (show cl + 8300 ≤ cl + 20000 from by omega) (show sl + 17000 ≤ sl + 45000 from by omega) (kk ls H locs C M (((q_dropped (dC M))).1) W2_4581 W2_4587 of og hP hD hS hl hq_4583 hq_4589 hLw.up)

set_option maxHeartbeats 4000000 in
theorem lawK_44 {p : Program} {l : Launch} {e : Env} {s : State} {m : MethodId} {below : List Frame} {meth : Method} {c : Code} {G : Gt} {A : Nat → Prop} {b L : Nat} {xs : Nat → Int32} {Q : State → Prop} {d m0 o oD i9 N cl sl : Nat} (hfl : l.stackTraces = false) (F : LwF G A p s m c b L xs) (hi9 : i9 + 4 ≤ L) (hN24 : N ≤ 24) (hcl : cl + 20000 ≤ 1200144) (hsl : sl + 45000 ≤ 5495674) (kk : ∀ (ls : Array Slot) (H : Heap) (locs : List Loc) (C M : DS) (th : Nat) (WD WM : va_W) (of : Nat → Int64) (og : Nat → UInt64), va_P G.1 CL ([(o, .inl (G.2 5, 1, .inr (.inl of))), (oD, .inl (G.2 6, 1, .inr (.inr (.inr (.inl og)))))] ++ (WD ++ (WM ++ []))) H → va_D A ([(o, .inl (G.2 5, 1, .inr (.inl of))), (oD, .inl (G.2 6, 1, .inr (.inr (.inr (.inl og)))))] ++ (WD ++ (WM ++ []))) → va_S A s.heap H locs → lv_has ls 10 [(0, .ref b), (1, .ref d), (2, .ref m0), (3, .ref o), (4, .ref oD), (5, .int (nI i9))] → DyW G d C WD → MdW G m0 M th WM → LawI C M (N + 1) → W p l e room_1 s m #[Value.ref b] below meth c H locs (cl + 20000) (sl + 45000) Q (F0 m 2788 ls [])) {ls : Array Slot} {H : Heap} {locs : List Loc} {C M : DS} {th : Nat} {WD WM : va_W} {of : Nat → Int64} {og : Nat → UInt64} (hP : va_P G.1 CL ([(o, .inl (G.2 5, 1, .inr (.inl of))), (oD, .inl (G.2 6, 1, .inr (.inr (.inr (.inl og)))))] ++ (WD ++ (WM ++ []))) H) (hD : va_D A ([(o, .inl (G.2 5, 1, .inr (.inl of))), (oD, .inl (G.2 6, 1, .inr (.inr (.inr (.inl og)))))] ++ (WD ++ (WM ++ [])))) (hS : va_S A s.heap H locs) (hl : lv_has ls 10 [(0, .ref b), (1, .ref d), (2, .ref m0), (3, .ref o), (4, .ref oD), (5, .int (nI i9))]) (hDy : DyW G d C WD) (hMd : MdW G m0 M th WM) (hLw : LawI C M N) : W p l e room_1 s m #[Value.ref b] below meth c H locs cl sl Q (F0 m 2518 ls []) := by
  obtain ⟨cf, hKB, hE, hA, hX9, hbl, hbA, hNc, hL96⟩ := F
  have hx := cf.1
  have hb := cf.2.1
  have hml := cf.2.2.1
  have hown : s.vm.findClass RX0 = some m.cls := cf.2.2.2.1
  have hts := cf.2.2.2.2
  have hK := hKB.1
  have hIc := hDy.inv.1
  have hIm : Inv (dC M) := Inv_sim hLw.1 hIc
  have hRk : RkOk (dC M) := RkOk_sim hLw.1 (RkOk_srt hDy.inv.2.2)
  have hl := hl
  refine lv_aload_n hx hb dL_law_2518 rfl (lv_at hl 1 rfl) ?_
  refine lv_aload_n hx hb dL_law_2519 rfl (lv_at hl 3 rfl) ?_
  have hpm_4592 : (([(o, .inl (G.2 5, 1, .inr (.inl of))), (oD, .inl (G.2 6, 1, .inr (.inr (.inr (.inl og)))))] ++ (WD ++ (WM ++ []))) : va_W).Perm (([(o, .inl (G.2 5, 1, .inr (.inl of)))] ++ (WD ++ [])) ++ ([(oD, .inl (G.2 6, 1, .inr (.inr (.inr (.inl og)))))] ++ (WM ++ []))) := segs_perm [[(o, .inl (G.2 5, 1, .inr (.inl of)))], [(oD, .inl (G.2 6, 1, .inr (.inr (.inr (.inl og)))))], WD, WM] [0, 2] [1, 3] rfl
  have hF := hF_ofP (wc := ([(o, .inl (G.2 5, 1, .inr (.inl of)))] ++ (WD ++ []))) hD hS hA hpm_4592
  refine go_ctP hS hP hD hpm_4592 hF
      (vx_runSW (As := [.ref d, .ref o]) (rest := []) cf (wX0_planEnd l G d C WD o of (hDy) hfl H.size) (vx_cwSW 2 hts (lw_SW q1438 q1439 q46 q1440) rfl rfl rfl (by decide +kernel) ⟨Nat.le_of_ble_eq_true rfl, Nat.le_of_ble_eq_true rfl⟩) (preS_ofW hNc hKB hE hS hF (P_left (P_perm hpm_4592 hP)) ((D_left (D_perm hpm_4592 hD)).weaken (fun _ _ _ _ => trivial)) trivial) rfl rfl hl.1 rfl (lv_room (Nat.le_of_ble_eq_true rfl)) dL_law_2520 ⟨show cl + 8300 ≤ 1200144 from by first | decide | omega, show sl + 17000 ≤ 5495674 from by first | decide | omega⟩)
      (fun u_ H locs hq hph (hP : va_P G.1 CL (([(oD, .inl (G.2 6, 1, .inr (.inr (.inr (.inl og)))))] ++ (WM ++ [])) ++ ([(o, .inl (G.2 5, 1, .inr (.inl u_.1)))] ++ (u_.2 ++ []))) H) (hD : va_D A (([(oD, .inl (G.2 6, 1, .inr (.inr (.inr (.inl og)))))] ++ (WM ++ [])) ++ ([(o, .inl (G.2 5, 1, .inr (.inl u_.1)))] ++ (u_.2 ++ [])))) hS hfz hfk => ?_)
  obtain ⟨of2_4593, W2_4594⟩ := u_
  obtain ⟨hq_4595, hq_4596, hq_4597⟩ : ((q_end (dC C)).1 = 0 → of2_4593 0 = ((q_end (dC C)).2).toInt64) ∧ (q_end (dC C)).1 < 10 ∧ DyW G d C W2_4594 := hq
  have hpm_4598 : (([(oD, .inl (G.2 6, 1, .inr (.inr (.inr (.inl og)))))] ++ (WM ++ [])) ++ ([(o, .inl (G.2 5, 1, .inr (.inl of2_4593)))] ++ (W2_4594 ++ [])) : va_W).Perm ([(oD, .inl (G.2 6, 1, .inr (.inr (.inr (.inl og))))), (o, .inl (G.2 5, 1, .inr (.inl of2_4593)))] ++ (WM ++ (W2_4594 ++ []))) := segs_perm2 [[(oD, .inl (G.2 6, 1, .inr (.inr (.inr (.inl og)))))], WM] [[(o, .inl (G.2 5, 1, .inr (.inl of2_4593)))], W2_4594] [0, 2, 1, 3] rfl
  have hP : va_P G.1 CL ([(oD, .inl (G.2 6, 1, .inr (.inr (.inr (.inl og))))), (o, .inl (G.2 5, 1, .inr (.inl of2_4593)))] ++ (WM ++ (W2_4594 ++ []))) H := P_perm hpm_4598 hP
  have hD : va_D A ([(oD, .inl (G.2 6, 1, .inr (.inr (.inr (.inl og))))), (o, .inl (G.2 5, 1, .inr (.inl of2_4593)))] ++ (WM ++ (W2_4594 ++ []))) := D_perm hpm_4598 hD
  refine W.eq (g2 := F0 m 2523 ls [.int (nI ((q_end (dC C)).1))]) rfl ?_
  have hqs : (q_end (dC M)) = (q_end (dC C)) := q_end_sim hLw.1.symm hIm 
  refine lv_istore (lv' := [(6, .int (nI ((q_end (dC C)).1))), (0, .ref b), (1, .ref d), (2, .ref m0), (3, .ref o), (4, .ref oD), (5, .int (nI i9))]) hx hb dL_law_2523 hl (by decide) rfl (fun ls hl => ?_)
  refine lv_aload_n hx hb dL_law_2525 rfl (lv_at hl 3 rfl) ?_
  have hpm_4599 : (([(oD, .inl (G.2 6, 1, .inr (.inr (.inr (.inl og))))), (o, .inl (G.2 5, 1, .inr (.inl of2_4593)))] ++ (WM ++ (W2_4594 ++ []))) : va_W).Perm ((WM ++ []) ++ ([(oD, .inl (G.2 6, 1, .inr (.inr (.inr (.inl og))))), (o, .inl (G.2 5, 1, .inr (.inl of2_4593)))] ++ (W2_4594 ++ []))) := segs_perm [[(oD, .inl (G.2 6, 1, .inr (.inr (.inr (.inl og)))))], [(o, .inl (G.2 5, 1, .inr (.inl of2_4593)))], WM, W2_4594] [2] [0, 1, 3] rfl
  have hF := hF_ofP (wc := (WM ++ [])) hD hS hA hpm_4599
  refine go_ctP hS hP hD hpm_4599 hF
      (va_runV (As := []) (rest := []) cf (eX4_planEnd l G m0 M th WM (hMd) (hIm) H.size) (cwV 0 hts (lw_V q1930 q1931 q1932 q58 q1933) rfl rfl rfl (by decide +kernel) ⟨Nat.le_of_ble_eq_true rfl, Nat.le_of_ble_eq_true rfl⟩) (preV_of hKB hE hS hF (MdW.recv hK hMd (seg_at [[(oD, .inl (G.2 6, 1, .inr (.inr (.inr (.inl og)))))], [(o, .inl (G.2 5, 1, .inr (.inl of2_4593)))], WM, W2_4594] 2 rfl hP)) (P_left (P_perm hpm_4599 hP)) ((D_left (D_perm hpm_4599 hD)).weaken (fun _ _ _ _ => trivial)) trivial) rfl rfl hl.1 rfl (lv_room (Nat.le_of_ble_eq_true rfl)) dL_law_2526 ⟨show cl + 8300 + 0 ≤ 1200144 from by first | decide | omega, show sl + 17000 + 0 ≤ 5495674 from by first | decide | omega⟩)
      (fun u_ H locs hq hph (hP : va_P G.1 CL (([(oD, .inl (G.2 6, 1, .inr (.inr (.inr (.inl og))))), (o, .inl (G.2 5, 1, .inr (.inl of2_4593)))] ++ (W2_4594 ++ [])) ++ (u_.2 ++ [])) H) (hD : va_D A (([(oD, .inl (G.2 6, 1, .inr (.inr (.inr (.inl og))))), (o, .inl (G.2 5, 1, .inr (.inl of2_4593)))] ++ (W2_4594 ++ [])) ++ (u_.2 ++ []))) hS hfz hfk => ?_)
  obtain ⟨rr_4600, W2_4601⟩ := u_
  obtain ⟨hq_4602, hq_4603⟩ : ((q_end (dC M)).1 = 0 → rr_4600 = (q_end (dC M)).2) ∧ MdW G m0 M (q_end (dC M)).1 W2_4601 := hq
  have hpm_4604 : (([(oD, .inl (G.2 6, 1, .inr (.inr (.inr (.inl og))))), (o, .inl (G.2 5, 1, .inr (.inl of2_4593)))] ++ (W2_4594 ++ [])) ++ (W2_4601 ++ []) : va_W).Perm ([(oD, .inl (G.2 6, 1, .inr (.inr (.inr (.inl og))))), (o, .inl (G.2 5, 1, .inr (.inl of2_4593)))] ++ (W2_4594 ++ (W2_4601 ++ []))) := segs_perm2 [[(oD, .inl (G.2 6, 1, .inr (.inr (.inr (.inl og)))))], [(o, .inl (G.2 5, 1, .inr (.inl of2_4593)))], W2_4594] [W2_4601] [0, 1, 2, 3] rfl
  have hP : va_P G.1 CL ([(oD, .inl (G.2 6, 1, .inr (.inr (.inr (.inl og))))), (o, .inl (G.2 5, 1, .inr (.inl of2_4593)))] ++ (W2_4594 ++ (W2_4601 ++ []))) H := P_perm hpm_4604 hP
  have hD : va_D A ([(oD, .inl (G.2 6, 1, .inr (.inr (.inr (.inl og))))), (o, .inl (G.2 5, 1, .inr (.inl of2_4593)))] ++ (W2_4594 ++ (W2_4601 ++ []))) := D_perm hpm_4604 hD
  refine W.eq (g2 := F0 m 2529 ls [.int rr_4600]) rfl ?_
  refine lv_istore (lv' := [(7, .int rr_4600), (6, .int (nI ((q_end (dC C)).1))), (0, .ref b), (1, .ref d), (2, .ref m0), (3, .ref o), (4, .ref oD), (5, .int (nI i9))]) hx hb dL_law_2529 hl (by decide) rfl (fun ls hl => ?_)
  refine lv_aload_n hx hb dL_law_2531 rfl (lv_at hl 4 rfl) ?_
  have hpm_4605 : (([(oD, .inl (G.2 6, 1, .inr (.inr (.inr (.inl og))))), (o, .inl (G.2 5, 1, .inr (.inl of2_4593)))] ++ (W2_4594 ++ (W2_4601 ++ []))) : va_W).Perm ([] ++ ([(oD, .inl (G.2 6, 1, .inr (.inr (.inr (.inl og))))), (o, .inl (G.2 5, 1, .inr (.inl of2_4593)))] ++ (W2_4594 ++ (W2_4601 ++ [])))) := segs_perm [[(oD, .inl (G.2 6, 1, .inr (.inr (.inr (.inl og)))))], [(o, .inl (G.2 5, 1, .inr (.inl of2_4593)))], W2_4594, W2_4601] [] [0, 1, 2, 3] rfl
  have hF := hF_ofP (wc := []) hD hS hA hpm_4605
  refine go_ctP hS hP hD hpm_4605 hF
      (va_runV (As := []) (rest := []) cf (eX4_thrown l G m0 M (((q_end (dC M))).1) W2_4601 (hq_4603) H.size) (cwV 0 hts (lw_V q1639 q1640 q1641 q58 q1642) rfl rfl rfl (by decide +kernel) ⟨Nat.le_of_ble_eq_true rfl, Nat.le_of_ble_eq_true rfl⟩) (preV_of hKB hE hS hF (MdW.recv hK hq_4603 (seg_at [[(oD, .inl (G.2 6, 1, .inr (.inr (.inr (.inl og)))))], [(o, .inl (G.2 5, 1, .inr (.inl of2_4593)))], W2_4594, W2_4601] 3 rfl hP)) (P_left (P_perm hpm_4605 hP)) ((D_left (D_perm hpm_4605 hD)).weaken (fun _ _ _ _ => trivial)) (roW.nil (seg_at [[(oD, .inl (G.2 6, 1, .inr (.inr (.inr (.inl og)))))], [(o, .inl (G.2 5, 1, .inr (.inl of2_4593)))], W2_4594, W2_4601] 3 rfl hP))) rfl rfl hl.1 rfl (lv_room (Nat.le_of_ble_eq_true rfl)) dL_law_2532 ⟨show cl + 8300 + 0 ≤ 1200144 from by first | decide | omega, show sl + 17000 + 0 ≤ 5495674 from by first | decide | omega⟩)
      (fun u_ H locs hq hph (hP : va_P G.1 CL (([(oD, .inl (G.2 6, 1, .inr (.inr (.inr (.inl og))))), (o, .inl (G.2 5, 1, .inr (.inl of2_4593)))] ++ (W2_4594 ++ (W2_4601 ++ []))) ++ []) H) (hD : va_D A (([(oD, .inl (G.2 6, 1, .inr (.inr (.inr (.inl og))))), (o, .inl (G.2 5, 1, .inr (.inl of2_4593)))] ++ (W2_4594 ++ (W2_4601 ++ []))) ++ [])) hS hfz hfk => ?_)
  have hpm_4606 : (([(oD, .inl (G.2 6, 1, .inr (.inr (.inr (.inl og))))), (o, .inl (G.2 5, 1, .inr (.inl of2_4593)))] ++ (W2_4594 ++ (W2_4601 ++ []))) ++ [] : va_W).Perm ([(oD, .inl (G.2 6, 1, .inr (.inr (.inr (.inl og))))), (o, .inl (G.2 5, 1, .inr (.inl of2_4593)))] ++ (W2_4594 ++ (W2_4601 ++ []))) := segs_perm2 [[(oD, .inl (G.2 6, 1, .inr (.inr (.inr (.inl og)))))], [(o, .inl (G.2 5, 1, .inr (.inl of2_4593)))], W2_4594, W2_4601] [] [0, 1, 2, 3] rfl
  have hP : va_P G.1 CL ([(oD, .inl (G.2 6, 1, .inr (.inr (.inr (.inl og))))), (o, .inl (G.2 5, 1, .inr (.inl of2_4593)))] ++ (W2_4594 ++ (W2_4601 ++ []))) H := P_perm hpm_4606 hP
  have hD : va_D A ([(oD, .inl (G.2 6, 1, .inr (.inr (.inr (.inl og))))), (o, .inl (G.2 5, 1, .inr (.inl of2_4593)))] ++ (W2_4594 ++ (W2_4601 ++ []))) := D_perm hpm_4606 hD
  refine W.eq (g2 := F0 m 2535 ls [.int (nI (((q_end (dC M))).1))]) rfl ?_
  refine lv_ton (n := ((q_end (dC C)).1)) (congrArg nI (by rw [hqs])) ?_
  refine lv_iload hx hb dL_law_2535 (lv_at hl 1 rfl) ?_
  refine lv_icmp_eq (tgt := 2542) hx hb dL_law_2537 (by decide) (fun _ => ?_) (fun c9 => absurd rfl c9)
  refine lv_iload hx hb dL_law_2542 (lv_at hl 1 rfl) ?_
  refine n_if_ne (tgt := 2559) hx hb (by omega) dL_law_2544 (by decide) (fun c_4607 => ?_) (fun c_4607 => ?_)
  · refine lv_goto (tgt := 2788) hx hb dL_law_2559 (by decide) ?_
    have hpm_4608 : (([(oD, .inl (G.2 6, 1, .inr (.inr (.inr (.inl og))))), (o, .inl (G.2 5, 1, .inr (.inl of2_4593)))] ++ (W2_4594 ++ (W2_4601 ++ []))) : va_W).Perm (([(o, .inl (G.2 5, 1, .inr (.inl of2_4593))), (oD, .inl (G.2 6, 1, .inr (.inr (.inr (.inl og)))))] ++ (W2_4594 ++ (W2_4601 ++ []))) ++ []) := segs_perm [[(oD, .inl (G.2 6, 1, .inr (.inr (.inr (.inl og)))))], [(o, .inl (G.2 5, 1, .inr (.inl of2_4593)))], W2_4594, W2_4601] [1, 0, 2, 3] [] rfl
    have hP : va_P G.1 CL ([(o, .inl (G.2 5, 1, .inr (.inl of2_4593))), (oD, .inl (G.2 6, 1, .inr (.inr (.inr (.inl og)))))] ++ (W2_4594 ++ (W2_4601 ++ []))) H := P_left (P_perm hpm_4608 hP)
    have hD : va_D A ([(o, .inl (G.2 5, 1, .inr (.inl of2_4593))), (oD, .inl (G.2 6, 1, .inr (.inr (.inr (.inl og)))))] ++ (W2_4594 ++ (W2_4601 ++ []))) := D_left (D_perm hpm_4608 hD)
    have hl := lv_sub hl [2, 3, 4, 5, 6, 7] (l' := [(0, .ref b), (1, .ref d), (2, .ref m0), (3, .ref o), (4, .ref oD), (5, .int (nI i9))]) rfl
    exact W.widen (show cl + 8300 ≤ cl + 20000 from by omega) (show sl + 17000 ≤ sl + 45000 from by omega) (kk ls H locs C M (((q_end (dC M))).1) W2_4594 W2_4601 of2_4593 og hP hD hS hl hq_4597 hq_4603 hLw.up)
  · refine lv_aload_n hx hb dL_law_2547 rfl (lv_at hl 5 rfl) ?_
    refine lv_iconst (v := nI 0) hx hb dL_law_2548 (by decide) ?_
    refine r_lald (v := (((q_end (dC C))).2).toInt64) hx hb hK hP 1 5 rfl rfl (i := 0) (by omega) (by omega) ((hq_4595 (by omega))) dL_law_2549 ?_
    refine lv_iload hx hb dL_law_2550 (lv_at hl 0 rfl) ?_
    refine lv_toi (y := ((q_end (dC C))).2) ((hq_4602 (by rw [hqs]; omega)).trans (by rw [hqs])) ?_
    refine lv_i2l (v := (((q_end (dC C))).2).toInt64) hx hb dL_law_2552 rfl ?_
    refine W.lcmp hx hb dL_law_2553 ?_
    refine lv_ton (n := 0) (lcmp0 _) ?_
    refine n_if_eq (tgt := 2559) hx hb (by omega) dL_law_2554 (by decide) (fun c_4609 => ?_) (fun c_4609 => absurd c_4609 (by omega))
    refine lv_goto (tgt := 2788) hx hb dL_law_2559 (by decide) ?_
    have hpm_4610 : (([(oD, .inl (G.2 6, 1, .inr (.inr (.inr (.inl og))))), (o, .inl (G.2 5, 1, .inr (.inl of2_4593)))] ++ (W2_4594 ++ (W2_4601 ++ []))) : va_W).Perm (([(o, .inl (G.2 5, 1, .inr (.inl of2_4593))), (oD, .inl (G.2 6, 1, .inr (.inr (.inr (.inl og)))))] ++ (W2_4594 ++ (W2_4601 ++ []))) ++ []) := segs_perm [[(oD, .inl (G.2 6, 1, .inr (.inr (.inr (.inl og)))))], [(o, .inl (G.2 5, 1, .inr (.inl of2_4593)))], W2_4594, W2_4601] [1, 0, 2, 3] [] rfl
    have hP : va_P G.1 CL ([(o, .inl (G.2 5, 1, .inr (.inl of2_4593))), (oD, .inl (G.2 6, 1, .inr (.inr (.inr (.inl og)))))] ++ (W2_4594 ++ (W2_4601 ++ []))) H := P_left (P_perm hpm_4610 hP)
    have hD : va_D A ([(o, .inl (G.2 5, 1, .inr (.inl of2_4593))), (oD, .inl (G.2 6, 1, .inr (.inr (.inr (.inl og)))))] ++ (W2_4594 ++ (W2_4601 ++ []))) := D_left (D_perm hpm_4610 hD)
    have hl := lv_sub hl [2, 3, 4, 5, 6, 7] (l' := [(0, .ref b), (1, .ref d), (2, .ref m0), (3, .ref o), (4, .ref oD), (5, .int (nI i9))]) rfl
    exact W.widen (show cl + 8300 ≤ cl + 20000 from by omega) (show sl + 17000 ≤ sl + 45000 from by omega) (kk ls H locs C M (((q_end (dC M))).1) W2_4594 W2_4601 of2_4593 og hP hD hS hl hq_4597 hq_4603 hLw.up)

set_option maxHeartbeats 4000000 in
theorem lawK_45 {p : Program} {l : Launch} {e : Env} {s : State} {m : MethodId} {below : List Frame} {meth : Method} {c : Code} {G : Gt} {A : Nat → Prop} {b L : Nat} {xs : Nat → Int32} {Q : State → Prop} {d m0 o oD i9 N cl sl : Nat} (hfl : l.stackTraces = false) (F : LwF G A p s m c b L xs) (hi9 : i9 + 4 ≤ L) (hN24 : N ≤ 24) (hcl : cl + 20000 ≤ 1200144) (hsl : sl + 45000 ≤ 5495674) (kk : ∀ (ls : Array Slot) (H : Heap) (locs : List Loc) (C M : DS) (th : Nat) (WD WM : va_W) (of : Nat → Int64) (og : Nat → UInt64), va_P G.1 CL ([(o, .inl (G.2 5, 1, .inr (.inl of))), (oD, .inl (G.2 6, 1, .inr (.inr (.inr (.inl og)))))] ++ (WD ++ (WM ++ []))) H → va_D A ([(o, .inl (G.2 5, 1, .inr (.inl of))), (oD, .inl (G.2 6, 1, .inr (.inr (.inr (.inl og)))))] ++ (WD ++ (WM ++ []))) → va_S A s.heap H locs → lv_has ls 10 [(0, .ref b), (1, .ref d), (2, .ref m0), (3, .ref o), (4, .ref oD), (5, .int (nI i9))] → DyW G d C WD → MdW G m0 M th WM → LawI C M (N + 1) → W p l e room_1 s m #[Value.ref b] below meth c H locs (cl + 20000) (sl + 45000) Q (F0 m 2788 ls [])) {ls : Array Slot} {H : Heap} {locs : List Loc} {C M : DS} {th : Nat} {WD WM : va_W} {of : Nat → Int64} {og : Nat → UInt64} (hP : va_P G.1 CL ([(o, .inl (G.2 5, 1, .inr (.inl of))), (oD, .inl (G.2 6, 1, .inr (.inr (.inr (.inl og)))))] ++ (WD ++ (WM ++ []))) H) (hD : va_D A ([(o, .inl (G.2 5, 1, .inr (.inl of))), (oD, .inl (G.2 6, 1, .inr (.inr (.inr (.inl og)))))] ++ (WD ++ (WM ++ [])))) (hS : va_S A s.heap H locs) (hl : lv_has ls 10 [(0, .ref b), (1, .ref d), (2, .ref m0), (3, .ref o), (4, .ref oD), (5, .int (nI i9))]) (hDy : DyW G d C WD) (hMd : MdW G m0 M th WM) (hLw : LawI C M N) : W p l e room_1 s m #[Value.ref b] below meth c H locs cl sl Q (F0 m 2562 ls []) := by
  obtain ⟨cf, hKB, hE, hA, hX9, hbl, hbA, hNc, hL96⟩ := F
  have hx := cf.1
  have hb := cf.2.1
  have hml := cf.2.2.1
  have hown : s.vm.findClass RX0 = some m.cls := cf.2.2.2.1
  have hts := cf.2.2.2.2
  have hK := hKB.1
  have hIc := hDy.inv.1
  have hIm : Inv (dC M) := Inv_sim hLw.1 hIc
  have hRk : RkOk (dC M) := RkOk_sim hLw.1 (RkOk_srt hDy.inv.2.2)
  have hl := hl
  refine lv_aload_n hx hb dL_law_2562 rfl (lv_at hl 1 rfl) ?_
  have hpm_4611 : (([(o, .inl (G.2 5, 1, .inr (.inl of))), (oD, .inl (G.2 6, 1, .inr (.inr (.inr (.inl og)))))] ++ (WD ++ (WM ++ []))) : va_W).Perm ((WD ++ []) ++ ([(o, .inl (G.2 5, 1, .inr (.inl of))), (oD, .inl (G.2 6, 1, .inr (.inr (.inr (.inl og)))))] ++ (WM ++ []))) := segs_perm [[(o, .inl (G.2 5, 1, .inr (.inl of)))], [(oD, .inl (G.2 6, 1, .inr (.inr (.inr (.inl og)))))], WD, WM] [2] [0, 1, 3] rfl
  have hF := hF_ofP (wc := (WD ++ [])) hD hS hA hpm_4611
  refine go_ctP hS hP hD hpm_4611 hF
      (va_runV (As := []) (rest := []) cf (dX1_isPlanOver l G d C WD (hDy) H.size) (cwV 0 hts (lw_V q665 q666 q667 q47 q668) rfl rfl rfl (by decide +kernel) ⟨Nat.le_of_ble_eq_true rfl, Nat.le_of_ble_eq_true rfl⟩) (preV_of hKB hE hS hF (DyW.recv hK hDy (seg_at [[(o, .inl (G.2 5, 1, .inr (.inl of)))], [(oD, .inl (G.2 6, 1, .inr (.inr (.inr (.inl og)))))], WD, WM] 2 rfl hP)) (P_left (P_perm hpm_4611 hP)) ((D_left (D_perm hpm_4611 hD)).weaken (fun _ _ _ _ => trivial)) trivial) rfl rfl hl.1 rfl (lv_room (Nat.le_of_ble_eq_true rfl)) dL_law_2563 ⟨show cl + 8300 ≤ 1200144 from by first | decide | omega, show sl + 17000 ≤ 5495674 from by first | decide | omega⟩)
      (fun u_ H locs hq hph (hP : va_P G.1 CL (([(o, .inl (G.2 5, 1, .inr (.inl of))), (oD, .inl (G.2 6, 1, .inr (.inr (.inr (.inl og)))))] ++ (WM ++ [])) ++ (u_.2 ++ [])) H) (hD : va_D A (([(o, .inl (G.2 5, 1, .inr (.inl of))), (oD, .inl (G.2 6, 1, .inr (.inr (.inr (.inl og)))))] ++ (WM ++ [])) ++ (u_.2 ++ []))) hS hfz hfk => ?_)
  obtain ⟨rr_4612, W2_4613⟩ := u_
  obtain ⟨hq_4614, hq_4615⟩ : q_over (dC C) = (0, rr_4612) ∧ DyW G d C W2_4613 := hq
  have hpm_4616 : (([(o, .inl (G.2 5, 1, .inr (.inl of))), (oD, .inl (G.2 6, 1, .inr (.inr (.inr (.inl og)))))] ++ (WM ++ [])) ++ (W2_4613 ++ []) : va_W).Perm ([(o, .inl (G.2 5, 1, .inr (.inl of))), (oD, .inl (G.2 6, 1, .inr (.inr (.inr (.inl og)))))] ++ (WM ++ (W2_4613 ++ []))) := segs_perm2 [[(o, .inl (G.2 5, 1, .inr (.inl of)))], [(oD, .inl (G.2 6, 1, .inr (.inr (.inr (.inl og)))))], WM] [W2_4613] [0, 1, 2, 3] rfl
  have hP : va_P G.1 CL ([(o, .inl (G.2 5, 1, .inr (.inl of))), (oD, .inl (G.2 6, 1, .inr (.inr (.inr (.inl og)))))] ++ (WM ++ (W2_4613 ++ []))) H := P_perm hpm_4616 hP
  have hD : va_D A ([(o, .inl (G.2 5, 1, .inr (.inl of))), (oD, .inl (G.2 6, 1, .inr (.inr (.inr (.inl og)))))] ++ (WM ++ (W2_4613 ++ []))) := D_perm hpm_4616 hD
  refine W.eq (g2 := F0 m 2566 ls [.int rr_4612]) rfl ?_
  have hqs : (q_over (dC M)) = (q_over (dC C)) := q_over_sim hLw.1.symm hIm 
  refine lv_toi (y := ((q_over (dC C))).2) ((congrArg Prod.snd hq_4614).symm) ?_
  refine lv_aload_n hx hb dL_law_2566 rfl (lv_at hl 2 rfl) ?_
  have hpm_4617 : (([(o, .inl (G.2 5, 1, .inr (.inl of))), (oD, .inl (G.2 6, 1, .inr (.inr (.inr (.inl og)))))] ++ (WM ++ (W2_4613 ++ []))) : va_W).Perm ((WM ++ []) ++ ([(o, .inl (G.2 5, 1, .inr (.inl of))), (oD, .inl (G.2 6, 1, .inr (.inr (.inr (.inl og)))))] ++ (W2_4613 ++ []))) := segs_perm [[(o, .inl (G.2 5, 1, .inr (.inl of)))], [(oD, .inl (G.2 6, 1, .inr (.inr (.inr (.inl og)))))], WM, W2_4613] [2] [0, 1, 3] rfl
  have hF := hF_ofP (wc := (WM ++ [])) hD hS hA hpm_4617
  refine go_ctP hS hP hD hpm_4617 hF
      (va_runV (As := []) (rest := [.int (((q_over (dC C))).2)]) cf (eX4_isPlanOver l G m0 M th WM (hMd) (hIm) H.size) (cwV 0 hts (lw_V q1934 q1935 q1936 q58 q1937) rfl rfl rfl (by decide +kernel) ⟨Nat.le_of_ble_eq_true rfl, Nat.le_of_ble_eq_true rfl⟩) (preV_of hKB hE hS hF (MdW.recv hK hMd (seg_at [[(o, .inl (G.2 5, 1, .inr (.inl of)))], [(oD, .inl (G.2 6, 1, .inr (.inr (.inr (.inl og)))))], WM, W2_4613] 2 rfl hP)) (P_left (P_perm hpm_4617 hP)) ((D_left (D_perm hpm_4617 hD)).weaken (fun _ _ _ _ => trivial)) trivial) rfl rfl hl.1 rfl (lv_room (Nat.le_of_ble_eq_true rfl)) dL_law_2567 ⟨show cl + 8300 + 0 ≤ 1200144 from by first | decide | omega, show sl + 17000 + 0 ≤ 5495674 from by first | decide | omega⟩)
      (fun u_ H locs hq hph (hP : va_P G.1 CL (([(o, .inl (G.2 5, 1, .inr (.inl of))), (oD, .inl (G.2 6, 1, .inr (.inr (.inr (.inl og)))))] ++ (W2_4613 ++ [])) ++ (u_.2 ++ [])) H) (hD : va_D A (([(o, .inl (G.2 5, 1, .inr (.inl of))), (oD, .inl (G.2 6, 1, .inr (.inr (.inr (.inl og)))))] ++ (W2_4613 ++ [])) ++ (u_.2 ++ []))) hS hfz hfk => ?_)
  obtain ⟨rr_4618, W2_4619⟩ := u_
  obtain ⟨hq_4620, hq_4621⟩ : ((q_over (dC M)).1 = 0 → rr_4618 = (q_over (dC M)).2) ∧ MdW G m0 M (q_over (dC M)).1 W2_4619 := hq
  have hpm_4622 : (([(o, .inl (G.2 5, 1, .inr (.inl of))), (oD, .inl (G.2 6, 1, .inr (.inr (.inr (.inl og)))))] ++ (W2_4613 ++ [])) ++ (W2_4619 ++ []) : va_W).Perm ([(o, .inl (G.2 5, 1, .inr (.inl of))), (oD, .inl (G.2 6, 1, .inr (.inr (.inr (.inl og)))))] ++ (W2_4613 ++ (W2_4619 ++ []))) := segs_perm2 [[(o, .inl (G.2 5, 1, .inr (.inl of)))], [(oD, .inl (G.2 6, 1, .inr (.inr (.inr (.inl og)))))], W2_4613] [W2_4619] [0, 1, 2, 3] rfl
  have hP : va_P G.1 CL ([(o, .inl (G.2 5, 1, .inr (.inl of))), (oD, .inl (G.2 6, 1, .inr (.inr (.inr (.inl og)))))] ++ (W2_4613 ++ (W2_4619 ++ []))) H := P_perm hpm_4622 hP
  have hD : va_D A ([(o, .inl (G.2 5, 1, .inr (.inl of))), (oD, .inl (G.2 6, 1, .inr (.inr (.inr (.inl og)))))] ++ (W2_4613 ++ (W2_4619 ++ []))) := D_perm hpm_4622 hD
  refine W.eq (g2 := F0 m 2570 ls [.int rr_4618, .int (((q_over (dC C))).2)]) rfl ?_
  refine lv_toi (y := ((q_over (dC C))).2) ((hq_4620 (by rw [hqs, hq_4614])).trans (by rw [hqs])) ?_
  refine lv_icmp_eq (tgt := 2788) hx hb dL_law_2570 (by decide) (fun _ => ?_) (fun c9 => absurd rfl c9)
  have hpm_4623 : (([(o, .inl (G.2 5, 1, .inr (.inl of))), (oD, .inl (G.2 6, 1, .inr (.inr (.inr (.inl og)))))] ++ (W2_4613 ++ (W2_4619 ++ []))) : va_W).Perm (([(o, .inl (G.2 5, 1, .inr (.inl of))), (oD, .inl (G.2 6, 1, .inr (.inr (.inr (.inl og)))))] ++ (W2_4613 ++ (W2_4619 ++ []))) ++ []) := segs_perm [[(o, .inl (G.2 5, 1, .inr (.inl of)))], [(oD, .inl (G.2 6, 1, .inr (.inr (.inr (.inl og)))))], W2_4613, W2_4619] [0, 1, 2, 3] [] rfl
  have hP : va_P G.1 CL ([(o, .inl (G.2 5, 1, .inr (.inl of))), (oD, .inl (G.2 6, 1, .inr (.inr (.inr (.inl og)))))] ++ (W2_4613 ++ (W2_4619 ++ []))) H := P_left (P_perm hpm_4623 hP)
  have hD : va_D A ([(o, .inl (G.2 5, 1, .inr (.inl of))), (oD, .inl (G.2 6, 1, .inr (.inr (.inr (.inl og)))))] ++ (W2_4613 ++ (W2_4619 ++ []))) := D_left (D_perm hpm_4623 hD)
  have hl := lv_sub hl [0, 1, 2, 3, 4, 5] (l' := [(0, .ref b), (1, .ref d), (2, .ref m0), (3, .ref o), (4, .ref oD), (5, .int (nI i9))]) rfl
  exact W.widen (show cl + 8300 ≤ cl + 20000 from by omega) (show sl + 17000 ≤ sl + 45000 from by omega) (kk ls H locs C M (((q_over (dC M))).1) W2_4613 W2_4619 of og hP hD hS hl hq_4615 hq_4621 hLw.up)

set_option maxHeartbeats 4000000 in
theorem lawK_46 {p : Program} {l : Launch} {e : Env} {s : State} {m : MethodId} {below : List Frame} {meth : Method} {c : Code} {G : Gt} {A : Nat → Prop} {b L : Nat} {xs : Nat → Int32} {Q : State → Prop} {d m0 o oD i9 N cl sl : Nat} (hfl : l.stackTraces = false) (F : LwF G A p s m c b L xs) (hi9 : i9 + 4 ≤ L) (hN24 : N ≤ 24) (hcl : cl + 20000 ≤ 1200144) (hsl : sl + 45000 ≤ 5495674) (kk : ∀ (ls : Array Slot) (H : Heap) (locs : List Loc) (C M : DS) (th : Nat) (WD WM : va_W) (of : Nat → Int64) (og : Nat → UInt64), va_P G.1 CL ([(o, .inl (G.2 5, 1, .inr (.inl of))), (oD, .inl (G.2 6, 1, .inr (.inr (.inr (.inl og)))))] ++ (WD ++ (WM ++ []))) H → va_D A ([(o, .inl (G.2 5, 1, .inr (.inl of))), (oD, .inl (G.2 6, 1, .inr (.inr (.inr (.inl og)))))] ++ (WD ++ (WM ++ []))) → va_S A s.heap H locs → lv_has ls 10 [(0, .ref b), (1, .ref d), (2, .ref m0), (3, .ref o), (4, .ref oD), (5, .int (nI i9))] → DyW G d C WD → MdW G m0 M th WM → LawI C M (N + 1) → W p l e room_1 s m #[Value.ref b] below meth c H locs (cl + 20000) (sl + 45000) Q (F0 m 2788 ls [])) {ls : Array Slot} {H : Heap} {locs : List Loc} {C M : DS} {th : Nat} {WD WM : va_W} {of : Nat → Int64} {og : Nat → UInt64} (hP : va_P G.1 CL ([(o, .inl (G.2 5, 1, .inr (.inl of))), (oD, .inl (G.2 6, 1, .inr (.inr (.inr (.inl og)))))] ++ (WD ++ (WM ++ []))) H) (hD : va_D A ([(o, .inl (G.2 5, 1, .inr (.inl of))), (oD, .inl (G.2 6, 1, .inr (.inr (.inr (.inl og)))))] ++ (WD ++ (WM ++ [])))) (hS : va_S A s.heap H locs) (hl : lv_has ls 10 [(0, .ref b), (1, .ref d), (2, .ref m0), (3, .ref o), (4, .ref oD), (5, .int (nI i9))]) (hDy : DyW G d C WD) (hMd : MdW G m0 M th WM) (hLw : LawI C M N) : W p l e room_1 s m #[Value.ref b] below meth c H locs cl sl Q (F0 m 2575 ls []) := by
  obtain ⟨cf, hKB, hE, hA, hX9, hbl, hbA, hNc, hL96⟩ := F
  have hx := cf.1
  have hb := cf.2.1
  have hml := cf.2.2.1
  have hown : s.vm.findClass RX0 = some m.cls := cf.2.2.2.1
  have hts := cf.2.2.2.2
  have hK := hKB.1
  have hIc := hDy.inv.1
  have hIm : Inv (dC M) := Inv_sim hLw.1 hIc
  have hRk : RkOk (dC M) := RkOk_sim hLw.1 (RkOk_srt hDy.inv.2.2)
  have hl := hl
  refine lv_aload_n hx hb dL_law_2575 rfl (lv_at hl 1 rfl) ?_
  refine lv_aload_n hx hb dL_law_2576 rfl (lv_at hl 0 rfl) ?_
  refine lv_iload hx hb dL_law_2577 (lv_at hl 5 rfl) ?_
  refine lv_iconst (v := nI 1) hx hb dL_law_2579 (by decide) ?_
  refine lv_iadd hx hb dL_law_2580 ?_
  refine lv_ton (n := i9 + 1) (nadd (by omega)) ?_
  refine va_sld hx hb hX9 hbl hbA hS (i := nI (i9 + 1)) (vp9 (by omega) hL96) dL_law_2581 ?_
  refine W.eq (g2 := F0 m 2582 ls [.int (sx9 xs (i9 + 1)), .ref d]) rfl ?_
  refine lv_aload_n hx hb dL_law_2582 rfl (lv_at hl 3 rfl) ?_
  have hpm_4624 : (([(o, .inl (G.2 5, 1, .inr (.inl of))), (oD, .inl (G.2 6, 1, .inr (.inr (.inr (.inl og)))))] ++ (WD ++ (WM ++ []))) : va_W).Perm (([(o, .inl (G.2 5, 1, .inr (.inl of)))] ++ (WD ++ [])) ++ ([(oD, .inl (G.2 6, 1, .inr (.inr (.inr (.inl og)))))] ++ (WM ++ []))) := segs_perm [[(o, .inl (G.2 5, 1, .inr (.inl of)))], [(oD, .inl (G.2 6, 1, .inr (.inr (.inr (.inl og)))))], WD, WM] [0, 2] [1, 3] rfl
  have hF := hF_ofP (wc := ([(o, .inl (G.2 5, 1, .inr (.inl of)))] ++ (WD ++ []))) hD hS hA hpm_4624
  refine go_ctP hS hP hD hpm_4624 hF
      (vx_runSW (As := [.ref d, .int (sx9 xs (i9 + 1)), .ref o]) (rest := []) cf (wX0_writeWeek l G d C WD o of (sx9 xs (i9 + 1)) (hDy) hfl H.size) (vx_cwSW 3 hts (lw_SW q1445 q1446 q46 q1447) rfl rfl rfl (by decide +kernel) ⟨Nat.le_of_ble_eq_true rfl, Nat.le_of_ble_eq_true rfl⟩) (preS_ofW hNc hKB hE hS hF (P_left (P_perm hpm_4624 hP)) ((D_left (D_perm hpm_4624 hD)).weaken (fun _ _ _ _ => trivial)) trivial) rfl rfl hl.1 rfl (lv_room (Nat.le_of_ble_eq_true rfl)) dL_law_2583 ⟨show cl + 1500 ≤ 1200144 from by first | decide | omega, show sl + 3000 ≤ 5495674 from by first | decide | omega⟩)
      (fun u_ H locs hq hph (hP : va_P G.1 CL (([(oD, .inl (G.2 6, 1, .inr (.inr (.inr (.inl og)))))] ++ (WM ++ [])) ++ ([(o, .inl (G.2 5, 1, .inr (.inl u_.1)))] ++ (u_.2.2 ++ []))) H) (hD : va_D A (([(oD, .inl (G.2 6, 1, .inr (.inr (.inr (.inl og)))))] ++ (WM ++ [])) ++ ([(o, .inl (G.2 5, 1, .inr (.inl u_.1)))] ++ (u_.2.2 ++ [])))) hS hfz hfk => ?_)
  obtain ⟨of2_4625, k_4626, W2_4627⟩ := u_
  obtain ⟨hq_4628, hq_4629⟩ : (∀ z, inR (sx9 xs (i9 + 1)) 0 (bD (dC C)) = some z → k_4626 = 0 ∧ of2_4625 0 = (nI 13).toInt64 ∧ DyW G d ((dC C, dS C, dK C, dH C, wkF (dC C) z, 13) : DS) W2_4627) ∧ (inR (sx9 xs (i9 + 1)) 0 (bD (dC C)) = none → k_4626 = 1 ∧ DyW G d C W2_4627) := hq
  have hpm_4630 : (([(oD, .inl (G.2 6, 1, .inr (.inr (.inr (.inl og)))))] ++ (WM ++ [])) ++ ([(o, .inl (G.2 5, 1, .inr (.inl of2_4625)))] ++ (W2_4627 ++ [])) : va_W).Perm ([(oD, .inl (G.2 6, 1, .inr (.inr (.inr (.inl og))))), (o, .inl (G.2 5, 1, .inr (.inl of2_4625)))] ++ (WM ++ (W2_4627 ++ []))) := segs_perm2 [[(oD, .inl (G.2 6, 1, .inr (.inr (.inr (.inl og)))))], WM] [[(o, .inl (G.2 5, 1, .inr (.inl of2_4625)))], W2_4627] [0, 2, 1, 3] rfl
  have hP : va_P G.1 CL ([(oD, .inl (G.2 6, 1, .inr (.inr (.inr (.inl og))))), (o, .inl (G.2 5, 1, .inr (.inl of2_4625)))] ++ (WM ++ (W2_4627 ++ []))) H := P_perm hpm_4630 hP
  have hD : va_D A ([(oD, .inl (G.2 6, 1, .inr (.inr (.inr (.inl og))))), (o, .inl (G.2 5, 1, .inr (.inl of2_4625)))] ++ (WM ++ (W2_4627 ++ []))) := D_perm hpm_4630 hD
  refine W.eq (g2 := F0 m 2586 ls [.int (nI k_4626)]) rfl ?_
  refine lv_istore (lv' := [(6, .int (nI k_4626)), (0, .ref b), (1, .ref d), (2, .ref m0), (3, .ref o), (4, .ref oD), (5, .int (nI i9))]) hx hb dL_law_2586 hl (by decide) rfl (fun ls hl => ?_)
  refine lv_aload_n hx hb dL_law_2588 rfl (lv_at hl 3 rfl) ?_
  refine lv_aload_n hx hb dL_law_2589 rfl (lv_at hl 1 rfl) ?_
  refine lv_iload hx hb dL_law_2590 (lv_at hl 6 rfl) ?_
  refine lv_iconst (v := nI 1) hx hb dL_law_2592 (by decide) ?_
  refine lv_iadd hx hb dL_law_2593 ?_
  refine lv_ton (n := i9 + 1) (nadd (by omega)) ?_
  refine va_sld hx hb hX9 hbl hbA hS (i := nI (i9 + 1)) (vp9 (by omega) hL96) dL_law_2594 ?_
  refine W.eq (g2 := F0 m 2595 ls [.int (sx9 xs (i9 + 1)), .ref m0]) rfl ?_
  have hpm_4631 : (([(oD, .inl (G.2 6, 1, .inr (.inr (.inr (.inl og))))), (o, .inl (G.2 5, 1, .inr (.inl of2_4625)))] ++ (WM ++ (W2_4627 ++ []))) : va_W).Perm ((WM ++ []) ++ ([(oD, .inl (G.2 6, 1, .inr (.inr (.inr (.inl og))))), (o, .inl (G.2 5, 1, .inr (.inl of2_4625)))] ++ (W2_4627 ++ []))) := segs_perm [[(oD, .inl (G.2 6, 1, .inr (.inr (.inr (.inl og)))))], [(o, .inl (G.2 5, 1, .inr (.inl of2_4625)))], WM, W2_4627] [2] [0, 1, 3] rfl
  have hF := hF_ofP (wc := (WM ++ [])) hD hS hA hpm_4631
  refine go_ctP hS hP hD hpm_4631 hF
      (va_runV (As := [.int (sx9 xs (i9 + 1))]) (rest := []) cf (eX4_writeWeek l G m0 M th WM (sx9 xs (i9 + 1)) (hMd) (hIm) H.size) (cwV 1 hts (lw_V q1938 q1939 q1940 q58 q1941) rfl rfl rfl (by decide +kernel) ⟨Nat.le_of_ble_eq_true rfl, Nat.le_of_ble_eq_true rfl⟩) (preV_of hKB hE hS hF (MdW.recv hK hMd (seg_at [[(oD, .inl (G.2 6, 1, .inr (.inr (.inr (.inl og)))))], [(o, .inl (G.2 5, 1, .inr (.inl of2_4625)))], WM, W2_4627] 2 rfl hP)) (P_left (P_perm hpm_4631 hP)) ((D_left (D_perm hpm_4631 hD)).weaken (fun _ _ _ _ => trivial)) trivial) rfl rfl hl.1 rfl (lv_room (Nat.le_of_ble_eq_true rfl)) dL_law_2595 ⟨show cl + 1500 + 0 ≤ 1200144 from by first | decide | omega, show sl + 3000 + 0 ≤ 5495674 from by first | decide | omega⟩)
      (fun u_ H locs hq hph (hP : va_P G.1 CL (([(oD, .inl (G.2 6, 1, .inr (.inr (.inr (.inl og))))), (o, .inl (G.2 5, 1, .inr (.inl of2_4625)))] ++ (W2_4627 ++ [])) ++ (u_.2 ++ [])) H) (hD : va_D A (([(oD, .inl (G.2 6, 1, .inr (.inr (.inr (.inl og))))), (o, .inl (G.2 5, 1, .inr (.inl of2_4625)))] ++ (W2_4627 ++ [])) ++ (u_.2 ++ []))) hS hfz hfk => ?_)
  obtain ⟨rr_4632, W2_4633⟩ := u_
  obtain ⟨hq_4634, hq_4635⟩ : (∀ z, inR (sx9 xs (i9 + 1)) 0 (bD (dC M)) = some z → rr_4632 = nI 13 ∧ MdW G m0 ((dC M, dS M, dK M, dH M, wkF (dC M) z, 13) : DS) 0 W2_4633) ∧ (inR (sx9 xs (i9 + 1)) 0 (bD (dC M)) = none → MdW G m0 M 1 W2_4633) := hq
  have hpm_4636 : (([(oD, .inl (G.2 6, 1, .inr (.inr (.inr (.inl og))))), (o, .inl (G.2 5, 1, .inr (.inl of2_4625)))] ++ (W2_4627 ++ [])) ++ (W2_4633 ++ []) : va_W).Perm ([(oD, .inl (G.2 6, 1, .inr (.inr (.inr (.inl og))))), (o, .inl (G.2 5, 1, .inr (.inl of2_4625)))] ++ (W2_4627 ++ (W2_4633 ++ []))) := segs_perm2 [[(oD, .inl (G.2 6, 1, .inr (.inr (.inr (.inl og)))))], [(o, .inl (G.2 5, 1, .inr (.inl of2_4625)))], W2_4627] [W2_4633] [0, 1, 2, 3] rfl
  have hP : va_P G.1 CL ([(oD, .inl (G.2 6, 1, .inr (.inr (.inr (.inl og))))), (o, .inl (G.2 5, 1, .inr (.inl of2_4625)))] ++ (W2_4627 ++ (W2_4633 ++ []))) H := P_perm hpm_4636 hP
  have hD : va_D A ([(oD, .inl (G.2 6, 1, .inr (.inr (.inr (.inl og))))), (o, .inl (G.2 5, 1, .inr (.inl of2_4625)))] ++ (W2_4627 ++ (W2_4633 ++ []))) := D_perm hpm_4636 hD
  refine W.eq (g2 := F0 m 2598 ls [.int rr_4632]) rfl ?_
  have hbd : bD (dC M) = bD (dC C) := hLw.1.bD.symm
  rcases hin : inR sx9 xs (i9 + 1) 0 (bD (dC C)) with _ | z_4637
  · obtain ⟨rfl, hDy2⟩ := hq_4629 hin
    have hMd2 := hq_4635 (by rw [hbd]; exact hin)
    refine W.eq (g2 := F0 m 2598 ls [.int rr_4632]) rfl ?_
    refine lv_istore (lv' := [(7, .int rr_4632), (6, .int (nI 1)), (0, .ref b), (1, .ref d), (2, .ref m0), (3, .ref o), (4, .ref oD), (5, .int (nI i9))]) hx hb dL_law_2598 hl (by decide) rfl (fun ls hl => ?_)
    refine lv_aload_n hx hb dL_law_2600 rfl (lv_at hl 4 rfl) ?_
    have hpm_4638 : (([(oD, .inl (G.2 6, 1, .inr (.inr (.inr (.inl og))))), (o, .inl (G.2 5, 1, .inr (.inl of2_4625)))] ++ (W2_4627 ++ (W2_4633 ++ []))) : va_W).Perm ([] ++ ([(oD, .inl (G.2 6, 1, .inr (.inr (.inr (.inl og))))), (o, .inl (G.2 5, 1, .inr (.inl of2_4625)))] ++ (W2_4627 ++ (W2_4633 ++ [])))) := segs_perm [[(oD, .inl (G.2 6, 1, .inr (.inr (.inr (.inl og)))))], [(o, .inl (G.2 5, 1, .inr (.inl of2_4625)))], W2_4627, W2_4633] [] [0, 1, 2, 3] rfl
    have hF := hF_ofP (wc := []) hD hS hA hpm_4638
    refine go_ctP hS hP hD hpm_4638 hF
        (va_runV (As := []) (rest := []) cf (eX4_thrown l G m0 M 1 W2_4633 (hMd2) H.size) (cwV 0 hts (lw_V q1639 q1640 q1641 q58 q1642) rfl rfl rfl (by decide +kernel) ⟨Nat.le_of_ble_eq_true rfl, Nat.le_of_ble_eq_true rfl⟩) (preV_of hKB hE hS hF (MdW.recv hK hMd2 (seg_at [[(oD, .inl (G.2 6, 1, .inr (.inr (.inr (.inl og)))))], [(o, .inl (G.2 5, 1, .inr (.inl of2_4625)))], W2_4627, W2_4633] 3 rfl hP)) (P_left (P_perm hpm_4638 hP)) ((D_left (D_perm hpm_4638 hD)).weaken (fun _ _ _ _ => trivial)) (roW.nil (seg_at [[(oD, .inl (G.2 6, 1, .inr (.inr (.inr (.inl og)))))], [(o, .inl (G.2 5, 1, .inr (.inl of2_4625)))], W2_4627, W2_4633] 3 rfl hP))) rfl rfl hl.1 rfl (lv_room (Nat.le_of_ble_eq_true rfl)) dL_law_2601 ⟨show cl + 1500 + 0 ≤ 1200144 from by first | decide | omega, show sl + 3000 + 0 ≤ 5495674 from by first | decide | omega⟩)
        (fun u_ H locs hq hph (hP : va_P G.1 CL (([(oD, .inl (G.2 6, 1, .inr (.inr (.inr (.inl og))))), (o, .inl (G.2 5, 1, .inr (.inl of2_4625)))] ++ (W2_4627 ++ (W2_4633 ++ []))) ++ []) H) (hD : va_D A (([(oD, .inl (G.2 6, 1, .inr (.inr (.inr (.inl og))))), (o, .inl (G.2 5, 1, .inr (.inl of2_4625)))] ++ (W2_4627 ++ (W2_4633 ++ []))) ++ [])) hS hfz hfk => ?_)
    have hpm_4639 : (([(oD, .inl (G.2 6, 1, .inr (.inr (.inr (.inl og))))), (o, .inl (G.2 5, 1, .inr (.inl of2_4625)))] ++ (W2_4627 ++ (W2_4633 ++ []))) ++ [] : va_W).Perm ([(oD, .inl (G.2 6, 1, .inr (.inr (.inr (.inl og))))), (o, .inl (G.2 5, 1, .inr (.inl of2_4625)))] ++ (W2_4627 ++ (W2_4633 ++ []))) := segs_perm2 [[(oD, .inl (G.2 6, 1, .inr (.inr (.inr (.inl og)))))], [(o, .inl (G.2 5, 1, .inr (.inl of2_4625)))], W2_4627, W2_4633] [] [0, 1, 2, 3] rfl
    have hP : va_P G.1 CL ([(oD, .inl (G.2 6, 1, .inr (.inr (.inr (.inl og))))), (o, .inl (G.2 5, 1, .inr (.inl of2_4625)))] ++ (W2_4627 ++ (W2_4633 ++ []))) H := P_perm hpm_4639 hP
    have hD : va_D A ([(oD, .inl (G.2 6, 1, .inr (.inr (.inr (.inl og))))), (o, .inl (G.2 5, 1, .inr (.inl of2_4625)))] ++ (W2_4627 ++ (W2_4633 ++ []))) := D_perm hpm_4639 hD
    refine W.eq (g2 := F0 m 2604 ls [.int (nI 1)]) rfl ?_
    refine lv_iload hx hb dL_law_2604 (lv_at hl 1 rfl) ?_
    refine lv_icmp_eq (tgt := 2611) hx hb dL_law_2606 (by decide) (fun _ => ?_) (fun c9 => absurd rfl c9)
    refine lv_iload hx hb dL_law_2611 (lv_at hl 1 rfl) ?_
    refine n_if_ne (tgt := 2628) hx hb (by omega) dL_law_2613 (by decide) (fun c_4640 => ?_) (fun c_4640 => absurd c_4640 (by omega))
    refine lv_goto (tgt := 2788) hx hb dL_law_2628 (by decide) ?_
    have hpm_4641 : (([(oD, .inl (G.2 6, 1, .inr (.inr (.inr (.inl og))))), (o, .inl (G.2 5, 1, .inr (.inl of2_4625)))] ++ (W2_4627 ++ (W2_4633 ++ []))) : va_W).Perm (([(o, .inl (G.2 5, 1, .inr (.inl of2_4625))), (oD, .inl (G.2 6, 1, .inr (.inr (.inr (.inl og)))))] ++ (W2_4627 ++ (W2_4633 ++ []))) ++ []) := segs_perm [[(oD, .inl (G.2 6, 1, .inr (.inr (.inr (.inl og)))))], [(o, .inl (G.2 5, 1, .inr (.inl of2_4625)))], W2_4627, W2_4633] [1, 0, 2, 3] [] rfl
    have hP : va_P G.1 CL ([(o, .inl (G.2 5, 1, .inr (.inl of2_4625))), (oD, .inl (G.2 6, 1, .inr (.inr (.inr (.inl og)))))] ++ (W2_4627 ++ (W2_4633 ++ []))) H := P_left (P_perm hpm_4641 hP)
    have hD : va_D A ([(o, .inl (G.2 5, 1, .inr (.inl of2_4625))), (oD, .inl (G.2 6, 1, .inr (.inr (.inr (.inl og)))))] ++ (W2_4627 ++ (W2_4633 ++ []))) := D_left (D_perm hpm_4641 hD)
    have hl := lv_sub hl [2, 3, 4, 5, 6, 7] (l' := [(0, .ref b), (1, .ref d), (2, .ref m0), (3, .ref o), (4, .ref oD), (5, .int (nI i9))]) rfl
    exact W.widen (show cl + 1500 ≤ cl + 20000 from by omega) (show sl + 3000 ≤ sl + 45000 from by omega) (kk ls H locs C M 1 W2_4627 W2_4633 of2_4625 og hP hD hS hl hDy2 hMd2 hLw.up)
  · obtain ⟨rfl, hof9, hDy2⟩ := hq_4628 z_4637 hin
    obtain ⟨hrr9, hMd2⟩ := hq_4634 z_4637 (by rw [hbd]; exact hin)
    refine lv_ton (n := 13) (hrr9) ?_
    refine lv_istore (lv' := [(7, .int (nI 13)), (6, .int (nI 0)), (0, .ref b), (1, .ref d), (2, .ref m0), (3, .ref o), (4, .ref oD), (5, .int (nI i9))]) hx hb dL_law_2598 hl (by decide) rfl (fun ls hl => ?_)
    refine lv_aload_n hx hb dL_law_2600 rfl (lv_at hl 4 rfl) ?_
    have hpm_4642 : (([(oD, .inl (G.2 6, 1, .inr (.inr (.inr (.inl og))))), (o, .inl (G.2 5, 1, .inr (.inl of2_4625)))] ++ (W2_4627 ++ (W2_4633 ++ []))) : va_W).Perm ([] ++ ([(oD, .inl (G.2 6, 1, .inr (.inr (.inr (.inl og))))), (o, .inl (G.2 5, 1, .inr (.inl of2_4625)))] ++ (W2_4627 ++ (W2_4633 ++ [])))) := segs_perm [[(oD, .inl (G.2 6, 1, .inr (.inr (.inr (.inl og)))))], [(o, .inl (G.2 5, 1, .inr (.inl of2_4625)))], W2_4627, W2_4633] [] [0, 1, 2, 3] rfl
    have hF := hF_ofP (wc := []) hD hS hA hpm_4642
    refine go_ctP hS hP hD hpm_4642 hF
        (va_runV (As := []) (rest := []) cf (eX4_thrown l G m0 ((dC M, dS M, dK M, dH M, wkF (dC M) z_4637, 13) : DS) 0 W2_4633 (hMd2) H.size) (cwV 0 hts (lw_V q1639 q1640 q1641 q58 q1642) rfl rfl rfl (by decide +kernel) ⟨Nat.le_of_ble_eq_true rfl, Nat.le_of_ble_eq_true rfl⟩) (preV_of hKB hE hS hF (MdW.recv hK hMd2 (seg_at [[(oD, .inl (G.2 6, 1, .inr (.inr (.inr (.inl og)))))], [(o, .inl (G.2 5, 1, .inr (.inl of2_4625)))], W2_4627, W2_4633] 3 rfl hP)) (P_left (P_perm hpm_4642 hP)) ((D_left (D_perm hpm_4642 hD)).weaken (fun _ _ _ _ => trivial)) (roW.nil (seg_at [[(oD, .inl (G.2 6, 1, .inr (.inr (.inr (.inl og)))))], [(o, .inl (G.2 5, 1, .inr (.inl of2_4625)))], W2_4627, W2_4633] 3 rfl hP))) rfl rfl hl.1 rfl (lv_room (Nat.le_of_ble_eq_true rfl)) dL_law_2601 ⟨show cl + 1500 + 0 ≤ 1200144 from by first | decide | omega, show sl + 3000 + 0 ≤ 5495674 from by first | decide | omega⟩)
        (fun u_ H locs hq hph (hP : va_P G.1 CL (([(oD, .inl (G.2 6, 1, .inr (.inr (.inr (.inl og))))), (o, .inl (G.2 5, 1, .inr (.inl of2_4625)))] ++ (W2_4627 ++ (W2_4633 ++ []))) ++ []) H) (hD : va_D A (([(oD, .inl (G.2 6, 1, .inr (.inr (.inr (.inl og))))), (o, .inl (G.2 5, 1, .inr (.inl of2_4625)))] ++ (W2_4627 ++ (W2_4633 ++ []))) ++ [])) hS hfz hfk => ?_)
    have hpm_4643 : (([(oD, .inl (G.2 6, 1, .inr (.inr (.inr (.inl og))))), (o, .inl (G.2 5, 1, .inr (.inl of2_4625)))] ++ (W2_4627 ++ (W2_4633 ++ []))) ++ [] : va_W).Perm ([(oD, .inl (G.2 6, 1, .inr (.inr (.inr (.inl og))))), (o, .inl (G.2 5, 1, .inr (.inl of2_4625)))] ++ (W2_4627 ++ (W2_4633 ++ []))) := segs_perm2 [[(oD, .inl (G.2 6, 1, .inr (.inr (.inr (.inl og)))))], [(o, .inl (G.2 5, 1, .inr (.inl of2_4625)))], W2_4627, W2_4633] [] [0, 1, 2, 3] rfl
    have hP : va_P G.1 CL ([(oD, .inl (G.2 6, 1, .inr (.inr (.inr (.inl og))))), (o, .inl (G.2 5, 1, .inr (.inl of2_4625)))] ++ (W2_4627 ++ (W2_4633 ++ []))) H := P_perm hpm_4643 hP
    have hD : va_D A ([(oD, .inl (G.2 6, 1, .inr (.inr (.inr (.inl og))))), (o, .inl (G.2 5, 1, .inr (.inl of2_4625)))] ++ (W2_4627 ++ (W2_4633 ++ []))) := D_perm hpm_4643 hD
    refine W.eq (g2 := F0 m 2604 ls [.int (nI 0)]) rfl ?_
    refine lv_iload hx hb dL_law_2604 (lv_at hl 1 rfl) ?_
    refine lv_icmp_eq (tgt := 2611) hx hb dL_law_2606 (by decide) (fun _ => ?_) (fun c9 => absurd rfl c9)
    refine lv_iload hx hb dL_law_2611 (lv_at hl 1 rfl) ?_
    refine n_if_ne (tgt := 2628) hx hb (by omega) dL_law_2613 (by decide) (fun c_4644 => absurd c_4644 (by omega)) (fun c_4644 => ?_)
    refine lv_aload_n hx hb dL_law_2616 rfl (lv_at hl 5 rfl) ?_
    refine lv_iconst (v := nI 0) hx hb dL_law_2617 (by decide) ?_
    refine r_lald (v := (nI 13).toInt64) hx hb hK hP 1 5 rfl rfl (i := 0) (by omega) (by omega) (hof9) dL_law_2618 ?_
    refine lv_iload hx hb dL_law_2619 (lv_at hl 0 rfl) ?_
    refine lv_i2l (v := (nI 13).toInt64) hx hb dL_law_2621 rfl ?_
    refine W.lcmp hx hb dL_law_2622 ?_
    refine lv_ton (n := 0) (lcmp0 _) ?_
    refine n_if_eq (tgt := 2628) hx hb (by omega) dL_law_2623 (by decide) (fun c_4645 => ?_) (fun c_4645 => absurd c_4645 (by omega))
    refine lv_goto (tgt := 2788) hx hb dL_law_2628 (by decide) ?_
    have hpm_4646 : (([(oD, .inl (G.2 6, 1, .inr (.inr (.inr (.inl og))))), (o, .inl (G.2 5, 1, .inr (.inl of2_4625)))] ++ (W2_4627 ++ (W2_4633 ++ []))) : va_W).Perm (([(o, .inl (G.2 5, 1, .inr (.inl of2_4625))), (oD, .inl (G.2 6, 1, .inr (.inr (.inr (.inl og)))))] ++ (W2_4627 ++ (W2_4633 ++ []))) ++ []) := segs_perm [[(oD, .inl (G.2 6, 1, .inr (.inr (.inr (.inl og)))))], [(o, .inl (G.2 5, 1, .inr (.inl of2_4625)))], W2_4627, W2_4633] [1, 0, 2, 3] [] rfl
    have hP : va_P G.1 CL ([(o, .inl (G.2 5, 1, .inr (.inl of2_4625))), (oD, .inl (G.2 6, 1, .inr (.inr (.inr (.inl og)))))] ++ (W2_4627 ++ (W2_4633 ++ []))) H := P_left (P_perm hpm_4646 hP)
    have hD : va_D A ([(o, .inl (G.2 5, 1, .inr (.inl of2_4625))), (oD, .inl (G.2 6, 1, .inr (.inr (.inr (.inl og)))))] ++ (W2_4627 ++ (W2_4633 ++ []))) := D_left (D_perm hpm_4646 hD)
    have hl := lv_sub hl [2, 3, 4, 5, 6, 7] (l' := [(0, .ref b), (1, .ref d), (2, .ref m0), (3, .ref o), (4, .ref oD), (5, .int (nI i9))]) rfl
    exact W.widen (show cl + 1500 ≤ cl + 20000 from by omega) (show sl + 3000 ≤ sl + 45000 from by omega) (kk ls H locs ((dC C, dS C, dK C, dH C, wkF (dC C) z_4637, 13) : DS) ((dC M, dS M, dK M, dH M, wkF (dC M) z_4637, 13) : DS) 0 W2_4627 W2_4633 of2_4625 og hP hD hS hl hDy2 hMd2 (hLw.week hIc))

set_option maxHeartbeats 4000000 in
theorem lawK_47 {p : Program} {l : Launch} {e : Env} {s : State} {m : MethodId} {below : List Frame} {meth : Method} {c : Code} {G : Gt} {A : Nat → Prop} {b L : Nat} {xs : Nat → Int32} {Q : State → Prop} {d m0 o oD i9 N cl sl : Nat} (hfl : l.stackTraces = false) (F : LwF G A p s m c b L xs) (hi9 : i9 + 4 ≤ L) (hN24 : N ≤ 24) (hcl : cl + 20000 ≤ 1200144) (hsl : sl + 45000 ≤ 5495674) (kk : ∀ (ls : Array Slot) (H : Heap) (locs : List Loc) (C M : DS) (th : Nat) (WD WM : va_W) (of : Nat → Int64) (og : Nat → UInt64), va_P G.1 CL ([(o, .inl (G.2 5, 1, .inr (.inl of))), (oD, .inl (G.2 6, 1, .inr (.inr (.inr (.inl og)))))] ++ (WD ++ (WM ++ []))) H → va_D A ([(o, .inl (G.2 5, 1, .inr (.inl of))), (oD, .inl (G.2 6, 1, .inr (.inr (.inr (.inl og)))))] ++ (WD ++ (WM ++ []))) → va_S A s.heap H locs → lv_has ls 10 [(0, .ref b), (1, .ref d), (2, .ref m0), (3, .ref o), (4, .ref oD), (5, .int (nI i9))] → DyW G d C WD → MdW G m0 M th WM → LawI C M (N + 1) → W p l e room_1 s m #[Value.ref b] below meth c H locs (cl + 20000) (sl + 45000) Q (F0 m 2788 ls [])) {ls : Array Slot} {H : Heap} {locs : List Loc} {C M : DS} {th : Nat} {WD WM : va_W} {of : Nat → Int64} {og : Nat → UInt64} (hP : va_P G.1 CL ([(o, .inl (G.2 5, 1, .inr (.inl of))), (oD, .inl (G.2 6, 1, .inr (.inr (.inr (.inl og)))))] ++ (WD ++ (WM ++ []))) H) (hD : va_D A ([(o, .inl (G.2 5, 1, .inr (.inl of))), (oD, .inl (G.2 6, 1, .inr (.inr (.inr (.inl og)))))] ++ (WD ++ (WM ++ [])))) (hS : va_S A s.heap H locs) (hl : lv_has ls 10 [(0, .ref b), (1, .ref d), (2, .ref m0), (3, .ref o), (4, .ref oD), (5, .int (nI i9))]) (hDy : DyW G d C WD) (hMd : MdW G m0 M th WM) (hLw : LawI C M N) : W p l e room_1 s m #[Value.ref b] below meth c H locs cl sl Q (F0 m 2631 ls []) := by
  obtain ⟨cf, hKB, hE, hA, hX9, hbl, hbA, hNc, hL96⟩ := F
  have hx := cf.1
  have hb := cf.2.1
  have hml := cf.2.2.1
  have hown : s.vm.findClass RX0 = some m.cls := cf.2.2.2.1
  have hts := cf.2.2.2.2
  have hK := hKB.1
  have hIc := hDy.inv.1
  have hIm : Inv (dC M) := Inv_sim hLw.1 hIc
  have hRk : RkOk (dC M) := RkOk_sim hLw.1 (RkOk_srt hDy.inv.2.2)
  have hl := hl
  refine lv_aload_n hx hb dL_law_2631 rfl (lv_at hl 1 rfl) ?_
  refine lv_aload_n hx hb dL_law_2632 rfl (lv_at hl 0 rfl) ?_
  refine lv_iload hx hb dL_law_2633 (lv_at hl 5 rfl) ?_
  refine lv_iconst (v := nI 1) hx hb dL_law_2635 (by decide) ?_
  refine lv_iadd hx hb dL_law_2636 ?_
  refine lv_ton (n := i9 + 1) (nadd (by omega)) ?_
  refine va_sld hx hb hX9 hbl hbA hS (i := nI (i9 + 1)) (vp9 (by omega) hL96) dL_law_2637 ?_
  refine W.eq (g2 := F0 m 2638 ls [.int (sx9 xs (i9 + 1)), .ref d]) rfl ?_
  refine lv_aload_n hx hb dL_law_2638 rfl (lv_at hl 3 rfl) ?_
  have hpm_4647 : (([(o, .inl (G.2 5, 1, .inr (.inl of))), (oD, .inl (G.2 6, 1, .inr (.inr (.inr (.inl og)))))] ++ (WD ++ (WM ++ []))) : va_W).Perm (([(o, .inl (G.2 5, 1, .inr (.inl of)))] ++ (WD ++ [])) ++ ([(oD, .inl (G.2 6, 1, .inr (.inr (.inr (.inl og)))))] ++ (WM ++ []))) := segs_perm [[(o, .inl (G.2 5, 1, .inr (.inl of)))], [(oD, .inl (G.2 6, 1, .inr (.inr (.inr (.inl og)))))], WD, WM] [0, 2] [1, 3] rfl
  have hF := hF_ofP (wc := ([(o, .inl (G.2 5, 1, .inr (.inl of)))] ++ (WD ++ []))) hD hS hA hpm_4647
  refine go_ctP hS hP hD hpm_4647 hF
      (vx_runSW (As := [.ref d, .int (sx9 xs (i9 + 1)), .ref o]) (rest := []) cf (wX0_lineAt l G d C WD o of (sx9 xs (i9 + 1)) (hDy) hfl H.size) (vx_cwSW 3 hts (lw_SW q1534 q1535 q46 q1536) rfl rfl rfl (by decide +kernel) ⟨Nat.le_of_ble_eq_true rfl, Nat.le_of_ble_eq_true rfl⟩) (preS_ofW hNc hKB hE hS hF (P_left (P_perm hpm_4647 hP)) ((D_left (D_perm hpm_4647 hD)).weaken (fun _ _ _ _ => trivial)) trivial) rfl rfl hl.1 rfl (lv_room (Nat.le_of_ble_eq_true rfl)) dL_law_2639 ⟨show cl + 2 ≤ 1200144 from by first | decide | omega, show sl + 8 ≤ 5495674 from by first | decide | omega⟩)
      (fun u_ H locs hq hph (hP : va_P G.1 CL (([(oD, .inl (G.2 6, 1, .inr (.inr (.inr (.inl og)))))] ++ (WM ++ [])) ++ ([(o, .inl (G.2 5, 1, .inr (.inl u_.1)))] ++ (u_.2 ++ []))) H) (hD : va_D A (([(oD, .inl (G.2 6, 1, .inr (.inr (.inr (.inl og)))))] ++ (WM ++ [])) ++ ([(o, .inl (G.2 5, 1, .inr (.inl u_.1)))] ++ (u_.2 ++ [])))) hS hfz hfk => ?_)
  obtain ⟨of2_4648, W2_4649⟩ := u_
  obtain ⟨hq_4650, hq_4651, hq_4652⟩ : ((q_line (dL C) (dN C) (sx9 xs (i9 + 1))).1 = 0 → of2_4648 0 = ((q_line (dL C) (dN C) (sx9 xs (i9 + 1))).2).toInt64) ∧ (q_line (dL C) (dN C) (sx9 xs (i9 + 1))).1 < 10 ∧ DyW G d C W2_4649 := hq
  have hpm_4653 : (([(oD, .inl (G.2 6, 1, .inr (.inr (.inr (.inl og)))))] ++ (WM ++ [])) ++ ([(o, .inl (G.2 5, 1, .inr (.inl of2_4648)))] ++ (W2_4649 ++ [])) : va_W).Perm ([(oD, .inl (G.2 6, 1, .inr (.inr (.inr (.inl og))))), (o, .inl (G.2 5, 1, .inr (.inl of2_4648)))] ++ (WM ++ (W2_4649 ++ []))) := segs_perm2 [[(oD, .inl (G.2 6, 1, .inr (.inr (.inr (.inl og)))))], WM] [[(o, .inl (G.2 5, 1, .inr (.inl of2_4648)))], W2_4649] [0, 2, 1, 3] rfl
  have hP : va_P G.1 CL ([(oD, .inl (G.2 6, 1, .inr (.inr (.inr (.inl og))))), (o, .inl (G.2 5, 1, .inr (.inl of2_4648)))] ++ (WM ++ (W2_4649 ++ []))) H := P_perm hpm_4653 hP
  have hD : va_D A ([(oD, .inl (G.2 6, 1, .inr (.inr (.inr (.inl og))))), (o, .inl (G.2 5, 1, .inr (.inl of2_4648)))] ++ (WM ++ (W2_4649 ++ []))) := D_perm hpm_4653 hD
  refine W.eq (g2 := F0 m 2642 ls [.int (nI (((q_line (dL C) (dN C) (sx9 xs (i9 + 1)))).1))]) rfl ?_
  have hqs : (q_line (dL M) (dN M) (sx9 xs (i9 + 1))) = (q_line (dL C) (dN C) (sx9 xs (i9 + 1))) := (hLw.line (by have := hDy.line13; omega) (sx9 xs (i9 + 1))).symm
  refine lv_istore (lv' := [(6, .int (nI (((q_line (dL C) (dN C) (sx9 xs (i9 + 1)))).1))), (0, .ref b), (1, .ref d), (2, .ref m0), (3, .ref o), (4, .ref oD), (5, .int (nI i9))]) hx hb dL_law_2642 hl (by decide) rfl (fun ls hl => ?_)
  refine lv_aload_n hx hb dL_law_2644 rfl (lv_at hl 3 rfl) ?_
  refine lv_aload_n hx hb dL_law_2645 rfl (lv_at hl 1 rfl) ?_
  refine lv_iload hx hb dL_law_2646 (lv_at hl 6 rfl) ?_
  refine lv_iconst (v := nI 1) hx hb dL_law_2648 (by decide) ?_
  refine lv_iadd hx hb dL_law_2649 ?_
  refine lv_ton (n := i9 + 1) (nadd (by omega)) ?_
  refine va_sld hx hb hX9 hbl hbA hS (i := nI (i9 + 1)) (vp9 (by omega) hL96) dL_law_2650 ?_
  refine W.eq (g2 := F0 m 2651 ls [.int (sx9 xs (i9 + 1)), .ref m0]) rfl ?_
  have hpm_4654 : (([(oD, .inl (G.2 6, 1, .inr (.inr (.inr (.inl og))))), (o, .inl (G.2 5, 1, .inr (.inl of2_4648)))] ++ (WM ++ (W2_4649 ++ []))) : va_W).Perm ((WM ++ []) ++ ([(oD, .inl (G.2 6, 1, .inr (.inr (.inr (.inl og))))), (o, .inl (G.2 5, 1, .inr (.inl of2_4648)))] ++ (W2_4649 ++ []))) := segs_perm [[(oD, .inl (G.2 6, 1, .inr (.inr (.inr (.inl og)))))], [(o, .inl (G.2 5, 1, .inr (.inl of2_4648)))], WM, W2_4649] [2] [0, 1, 3] rfl
  have hF := hF_ofP (wc := (WM ++ [])) hD hS hA hpm_4654
  refine go_ctP hS hP hD hpm_4654 hF
      (va_runV (As := [.int (sx9 xs (i9 + 1))]) (rest := []) cf (eX4_lineAt l G m0 M th WM (sx9 xs (i9 + 1)) (hMd) H.size) (cwV 1 hts (lw_V q1946 q1947 q1948 q58 q1949) rfl rfl rfl (by decide +kernel) ⟨Nat.le_of_ble_eq_true rfl, Nat.le_of_ble_eq_true rfl⟩) (preV_of hKB hE hS hF (MdW.recv hK hMd (seg_at [[(oD, .inl (G.2 6, 1, .inr (.inr (.inr (.inl og)))))], [(o, .inl (G.2 5, 1, .inr (.inl of2_4648)))], WM, W2_4649] 2 rfl hP)) (P_left (P_perm hpm_4654 hP)) ((D_left (D_perm hpm_4654 hD)).weaken (fun _ _ _ _ => trivial)) trivial) rfl rfl hl.1 rfl (lv_room (Nat.le_of_ble_eq_true rfl)) dL_law_2651 ⟨show cl + 2 + 0 ≤ 1200144 from by first | decide | omega, show sl + 8 + 0 ≤ 5495674 from by first | decide | omega⟩)
      (fun u_ H locs hq hph (hP : va_P G.1 CL (([(oD, .inl (G.2 6, 1, .inr (.inr (.inr (.inl og))))), (o, .inl (G.2 5, 1, .inr (.inl of2_4648)))] ++ (W2_4649 ++ [])) ++ (u_.2 ++ [])) H) (hD : va_D A (([(oD, .inl (G.2 6, 1, .inr (.inr (.inr (.inl og))))), (o, .inl (G.2 5, 1, .inr (.inl of2_4648)))] ++ (W2_4649 ++ [])) ++ (u_.2 ++ []))) hS hfz hfk => ?_)
  obtain ⟨rr_4655, W2_4656⟩ := u_
  obtain ⟨hq_4657, hq_4658⟩ : ((q_line (dL M) (dN M) (sx9 xs (i9 + 1))).1 = 0 → rr_4655 = (q_line (dL M) (dN M) (sx9 xs (i9 + 1))).2) ∧ MdW G m0 M (q_line (dL M) (dN M) (sx9 xs (i9 + 1))).1 W2_4656 := hq
  have hpm_4659 : (([(oD, .inl (G.2 6, 1, .inr (.inr (.inr (.inl og))))), (o, .inl (G.2 5, 1, .inr (.inl of2_4648)))] ++ (W2_4649 ++ [])) ++ (W2_4656 ++ []) : va_W).Perm ([(oD, .inl (G.2 6, 1, .inr (.inr (.inr (.inl og))))), (o, .inl (G.2 5, 1, .inr (.inl of2_4648)))] ++ (W2_4649 ++ (W2_4656 ++ []))) := segs_perm2 [[(oD, .inl (G.2 6, 1, .inr (.inr (.inr (.inl og)))))], [(o, .inl (G.2 5, 1, .inr (.inl of2_4648)))], W2_4649] [W2_4656] [0, 1, 2, 3] rfl
  have hP : va_P G.1 CL ([(oD, .inl (G.2 6, 1, .inr (.inr (.inr (.inl og))))), (o, .inl (G.2 5, 1, .inr (.inl of2_4648)))] ++ (W2_4649 ++ (W2_4656 ++ []))) H := P_perm hpm_4659 hP
  have hD : va_D A ([(oD, .inl (G.2 6, 1, .inr (.inr (.inr (.inl og))))), (o, .inl (G.2 5, 1, .inr (.inl of2_4648)))] ++ (W2_4649 ++ (W2_4656 ++ []))) := D_perm hpm_4659 hD
  refine W.eq (g2 := F0 m 2654 ls [.int rr_4655]) rfl ?_
  refine lv_istore (lv' := [(7, .int rr_4655), (6, .int (nI (((q_line (dL C) (dN C) (sx9 xs (i9 + 1)))).1))), (0, .ref b), (1, .ref d), (2, .ref m0), (3, .ref o), (4, .ref oD), (5, .int (nI i9))]) hx hb dL_law_2654 hl (by decide) rfl (fun ls hl => ?_)
  refine lv_aload_n hx hb dL_law_2656 rfl (lv_at hl 4 rfl) ?_
  have hpm_4660 : (([(oD, .inl (G.2 6, 1, .inr (.inr (.inr (.inl og))))), (o, .inl (G.2 5, 1, .inr (.inl of2_4648)))] ++ (W2_4649 ++ (W2_4656 ++ []))) : va_W).Perm ([] ++ ([(oD, .inl (G.2 6, 1, .inr (.inr (.inr (.inl og))))), (o, .inl (G.2 5, 1, .inr (.inl of2_4648)))] ++ (W2_4649 ++ (W2_4656 ++ [])))) := segs_perm [[(oD, .inl (G.2 6, 1, .inr (.inr (.inr (.inl og)))))], [(o, .inl (G.2 5, 1, .inr (.inl of2_4648)))], W2_4649, W2_4656] [] [0, 1, 2, 3] rfl
  have hF := hF_ofP (wc := []) hD hS hA hpm_4660
  refine go_ctP hS hP hD hpm_4660 hF
      (va_runV (As := []) (rest := []) cf (eX4_thrown l G m0 M ((q_line (dL M) (dN M) (sx9 xs (i9 + 1))).1) W2_4656 (hq_4658) H.size) (cwV 0 hts (lw_V q1639 q1640 q1641 q58 q1642) rfl rfl rfl (by decide +kernel) ⟨Nat.le_of_ble_eq_true rfl, Nat.le_of_ble_eq_true rfl⟩) (preV_of hKB hE hS hF (MdW.recv hK hq_4658 (seg_at [[(oD, .inl (G.2 6, 1, .inr (.inr (.inr (.inl og)))))], [(o, .inl (G.2 5, 1, .inr (.inl of2_4648)))], W2_4649, W2_4656] 3 rfl hP)) (P_left (P_perm hpm_4660 hP)) ((D_left (D_perm hpm_4660 hD)).weaken (fun _ _ _ _ => trivial)) (roW.nil (seg_at [[(oD, .inl (G.2 6, 1, .inr (.inr (.inr (.inl og)))))], [(o, .inl (G.2 5, 1, .inr (.inl of2_4648)))], W2_4649, W2_4656] 3 rfl hP))) rfl rfl hl.1 rfl (lv_room (Nat.le_of_ble_eq_true rfl)) dL_law_2657 ⟨show cl + 2 + 0 ≤ 1200144 from by first | decide | omega, show sl + 8 + 0 ≤ 5495674 from by first | decide | omega⟩)
      (fun u_ H locs hq hph (hP : va_P G.1 CL (([(oD, .inl (G.2 6, 1, .inr (.inr (.inr (.inl og))))), (o, .inl (G.2 5, 1, .inr (.inl of2_4648)))] ++ (W2_4649 ++ (W2_4656 ++ []))) ++ []) H) (hD : va_D A (([(oD, .inl (G.2 6, 1, .inr (.inr (.inr (.inl og))))), (o, .inl (G.2 5, 1, .inr (.inl of2_4648)))] ++ (W2_4649 ++ (W2_4656 ++ []))) ++ [])) hS hfz hfk => ?_)
  have hpm_4661 : (([(oD, .inl (G.2 6, 1, .inr (.inr (.inr (.inl og))))), (o, .inl (G.2 5, 1, .inr (.inl of2_4648)))] ++ (W2_4649 ++ (W2_4656 ++ []))) ++ [] : va_W).Perm ([(oD, .inl (G.2 6, 1, .inr (.inr (.inr (.inl og))))), (o, .inl (G.2 5, 1, .inr (.inl of2_4648)))] ++ (W2_4649 ++ (W2_4656 ++ []))) := segs_perm2 [[(oD, .inl (G.2 6, 1, .inr (.inr (.inr (.inl og)))))], [(o, .inl (G.2 5, 1, .inr (.inl of2_4648)))], W2_4649, W2_4656] [] [0, 1, 2, 3] rfl
  have hP : va_P G.1 CL ([(oD, .inl (G.2 6, 1, .inr (.inr (.inr (.inl og))))), (o, .inl (G.2 5, 1, .inr (.inl of2_4648)))] ++ (W2_4649 ++ (W2_4656 ++ []))) H := P_perm hpm_4661 hP
  have hD : va_D A ([(oD, .inl (G.2 6, 1, .inr (.inr (.inr (.inl og))))), (o, .inl (G.2 5, 1, .inr (.inl of2_4648)))] ++ (W2_4649 ++ (W2_4656 ++ []))) := D_perm hpm_4661 hD
  refine W.eq (g2 := F0 m 2660 ls [.int (nI ((q_line (dL M) (dN M) (sx9 xs (i9 + 1))).1))]) rfl ?_
  refine lv_ton (n := ((q_line (dL C) (dN C) (sx9 xs (i9 + 1))).1)) (congrArg nI (by rw [hqs])) ?_
  refine lv_iload hx hb dL_law_2660 (lv_at hl 1 rfl) ?_
  refine lv_icmp_eq (tgt := 2667) hx hb dL_law_2662 (by decide) (fun _ => ?_) (fun c9 => absurd rfl c9)
  refine lv_iload hx hb dL_law_2667 (lv_at hl 1 rfl) ?_
  refine n_if_ne (tgt := 2684) hx hb (by omega) dL_law_2669 (by decide) (fun c_4662 => ?_) (fun c_4662 => ?_)
  · refine lv_goto (tgt := 2788) hx hb dL_law_2684 (by decide) ?_
    have hpm_4663 : (([(oD, .inl (G.2 6, 1, .inr (.inr (.inr (.inl og))))), (o, .inl (G.2 5, 1, .inr (.inl of2_4648)))] ++ (W2_4649 ++ (W2_4656 ++ []))) : va_W).Perm (([(o, .inl (G.2 5, 1, .inr (.inl of2_4648))), (oD, .inl (G.2 6, 1, .inr (.inr (.inr (.inl og)))))] ++ (W2_4649 ++ (W2_4656 ++ []))) ++ []) := segs_perm [[(oD, .inl (G.2 6, 1, .inr (.inr (.inr (.inl og)))))], [(o, .inl (G.2 5, 1, .inr (.inl of2_4648)))], W2_4649, W2_4656] [1, 0, 2, 3] [] rfl
    have hP : va_P G.1 CL ([(o, .inl (G.2 5, 1, .inr (.inl of2_4648))), (oD, .inl (G.2 6, 1, .inr (.inr (.inr (.inl og)))))] ++ (W2_4649 ++ (W2_4656 ++ []))) H := P_left (P_perm hpm_4663 hP)
    have hD : va_D A ([(o, .inl (G.2 5, 1, .inr (.inl of2_4648))), (oD, .inl (G.2 6, 1, .inr (.inr (.inr (.inl og)))))] ++ (W2_4649 ++ (W2_4656 ++ []))) := D_left (D_perm hpm_4663 hD)
    have hl := lv_sub hl [2, 3, 4, 5, 6, 7] (l' := [(0, .ref b), (1, .ref d), (2, .ref m0), (3, .ref o), (4, .ref oD), (5, .int (nI i9))]) rfl
    exact W.widen (show cl + 2 ≤ cl + 20000 from by omega) (show sl + 8 ≤ sl + 45000 from by omega) (kk ls H locs C M ((q_line (dL M) (dN M) (sx9 xs (i9 + 1))).1) W2_4649 W2_4656 of2_4648 og hP hD hS hl hq_4652 hq_4658 hLw.up)
  · refine lv_aload_n hx hb dL_law_2672 rfl (lv_at hl 5 rfl) ?_
    refine lv_iconst (v := nI 0) hx hb dL_law_2673 (by decide) ?_
    refine r_lald (v := ((q_line (dL C) (dN C) (sx9 xs (i9 + 1))).2).toInt64) hx hb hK hP 1 5 rfl rfl (i := 0) (by omega) (by omega) ((hq_4650 (by omega))) dL_law_2674 ?_
    refine lv_iload hx hb dL_law_2675 (lv_at hl 0 rfl) ?_
    refine lv_toi (y := (q_line (dL C) (dN C) (sx9 xs (i9 + 1))).2) ((hq_4657 (by rw [hqs]; omega)).trans (by rw [hqs])) ?_
    refine lv_i2l (v := ((q_line (dL C) (dN C) (sx9 xs (i9 + 1))).2).toInt64) hx hb dL_law_2677 rfl ?_
    refine W.lcmp hx hb dL_law_2678 ?_
    refine lv_ton (n := 0) (lcmp0 _) ?_
    refine n_if_eq (tgt := 2684) hx hb (by omega) dL_law_2679 (by decide) (fun c_4664 => ?_) (fun c_4664 => absurd c_4664 (by omega))
    refine lv_goto (tgt := 2788) hx hb dL_law_2684 (by decide) ?_
    have hpm_4665 : (([(oD, .inl (G.2 6, 1, .inr (.inr (.inr (.inl og))))), (o, .inl (G.2 5, 1, .inr (.inl of2_4648)))] ++ (W2_4649 ++ (W2_4656 ++ []))) : va_W).Perm (([(o, .inl (G.2 5, 1, .inr (.inl of2_4648))), (oD, .inl (G.2 6, 1, .inr (.inr (.inr (.inl og)))))] ++ (W2_4649 ++ (W2_4656 ++ []))) ++ []) := segs_perm [[(oD, .inl (G.2 6, 1, .inr (.inr (.inr (.inl og)))))], [(o, .inl (G.2 5, 1, .inr (.inl of2_4648)))], W2_4649, W2_4656] [1, 0, 2, 3] [] rfl
    have hP : va_P G.1 CL ([(o, .inl (G.2 5, 1, .inr (.inl of2_4648))), (oD, .inl (G.2 6, 1, .inr (.inr (.inr (.inl og)))))] ++ (W2_4649 ++ (W2_4656 ++ []))) H := P_left (P_perm hpm_4665 hP)
    have hD : va_D A ([(o, .inl (G.2 5, 1, .inr (.inl of2_4648))), (oD, .inl (G.2 6, 1, .inr (.inr (.inr (.inl og)))))] ++ (W2_4649 ++ (W2_4656 ++ []))) := D_left (D_perm hpm_4665 hD)
    have hl := lv_sub hl [2, 3, 4, 5, 6, 7] (l' := [(0, .ref b), (1, .ref d), (2, .ref m0), (3, .ref o), (4, .ref oD), (5, .int (nI i9))]) rfl
    exact W.widen (show cl + 2 ≤ cl + 20000 from by omega) (show sl + 8 ≤ sl + 45000 from by omega) (kk ls H locs C M ((q_line (dL M) (dN M) (sx9 xs (i9 + 1))).1) W2_4649 W2_4656 of2_4648 og hP hD hS hl hq_4652 hq_4658 hLw.up)

set_option maxHeartbeats 4000000 in
theorem lawK_48 {p : Program} {l : Launch} {e : Env} {s : State} {m : MethodId} {below : List Frame} {meth : Method} {c : Code} {G : Gt} {A : Nat → Prop} {b L : Nat} {xs : Nat → Int32} {Q : State → Prop} {d m0 o oD i9 N cl sl : Nat} (hfl : l.stackTraces = false) (F : LwF G A p s m c b L xs) (hi9 : i9 + 4 ≤ L) (hN24 : N ≤ 24) (hcl : cl + 20000 ≤ 1200144) (hsl : sl + 45000 ≤ 5495674) (kk : ∀ (ls : Array Slot) (H : Heap) (locs : List Loc) (C M : DS) (th : Nat) (WD WM : va_W) (of : Nat → Int64) (og : Nat → UInt64), va_P G.1 CL ([(o, .inl (G.2 5, 1, .inr (.inl of))), (oD, .inl (G.2 6, 1, .inr (.inr (.inr (.inl og)))))] ++ (WD ++ (WM ++ []))) H → va_D A ([(o, .inl (G.2 5, 1, .inr (.inl of))), (oD, .inl (G.2 6, 1, .inr (.inr (.inr (.inl og)))))] ++ (WD ++ (WM ++ []))) → va_S A s.heap H locs → lv_has ls 10 [(0, .ref b), (1, .ref d), (2, .ref m0), (3, .ref o), (4, .ref oD), (5, .int (nI i9))] → DyW G d C WD → MdW G m0 M th WM → LawI C M (N + 1) → W p l e room_1 s m #[Value.ref b] below meth c H locs (cl + 20000) (sl + 45000) Q (F0 m 2788 ls [])) {ls : Array Slot} {H : Heap} {locs : List Loc} {C M : DS} {th : Nat} {WD WM : va_W} {of : Nat → Int64} {og : Nat → UInt64} (hP : va_P G.1 CL ([(o, .inl (G.2 5, 1, .inr (.inl of))), (oD, .inl (G.2 6, 1, .inr (.inr (.inr (.inl og)))))] ++ (WD ++ (WM ++ []))) H) (hD : va_D A ([(o, .inl (G.2 5, 1, .inr (.inl of))), (oD, .inl (G.2 6, 1, .inr (.inr (.inr (.inl og)))))] ++ (WD ++ (WM ++ [])))) (hS : va_S A s.heap H locs) (hl : lv_has ls 10 [(0, .ref b), (1, .ref d), (2, .ref m0), (3, .ref o), (4, .ref oD), (5, .int (nI i9))]) (hDy : DyW G d C WD) (hMd : MdW G m0 M th WM) (hLw : LawI C M N) : W p l e room_1 s m #[Value.ref b] below meth c H locs cl sl Q (F0 m 2687 ls []) := by
  obtain ⟨cf, hKB, hE, hA, hX9, hbl, hbA, hNc, hL96⟩ := F
  have hx := cf.1
  have hb := cf.2.1
  have hml := cf.2.2.1
  have hown : s.vm.findClass RX0 = some m.cls := cf.2.2.2.1
  have hts := cf.2.2.2.2
  have hK := hKB.1
  have hIc := hDy.inv.1
  have hIm : Inv (dC M) := Inv_sim hLw.1 hIc
  have hRk : RkOk (dC M) := RkOk_sim hLw.1 (RkOk_srt hDy.inv.2.2)
  have hl := hl
  refine lv_aload_n hx hb dL_law_2687 rfl (lv_at hl 1 rfl) ?_
  refine lv_aload_n hx hb dL_law_2688 rfl (lv_at hl 3 rfl) ?_
  have hpm_4666 : (([(o, .inl (G.2 5, 1, .inr (.inl of))), (oD, .inl (G.2 6, 1, .inr (.inr (.inr (.inl og)))))] ++ (WD ++ (WM ++ []))) : va_W).Perm (([(o, .inl (G.2 5, 1, .inr (.inl of)))] ++ (WD ++ [])) ++ ([(oD, .inl (G.2 6, 1, .inr (.inr (.inr (.inl og)))))] ++ (WM ++ []))) := segs_perm [[(o, .inl (G.2 5, 1, .inr (.inl of)))], [(oD, .inl (G.2 6, 1, .inr (.inr (.inr (.inl og)))))], WD, WM] [0, 2] [1, 3] rfl
  have hF := hF_ofP (wc := ([(o, .inl (G.2 5, 1, .inr (.inl of)))] ++ (WD ++ []))) hD hS hA hpm_4666
  refine go_ctP hS hP hD hpm_4666 hF
      (vx_runSW (As := [.ref d, .ref o]) (rest := []) cf (wX0_undo l G d C WD o of (hDy) hfl H.size) (vx_cwSW 2 hts (lw_SW q1551 q1552 q46 q1553) rfl rfl rfl (by decide +kernel) ⟨Nat.le_of_ble_eq_true rfl, Nat.le_of_ble_eq_true rfl⟩) (preS_ofW hNc hKB hE hS hF (P_left (P_perm hpm_4666 hP)) ((D_left (D_perm hpm_4666 hD)).weaken (fun _ _ _ _ => trivial)) trivial) rfl rfl hl.1 rfl (lv_room (Nat.le_of_ble_eq_true rfl)) dL_law_2689 ⟨show cl + 2 ≤ 1200144 from by first | decide | omega, show sl + 8 ≤ 5495674 from by first | decide | omega⟩)
      (fun u_ H locs hq hph (hP : va_P G.1 CL (([(oD, .inl (G.2 6, 1, .inr (.inr (.inr (.inl og)))))] ++ (WM ++ [])) ++ ([(o, .inl (G.2 5, 1, .inr (.inl u_.1)))] ++ (u_.2.2 ++ []))) H) (hD : va_D A (([(oD, .inl (G.2 6, 1, .inr (.inr (.inr (.inl og)))))] ++ (WM ++ [])) ++ ([(o, .inl (G.2 5, 1, .inr (.inl u_.1)))] ++ (u_.2.2 ++ [])))) hS hfz hfk => ?_)
  obtain ⟨of2_4667, k_4668, W2_4669⟩ := u_
  obtain ⟨hq_4670, hq_4671⟩ : (0 < dK C → k_4668 = 0 ∧ of2_4667 0 = (nI (dK C - 1)).toInt64 ∧ DyW G d ((dH C (dK C - 1), dS C, dK C - 1, dH C, dL C, dN C) : DS) W2_4669) ∧ (dK C = 0 → k_4668 = 1 ∧ DyW G d C W2_4669) := hq
  have hpm_4672 : (([(oD, .inl (G.2 6, 1, .inr (.inr (.inr (.inl og)))))] ++ (WM ++ [])) ++ ([(o, .inl (G.2 5, 1, .inr (.inl of2_4667)))] ++ (W2_4669 ++ [])) : va_W).Perm ([(oD, .inl (G.2 6, 1, .inr (.inr (.inr (.inl og))))), (o, .inl (G.2 5, 1, .inr (.inl of2_4667)))] ++ (WM ++ (W2_4669 ++ []))) := segs_perm2 [[(oD, .inl (G.2 6, 1, .inr (.inr (.inr (.inl og)))))], WM] [[(o, .inl (G.2 5, 1, .inr (.inl of2_4667)))], W2_4669] [0, 2, 1, 3] rfl
  have hP : va_P G.1 CL ([(oD, .inl (G.2 6, 1, .inr (.inr (.inr (.inl og))))), (o, .inl (G.2 5, 1, .inr (.inl of2_4667)))] ++ (WM ++ (W2_4669 ++ []))) H := P_perm hpm_4672 hP
  have hD : va_D A ([(oD, .inl (G.2 6, 1, .inr (.inr (.inr (.inl og))))), (o, .inl (G.2 5, 1, .inr (.inl of2_4667)))] ++ (WM ++ (W2_4669 ++ []))) := D_perm hpm_4672 hD
  refine W.eq (g2 := F0 m 2692 ls [.int (nI k_4668)]) rfl ?_
  refine lv_istore (lv' := [(6, .int (nI k_4668)), (0, .ref b), (1, .ref d), (2, .ref m0), (3, .ref o), (4, .ref oD), (5, .int (nI i9))]) hx hb dL_law_2692 hl (by decide) rfl (fun ls hl => ?_)
  refine lv_aload_n hx hb dL_law_2694 rfl (lv_at hl 3 rfl) ?_
  have hpm_4673 : (([(oD, .inl (G.2 6, 1, .inr (.inr (.inr (.inl og))))), (o, .inl (G.2 5, 1, .inr (.inl of2_4667)))] ++ (WM ++ (W2_4669 ++ []))) : va_W).Perm ((WM ++ []) ++ ([(oD, .inl (G.2 6, 1, .inr (.inr (.inr (.inl og))))), (o, .inl (G.2 5, 1, .inr (.inl of2_4667)))] ++ (W2_4669 ++ []))) := segs_perm [[(oD, .inl (G.2 6, 1, .inr (.inr (.inr (.inl og)))))], [(o, .inl (G.2 5, 1, .inr (.inl of2_4667)))], WM, W2_4669] [2] [0, 1, 3] rfl
  have hF := hF_ofP (wc := (WM ++ [])) hD hS hA hpm_4673
  refine go_ctP hS hP hD hpm_4673 hF
      (va_runV (As := []) (rest := []) cf (eX4_undo l G m0 M th WM (hMd) H.size) (cwV 0 hts (lw_V q1950 q1951 q1952 q58 q1953) rfl rfl rfl (by decide +kernel) ⟨Nat.le_of_ble_eq_true rfl, Nat.le_of_ble_eq_true rfl⟩) (preV_of hKB hE hS hF (MdW.recv hK hMd (seg_at [[(oD, .inl (G.2 6, 1, .inr (.inr (.inr (.inl og)))))], [(o, .inl (G.2 5, 1, .inr (.inl of2_4667)))], WM, W2_4669] 2 rfl hP)) (P_left (P_perm hpm_4673 hP)) ((D_left (D_perm hpm_4673 hD)).weaken (fun _ _ _ _ => trivial)) trivial) rfl rfl hl.1 rfl (lv_room (Nat.le_of_ble_eq_true rfl)) dL_law_2695 ⟨show cl + 2 + 0 ≤ 1200144 from by first | decide | omega, show sl + 8 + 0 ≤ 5495674 from by first | decide | omega⟩)
      (fun u_ H locs hq hph (hP : va_P G.1 CL (([(oD, .inl (G.2 6, 1, .inr (.inr (.inr (.inl og))))), (o, .inl (G.2 5, 1, .inr (.inl of2_4667)))] ++ (W2_4669 ++ [])) ++ (u_.2 ++ [])) H) (hD : va_D A (([(oD, .inl (G.2 6, 1, .inr (.inr (.inr (.inl og))))), (o, .inl (G.2 5, 1, .inr (.inl of2_4667)))] ++ (W2_4669 ++ [])) ++ (u_.2 ++ []))) hS hfz hfk => ?_)
  obtain ⟨rr_4674, W2_4675⟩ := u_
  obtain ⟨hq_4676, hq_4677⟩ : (0 < dK M → rr_4674 = nI (dK M - 1)) ∧ MdW G m0 (if 0 < dK M then ((dH M (dK M - 1), dS M, dK M - 1, dH M, dL M, dN M) : DS) else M) (if 0 < dK M then 0 else 1) W2_4675 := hq
  have hpm_4678 : (([(oD, .inl (G.2 6, 1, .inr (.inr (.inr (.inl og))))), (o, .inl (G.2 5, 1, .inr (.inl of2_4667)))] ++ (W2_4669 ++ [])) ++ (W2_4675 ++ []) : va_W).Perm ([(oD, .inl (G.2 6, 1, .inr (.inr (.inr (.inl og))))), (o, .inl (G.2 5, 1, .inr (.inl of2_4667)))] ++ (W2_4669 ++ (W2_4675 ++ []))) := segs_perm2 [[(oD, .inl (G.2 6, 1, .inr (.inr (.inr (.inl og)))))], [(o, .inl (G.2 5, 1, .inr (.inl of2_4667)))], W2_4669] [W2_4675] [0, 1, 2, 3] rfl
  have hP : va_P G.1 CL ([(oD, .inl (G.2 6, 1, .inr (.inr (.inr (.inl og))))), (o, .inl (G.2 5, 1, .inr (.inl of2_4667)))] ++ (W2_4669 ++ (W2_4675 ++ []))) H := P_perm hpm_4678 hP
  have hD : va_D A ([(oD, .inl (G.2 6, 1, .inr (.inr (.inr (.inl og))))), (o, .inl (G.2 5, 1, .inr (.inl of2_4667)))] ++ (W2_4669 ++ (W2_4675 ++ []))) := D_perm hpm_4678 hD
  refine W.eq (g2 := F0 m 2698 ls [.int rr_4674]) rfl ?_
  have hk9 : dK C = dK M := hLw.2.2.1
  rcases Nat.eq_zero_or_pos (dK C) with h0 | h0
  · obtain ⟨rfl, hDy2⟩ := hq_4671 h0
    have hMd2 := hq_4677
    rw [if_neg (show ¬ 0 < dK M by omega), if_neg (show ¬ 0 < dK M by omega)] at hMd2
    refine W.eq (g2 := F0 m 2698 ls [.int rr_4674]) rfl ?_
    refine lv_istore (lv' := [(7, .int rr_4674), (6, .int (nI 1)), (0, .ref b), (1, .ref d), (2, .ref m0), (3, .ref o), (4, .ref oD), (5, .int (nI i9))]) hx hb dL_law_2698 hl (by decide) rfl (fun ls hl => ?_)
    refine lv_aload_n hx hb dL_law_2700 rfl (lv_at hl 4 rfl) ?_
    have hpm_4679 : (([(oD, .inl (G.2 6, 1, .inr (.inr (.inr (.inl og))))), (o, .inl (G.2 5, 1, .inr (.inl of2_4667)))] ++ (W2_4669 ++ (W2_4675 ++ []))) : va_W).Perm ([] ++ ([(oD, .inl (G.2 6, 1, .inr (.inr (.inr (.inl og))))), (o, .inl (G.2 5, 1, .inr (.inl of2_4667)))] ++ (W2_4669 ++ (W2_4675 ++ [])))) := segs_perm [[(oD, .inl (G.2 6, 1, .inr (.inr (.inr (.inl og)))))], [(o, .inl (G.2 5, 1, .inr (.inl of2_4667)))], W2_4669, W2_4675] [] [0, 1, 2, 3] rfl
    have hF := hF_ofP (wc := []) hD hS hA hpm_4679
    refine go_ctP hS hP hD hpm_4679 hF
        (va_runV (As := []) (rest := []) cf (eX4_thrown l G m0 M 1 W2_4675 (hMd2) H.size) (cwV 0 hts (lw_V q1639 q1640 q1641 q58 q1642) rfl rfl rfl (by decide +kernel) ⟨Nat.le_of_ble_eq_true rfl, Nat.le_of_ble_eq_true rfl⟩) (preV_of hKB hE hS hF (MdW.recv hK hMd2 (seg_at [[(oD, .inl (G.2 6, 1, .inr (.inr (.inr (.inl og)))))], [(o, .inl (G.2 5, 1, .inr (.inl of2_4667)))], W2_4669, W2_4675] 3 rfl hP)) (P_left (P_perm hpm_4679 hP)) ((D_left (D_perm hpm_4679 hD)).weaken (fun _ _ _ _ => trivial)) (roW.nil (seg_at [[(oD, .inl (G.2 6, 1, .inr (.inr (.inr (.inl og)))))], [(o, .inl (G.2 5, 1, .inr (.inl of2_4667)))], W2_4669, W2_4675] 3 rfl hP))) rfl rfl hl.1 rfl (lv_room (Nat.le_of_ble_eq_true rfl)) dL_law_2701 ⟨show cl + 2 + 0 ≤ 1200144 from by first | decide | omega, show sl + 8 + 0 ≤ 5495674 from by first | decide | omega⟩)
        (fun u_ H locs hq hph (hP : va_P G.1 CL (([(oD, .inl (G.2 6, 1, .inr (.inr (.inr (.inl og))))), (o, .inl (G.2 5, 1, .inr (.inl of2_4667)))] ++ (W2_4669 ++ (W2_4675 ++ []))) ++ []) H) (hD : va_D A (([(oD, .inl (G.2 6, 1, .inr (.inr (.inr (.inl og))))), (o, .inl (G.2 5, 1, .inr (.inl of2_4667)))] ++ (W2_4669 ++ (W2_4675 ++ []))) ++ [])) hS hfz hfk => ?_)
    have hpm_4680 : (([(oD, .inl (G.2 6, 1, .inr (.inr (.inr (.inl og))))), (o, .inl (G.2 5, 1, .inr (.inl of2_4667)))] ++ (W2_4669 ++ (W2_4675 ++ []))) ++ [] : va_W).Perm ([(oD, .inl (G.2 6, 1, .inr (.inr (.inr (.inl og))))), (o, .inl (G.2 5, 1, .inr (.inl of2_4667)))] ++ (W2_4669 ++ (W2_4675 ++ []))) := segs_perm2 [[(oD, .inl (G.2 6, 1, .inr (.inr (.inr (.inl og)))))], [(o, .inl (G.2 5, 1, .inr (.inl of2_4667)))], W2_4669, W2_4675] [] [0, 1, 2, 3] rfl
    have hP : va_P G.1 CL ([(oD, .inl (G.2 6, 1, .inr (.inr (.inr (.inl og))))), (o, .inl (G.2 5, 1, .inr (.inl of2_4667)))] ++ (W2_4669 ++ (W2_4675 ++ []))) H := P_perm hpm_4680 hP
    have hD : va_D A ([(oD, .inl (G.2 6, 1, .inr (.inr (.inr (.inl og))))), (o, .inl (G.2 5, 1, .inr (.inl of2_4667)))] ++ (W2_4669 ++ (W2_4675 ++ []))) := D_perm hpm_4680 hD
    refine W.eq (g2 := F0 m 2704 ls [.int (nI 1)]) rfl ?_
    refine lv_iload hx hb dL_law_2704 (lv_at hl 1 rfl) ?_
    refine lv_icmp_eq (tgt := 2711) hx hb dL_law_2706 (by decide) (fun _ => ?_) (fun c9 => absurd rfl c9)
    refine lv_iload hx hb dL_law_2711 (lv_at hl 1 rfl) ?_
    refine n_if_ne (tgt := 2728) hx hb (by omega) dL_law_2713 (by decide) (fun c_4681 => ?_) (fun c_4681 => absurd c_4681 (by omega))
    refine lv_goto (tgt := 2788) hx hb dL_law_2728 (by decide) ?_
    have hpm_4682 : (([(oD, .inl (G.2 6, 1, .inr (.inr (.inr (.inl og))))), (o, .inl (G.2 5, 1, .inr (.inl of2_4667)))] ++ (W2_4669 ++ (W2_4675 ++ []))) : va_W).Perm (([(o, .inl (G.2 5, 1, .inr (.inl of2_4667))), (oD, .inl (G.2 6, 1, .inr (.inr (.inr (.inl og)))))] ++ (W2_4669 ++ (W2_4675 ++ []))) ++ []) := segs_perm [[(oD, .inl (G.2 6, 1, .inr (.inr (.inr (.inl og)))))], [(o, .inl (G.2 5, 1, .inr (.inl of2_4667)))], W2_4669, W2_4675] [1, 0, 2, 3] [] rfl
    have hP : va_P G.1 CL ([(o, .inl (G.2 5, 1, .inr (.inl of2_4667))), (oD, .inl (G.2 6, 1, .inr (.inr (.inr (.inl og)))))] ++ (W2_4669 ++ (W2_4675 ++ []))) H := P_left (P_perm hpm_4682 hP)
    have hD : va_D A ([(o, .inl (G.2 5, 1, .inr (.inl of2_4667))), (oD, .inl (G.2 6, 1, .inr (.inr (.inr (.inl og)))))] ++ (W2_4669 ++ (W2_4675 ++ []))) := D_left (D_perm hpm_4682 hD)
    have hl := lv_sub hl [2, 3, 4, 5, 6, 7] (l' := [(0, .ref b), (1, .ref d), (2, .ref m0), (3, .ref o), (4, .ref oD), (5, .int (nI i9))]) rfl
    exact W.widen (show cl + 2 ≤ cl + 20000 from by omega) (show sl + 8 ≤ sl + 45000 from by omega) (kk ls H locs C M 1 W2_4669 W2_4675 of2_4667 og hP hD hS hl hDy2 hMd2 hLw.up)
  · obtain ⟨rfl, hof9, hDy2⟩ := hq_4670 h0
    have hMd2 := hq_4677
    rw [if_pos (show 0 < dK M by omega), if_pos (show 0 < dK M by omega)] at hMd2
    refine lv_ton (n := (dK C - 1)) ((hq_4676 (by omega)).trans (congrArg nI (by omega))) ?_
    refine lv_istore (lv' := [(7, .int (nI (dK C - 1))), (6, .int (nI 0)), (0, .ref b), (1, .ref d), (2, .ref m0), (3, .ref o), (4, .ref oD), (5, .int (nI i9))]) hx hb dL_law_2698 hl (by decide) rfl (fun ls hl => ?_)
    refine lv_aload_n hx hb dL_law_2700 rfl (lv_at hl 4 rfl) ?_
    have hpm_4683 : (([(oD, .inl (G.2 6, 1, .inr (.inr (.inr (.inl og))))), (o, .inl (G.2 5, 1, .inr (.inl of2_4667)))] ++ (W2_4669 ++ (W2_4675 ++ []))) : va_W).Perm ([] ++ ([(oD, .inl (G.2 6, 1, .inr (.inr (.inr (.inl og))))), (o, .inl (G.2 5, 1, .inr (.inl of2_4667)))] ++ (W2_4669 ++ (W2_4675 ++ [])))) := segs_perm [[(oD, .inl (G.2 6, 1, .inr (.inr (.inr (.inl og)))))], [(o, .inl (G.2 5, 1, .inr (.inl of2_4667)))], W2_4669, W2_4675] [] [0, 1, 2, 3] rfl
    have hF := hF_ofP (wc := []) hD hS hA hpm_4683
    refine go_ctP hS hP hD hpm_4683 hF
        (va_runV (As := []) (rest := []) cf (eX4_thrown l G m0 ((dH M (dK M - 1), dS M, dK M - 1, dH M, dL M, dN M) : DS) 0 W2_4675 (hMd2) H.size) (cwV 0 hts (lw_V q1639 q1640 q1641 q58 q1642) rfl rfl rfl (by decide +kernel) ⟨Nat.le_of_ble_eq_true rfl, Nat.le_of_ble_eq_true rfl⟩) (preV_of hKB hE hS hF (MdW.recv hK hMd2 (seg_at [[(oD, .inl (G.2 6, 1, .inr (.inr (.inr (.inl og)))))], [(o, .inl (G.2 5, 1, .inr (.inl of2_4667)))], W2_4669, W2_4675] 3 rfl hP)) (P_left (P_perm hpm_4683 hP)) ((D_left (D_perm hpm_4683 hD)).weaken (fun _ _ _ _ => trivial)) (roW.nil (seg_at [[(oD, .inl (G.2 6, 1, .inr (.inr (.inr (.inl og)))))], [(o, .inl (G.2 5, 1, .inr (.inl of2_4667)))], W2_4669, W2_4675] 3 rfl hP))) rfl rfl hl.1 rfl (lv_room (Nat.le_of_ble_eq_true rfl)) dL_law_2701 ⟨show cl + 2 + 0 ≤ 1200144 from by first | decide | omega, show sl + 8 + 0 ≤ 5495674 from by first | decide | omega⟩)
        (fun u_ H locs hq hph (hP : va_P G.1 CL (([(oD, .inl (G.2 6, 1, .inr (.inr (.inr (.inl og))))), (o, .inl (G.2 5, 1, .inr (.inl of2_4667)))] ++ (W2_4669 ++ (W2_4675 ++ []))) ++ []) H) (hD : va_D A (([(oD, .inl (G.2 6, 1, .inr (.inr (.inr (.inl og))))), (o, .inl (G.2 5, 1, .inr (.inl of2_4667)))] ++ (W2_4669 ++ (W2_4675 ++ []))) ++ [])) hS hfz hfk => ?_)
    have hpm_4684 : (([(oD, .inl (G.2 6, 1, .inr (.inr (.inr (.inl og))))), (o, .inl (G.2 5, 1, .inr (.inl of2_4667)))] ++ (W2_4669 ++ (W2_4675 ++ []))) ++ [] : va_W).Perm ([(oD, .inl (G.2 6, 1, .inr (.inr (.inr (.inl og))))), (o, .inl (G.2 5, 1, .inr (.inl of2_4667)))] ++ (W2_4669 ++ (W2_4675 ++ []))) := segs_perm2 [[(oD, .inl (G.2 6, 1, .inr (.inr (.inr (.inl og)))))], [(o, .inl (G.2 5, 1, .inr (.inl of2_4667)))], W2_4669, W2_4675] [] [0, 1, 2, 3] rfl
    have hP : va_P G.1 CL ([(oD, .inl (G.2 6, 1, .inr (.inr (.inr (.inl og))))), (o, .inl (G.2 5, 1, .inr (.inl of2_4667)))] ++ (W2_4669 ++ (W2_4675 ++ []))) H := P_perm hpm_4684 hP
    have hD : va_D A ([(oD, .inl (G.2 6, 1, .inr (.inr (.inr (.inl og))))), (o, .inl (G.2 5, 1, .inr (.inl of2_4667)))] ++ (W2_4669 ++ (W2_4675 ++ []))) := D_perm hpm_4684 hD
    refine W.eq (g2 := F0 m 2704 ls [.int (nI 0)]) rfl ?_
    refine lv_iload hx hb dL_law_2704 (lv_at hl 1 rfl) ?_
    refine lv_icmp_eq (tgt := 2711) hx hb dL_law_2706 (by decide) (fun _ => ?_) (fun c9 => absurd rfl c9)
    refine lv_iload hx hb dL_law_2711 (lv_at hl 1 rfl) ?_
    refine n_if_ne (tgt := 2728) hx hb (by omega) dL_law_2713 (by decide) (fun c_4685 => absurd c_4685 (by omega)) (fun c_4685 => ?_)
    refine lv_aload_n hx hb dL_law_2716 rfl (lv_at hl 5 rfl) ?_
    refine lv_iconst (v := nI 0) hx hb dL_law_2717 (by decide) ?_
    refine r_lald (v := (nI (dK C - 1)).toInt64) hx hb hK hP 1 5 rfl rfl (i := 0) (by omega) (by omega) (hof9) dL_law_2718 ?_
    refine lv_iload hx hb dL_law_2719 (lv_at hl 0 rfl) ?_
    refine lv_i2l (v := (nI (dK C - 1)).toInt64) hx hb dL_law_2721 rfl ?_
    refine W.lcmp hx hb dL_law_2722 ?_
    refine lv_ton (n := 0) (lcmp0 _) ?_
    refine n_if_eq (tgt := 2728) hx hb (by omega) dL_law_2723 (by decide) (fun c_4686 => ?_) (fun c_4686 => absurd c_4686 (by omega))
    refine lv_goto (tgt := 2788) hx hb dL_law_2728 (by decide) ?_
    have hpm_4687 : (([(oD, .inl (G.2 6, 1, .inr (.inr (.inr (.inl og))))), (o, .inl (G.2 5, 1, .inr (.inl of2_4667)))] ++ (W2_4669 ++ (W2_4675 ++ []))) : va_W).Perm (([(o, .inl (G.2 5, 1, .inr (.inl of2_4667))), (oD, .inl (G.2 6, 1, .inr (.inr (.inr (.inl og)))))] ++ (W2_4669 ++ (W2_4675 ++ []))) ++ []) := segs_perm [[(oD, .inl (G.2 6, 1, .inr (.inr (.inr (.inl og)))))], [(o, .inl (G.2 5, 1, .inr (.inl of2_4667)))], W2_4669, W2_4675] [1, 0, 2, 3] [] rfl
    have hP : va_P G.1 CL ([(o, .inl (G.2 5, 1, .inr (.inl of2_4667))), (oD, .inl (G.2 6, 1, .inr (.inr (.inr (.inl og)))))] ++ (W2_4669 ++ (W2_4675 ++ []))) H := P_left (P_perm hpm_4687 hP)
    have hD : va_D A ([(o, .inl (G.2 5, 1, .inr (.inl of2_4667))), (oD, .inl (G.2 6, 1, .inr (.inr (.inr (.inl og)))))] ++ (W2_4669 ++ (W2_4675 ++ []))) := D_left (D_perm hpm_4687 hD)
    have hl := lv_sub hl [2, 3, 4, 5, 6, 7] (l' := [(0, .ref b), (1, .ref d), (2, .ref m0), (3, .ref o), (4, .ref oD), (5, .int (nI i9))]) rfl
    exact W.widen (show cl + 2 ≤ cl + 20000 from by omega) (show sl + 8 ≤ sl + 45000 from by omega) (kk ls H locs ((dH C (dK C - 1), dS C, dK C - 1, dH C, dL C, dN C) : DS) ((dH M (dK M - 1), dS M, dK M - 1, dH M, dL M, dN M) : DS) 0 W2_4669 W2_4675 of2_4667 og hP hD hS hl hDy2 hMd2 (hLw.undo h0))

set_option maxHeartbeats 4000000 in
theorem lawK_49 {p : Program} {l : Launch} {e : Env} {s : State} {m : MethodId} {below : List Frame} {meth : Method} {c : Code} {G : Gt} {A : Nat → Prop} {b L : Nat} {xs : Nat → Int32} {Q : State → Prop} {d m0 o oD i9 N cl sl : Nat} (hfl : l.stackTraces = false) (F : LwF G A p s m c b L xs) (hi9 : i9 + 4 ≤ L) (hN24 : N ≤ 24) (hcl : cl + 20000 ≤ 1200144) (hsl : sl + 45000 ≤ 5495674) (kk : ∀ (ls : Array Slot) (H : Heap) (locs : List Loc) (C M : DS) (th : Nat) (WD WM : va_W) (of : Nat → Int64) (og : Nat → UInt64), va_P G.1 CL ([(o, .inl (G.2 5, 1, .inr (.inl of))), (oD, .inl (G.2 6, 1, .inr (.inr (.inr (.inl og)))))] ++ (WD ++ (WM ++ []))) H → va_D A ([(o, .inl (G.2 5, 1, .inr (.inl of))), (oD, .inl (G.2 6, 1, .inr (.inr (.inr (.inl og)))))] ++ (WD ++ (WM ++ []))) → va_S A s.heap H locs → lv_has ls 10 [(0, .ref b), (1, .ref d), (2, .ref m0), (3, .ref o), (4, .ref oD), (5, .int (nI i9))] → DyW G d C WD → MdW G m0 M th WM → LawI C M (N + 1) → W p l e room_1 s m #[Value.ref b] below meth c H locs (cl + 20000) (sl + 45000) Q (F0 m 2788 ls [])) {ls : Array Slot} {H : Heap} {locs : List Loc} {C M : DS} {th : Nat} {WD WM : va_W} {of : Nat → Int64} {og : Nat → UInt64} (hP : va_P G.1 CL ([(o, .inl (G.2 5, 1, .inr (.inl of))), (oD, .inl (G.2 6, 1, .inr (.inr (.inr (.inl og)))))] ++ (WD ++ (WM ++ []))) H) (hD : va_D A ([(o, .inl (G.2 5, 1, .inr (.inl of))), (oD, .inl (G.2 6, 1, .inr (.inr (.inr (.inl og)))))] ++ (WD ++ (WM ++ [])))) (hS : va_S A s.heap H locs) (hl : lv_has ls 10 [(0, .ref b), (1, .ref d), (2, .ref m0), (3, .ref o), (4, .ref oD), (5, .int (nI i9))]) (hDy : DyW G d C WD) (hMd : MdW G m0 M th WM) (hLw : LawI C M N) : W p l e room_1 s m #[Value.ref b] below meth c H locs cl sl Q (F0 m 2731 ls []) := by
  obtain ⟨cf, hKB, hE, hA, hX9, hbl, hbA, hNc, hL96⟩ := F
  have hx := cf.1
  have hb := cf.2.1
  have hml := cf.2.2.1
  have hown : s.vm.findClass RX0 = some m.cls := cf.2.2.2.1
  have hts := cf.2.2.2.2
  have hK := hKB.1
  have hIc := hDy.inv.1
  have hIm : Inv (dC M) := Inv_sim hLw.1 hIc
  have hRk : RkOk (dC M) := RkOk_sim hLw.1 (RkOk_srt hDy.inv.2.2)
  have hl := hl
  refine lv_aload_n hx hb dL_law_2731 rfl (lv_at hl 1 rfl) ?_
  have hpm_4688 : (([(o, .inl (G.2 5, 1, .inr (.inl of))), (oD, .inl (G.2 6, 1, .inr (.inr (.inr (.inl og)))))] ++ (WD ++ (WM ++ []))) : va_W).Perm ((WD ++ []) ++ ([(o, .inl (G.2 5, 1, .inr (.inl of))), (oD, .inl (G.2 6, 1, .inr (.inr (.inr (.inl og)))))] ++ (WM ++ []))) := segs_perm [[(o, .inl (G.2 5, 1, .inr (.inl of)))], [(oD, .inl (G.2 6, 1, .inr (.inr (.inr (.inl og)))))], WD, WM] [2] [0, 1, 3] rfl
  have hF := hF_ofP (wc := (WD ++ [])) hD hS hA hpm_4688
  refine go_ctP hS hP hD hpm_4688 hF
      (va_runV (As := []) (rest := []) cf (dX1_save l G d C WD (hDy) H.size) (cwV 0 hts (lw_V q673 q674 q675 q47 q676) rfl rfl rfl (by decide +kernel) ⟨Nat.le_of_ble_eq_true rfl, Nat.le_of_ble_eq_true rfl⟩) (preV_of hKB hE hS hF (DyW.recv hK hDy (seg_at [[(o, .inl (G.2 5, 1, .inr (.inl of)))], [(oD, .inl (G.2 6, 1, .inr (.inr (.inr (.inl og)))))], WD, WM] 2 rfl hP)) (P_left (P_perm hpm_4688 hP)) ((D_left (D_perm hpm_4688 hD)).weaken (fun _ _ _ _ => trivial)) trivial) rfl rfl hl.1 rfl (lv_room (Nat.le_of_ble_eq_true rfl)) dL_law_2732 ⟨show cl + 103 ≤ 1200144 from by first | decide | omega, show sl + 5800 ≤ 5495674 from by first | decide | omega⟩)
      (fun u_ H locs hq hph (hP : va_P G.1 CL (([(o, .inl (G.2 5, 1, .inr (.inl of))), (oD, .inl (G.2 6, 1, .inr (.inr (.inr (.inl og)))))] ++ (WM ++ [])) ++ (u_ ++ [])) H) (hD : va_D A (([(o, .inl (G.2 5, 1, .inr (.inl of))), (oD, .inl (G.2 6, 1, .inr (.inr (.inr (.inl og)))))] ++ (WM ++ [])) ++ (u_ ++ []))) hS hfz hfk => ?_)
  obtain ⟨W2_4689, rfl⟩ : ∃ z, z = u_ := ⟨_, rfl⟩
  have hq_4690 : DyW G d ((dC C, some (dC C), dK C, dH C, dL C, dN C) : DS) W2_4689 := hq
  have hpm_4691 : (([(o, .inl (G.2 5, 1, .inr (.inl of))), (oD, .inl (G.2 6, 1, .inr (.inr (.inr (.inl og)))))] ++ (WM ++ [])) ++ (W2_4689 ++ []) : va_W).Perm ([(o, .inl (G.2 5, 1, .inr (.inl of))), (oD, .inl (G.2 6, 1, .inr (.inr (.inr (.inl og)))))] ++ (WM ++ (W2_4689 ++ []))) := segs_perm2 [[(o, .inl (G.2 5, 1, .inr (.inl of)))], [(oD, .inl (G.2 6, 1, .inr (.inr (.inr (.inl og)))))], WM] [W2_4689] [0, 1, 2, 3] rfl
  have hP : va_P G.1 CL ([(o, .inl (G.2 5, 1, .inr (.inl of))), (oD, .inl (G.2 6, 1, .inr (.inr (.inr (.inl og)))))] ++ (WM ++ (W2_4689 ++ []))) H := P_perm hpm_4691 hP
  have hD : va_D A ([(o, .inl (G.2 5, 1, .inr (.inl of))), (oD, .inl (G.2 6, 1, .inr (.inr (.inr (.inl og)))))] ++ (WM ++ (W2_4689 ++ []))) := D_perm hpm_4691 hD
  refine W.eq (g2 := F0 m 2735 ls [.int (nI (sN (dC C)))]) rfl ?_
  refine lv_aload_n hx hb dL_law_2735 rfl (lv_at hl 2 rfl) ?_
  have hpm_4692 : (([(o, .inl (G.2 5, 1, .inr (.inl of))), (oD, .inl (G.2 6, 1, .inr (.inr (.inr (.inl og)))))] ++ (WM ++ (W2_4689 ++ []))) : va_W).Perm ((WM ++ []) ++ ([(o, .inl (G.2 5, 1, .inr (.inl of))), (oD, .inl (G.2 6, 1, .inr (.inr (.inr (.inl og)))))] ++ (W2_4689 ++ []))) := segs_perm [[(o, .inl (G.2 5, 1, .inr (.inl of)))], [(oD, .inl (G.2 6, 1, .inr (.inr (.inr (.inl og)))))], WM, W2_4689] [2] [0, 1, 3] rfl
  have hF := hF_ofP (wc := (WM ++ [])) hD hS hA hpm_4692
  refine go_ctP hS hP hD hpm_4692 hF
      (va_runV (As := []) (rest := [.int (nI (sN (dC C)))]) cf (eX4_save l G m0 M th WM (hMd) (hIm) H.size) (cwV 0 hts (lw_V q1954 q1955 q1956 q58 q1957) rfl rfl rfl (by decide +kernel) ⟨Nat.le_of_ble_eq_true rfl, Nat.le_of_ble_eq_true rfl⟩) (preV_of hKB hE hS hF (MdW.recv hK hMd (seg_at [[(o, .inl (G.2 5, 1, .inr (.inl of)))], [(oD, .inl (G.2 6, 1, .inr (.inr (.inr (.inl og)))))], WM, W2_4689] 2 rfl hP)) (P_left (P_perm hpm_4692 hP)) ((D_left (D_perm hpm_4692 hD)).weaken (fun _ _ _ _ => trivial)) trivial) rfl rfl hl.1 rfl (lv_room (Nat.le_of_ble_eq_true rfl)) dL_law_2736 ⟨show cl + 103 + 0 ≤ 1200144 from by first | decide | omega, show sl + 5800 + 0 ≤ 5495674 from by first | decide | omega⟩)
      (fun u_ H locs hq hph (hP : va_P G.1 CL (([(o, .inl (G.2 5, 1, .inr (.inl of))), (oD, .inl (G.2 6, 1, .inr (.inr (.inr (.inl og)))))] ++ (W2_4689 ++ [])) ++ (u_ ++ [])) H) (hD : va_D A (([(o, .inl (G.2 5, 1, .inr (.inl of))), (oD, .inl (G.2 6, 1, .inr (.inr (.inr (.inl og)))))] ++ (W2_4689 ++ [])) ++ (u_ ++ []))) hS hfz hfk => ?_)
  obtain ⟨W2_4693, rfl⟩ : ∃ z, z = u_ := ⟨_, rfl⟩
  have hq_4694 : MdW G m0 ((dC M, some (dC M), dK M, dH M, dL M, dN M) : DS) 0 W2_4693 := hq
  have hpm_4695 : (([(o, .inl (G.2 5, 1, .inr (.inl of))), (oD, .inl (G.2 6, 1, .inr (.inr (.inr (.inl og)))))] ++ (W2_4689 ++ [])) ++ (W2_4693 ++ []) : va_W).Perm ([(o, .inl (G.2 5, 1, .inr (.inl of))), (oD, .inl (G.2 6, 1, .inr (.inr (.inr (.inl og)))))] ++ (W2_4689 ++ (W2_4693 ++ []))) := segs_perm2 [[(o, .inl (G.2 5, 1, .inr (.inl of)))], [(oD, .inl (G.2 6, 1, .inr (.inr (.inr (.inl og)))))], W2_4689] [W2_4693] [0, 1, 2, 3] rfl
  have hP : va_P G.1 CL ([(o, .inl (G.2 5, 1, .inr (.inl of))), (oD, .inl (G.2 6, 1, .inr (.inr (.inr (.inl og)))))] ++ (W2_4689 ++ (W2_4693 ++ []))) H := P_perm hpm_4695 hP
  have hD : va_D A ([(o, .inl (G.2 5, 1, .inr (.inl of))), (oD, .inl (G.2 6, 1, .inr (.inr (.inr (.inl og)))))] ++ (W2_4689 ++ (W2_4693 ++ []))) := D_perm hpm_4695 hD
  refine W.eq (g2 := F0 m 2739 ls [.int (nI (sN (dC M))), .int (nI (sN (dC C)))]) rfl ?_
  refine lv_ton (n := (sN (dC C))) (congrArg nI hLw.1.sN.symm) ?_
  refine lv_icmp_eq (tgt := 2788) hx hb dL_law_2739 (by decide) (fun _ => ?_) (fun c9 => absurd rfl c9)
  have hpm_4696 : (([(o, .inl (G.2 5, 1, .inr (.inl of))), (oD, .inl (G.2 6, 1, .inr (.inr (.inr (.inl og)))))] ++ (W2_4689 ++ (W2_4693 ++ []))) : va_W).Perm (([(o, .inl (G.2 5, 1, .inr (.inl of))), (oD, .inl (G.2 6, 1, .inr (.inr (.inr (.inl og)))))] ++ (W2_4689 ++ (W2_4693 ++ []))) ++ []) := segs_perm [[(o, .inl (G.2 5, 1, .inr (.inl of)))], [(oD, .inl (G.2 6, 1, .inr (.inr (.inr (.inl og)))))], W2_4689, W2_4693] [0, 1, 2, 3] [] rfl
  have hP : va_P G.1 CL ([(o, .inl (G.2 5, 1, .inr (.inl of))), (oD, .inl (G.2 6, 1, .inr (.inr (.inr (.inl og)))))] ++ (W2_4689 ++ (W2_4693 ++ []))) H := P_left (P_perm hpm_4696 hP)
  have hD : va_D A ([(o, .inl (G.2 5, 1, .inr (.inl of))), (oD, .inl (G.2 6, 1, .inr (.inr (.inr (.inl og)))))] ++ (W2_4689 ++ (W2_4693 ++ []))) := D_left (D_perm hpm_4696 hD)
  have hl := lv_sub hl [0, 1, 2, 3, 4, 5] (l' := [(0, .ref b), (1, .ref d), (2, .ref m0), (3, .ref o), (4, .ref oD), (5, .int (nI i9))]) rfl
  exact W.widen (show cl + 103 ≤ cl + 20000 from by omega) (show sl + 5800 ≤ sl + 45000 from by omega) (kk ls H locs ((dC C, some (dC C), dK C, dH C, dL C, dN C) : DS) ((dC M, some (dC M), dK M, dH M, dL M, dN M) : DS) 0 W2_4689 W2_4693 of og hP hD hS hl hq_4690 hq_4694 hLw.save)

set_option maxHeartbeats 4000000 in
theorem lawK_50 {p : Program} {l : Launch} {e : Env} {s : State} {m : MethodId} {below : List Frame} {meth : Method} {c : Code} {G : Gt} {A : Nat → Prop} {b L : Nat} {xs : Nat → Int32} {Q : State → Prop} {d m0 o oD i9 N cl sl : Nat} (hfl : l.stackTraces = false) (F : LwF G A p s m c b L xs) (hi9 : i9 + 4 ≤ L) (hN24 : N ≤ 24) (hcl : cl + 20000 ≤ 1200144) (hsl : sl + 45000 ≤ 5495674) (kk : ∀ (ls : Array Slot) (H : Heap) (locs : List Loc) (C M : DS) (th : Nat) (WD WM : va_W) (of : Nat → Int64) (og : Nat → UInt64), va_P G.1 CL ([(o, .inl (G.2 5, 1, .inr (.inl of))), (oD, .inl (G.2 6, 1, .inr (.inr (.inr (.inl og)))))] ++ (WD ++ (WM ++ []))) H → va_D A ([(o, .inl (G.2 5, 1, .inr (.inl of))), (oD, .inl (G.2 6, 1, .inr (.inr (.inr (.inl og)))))] ++ (WD ++ (WM ++ []))) → va_S A s.heap H locs → lv_has ls 10 [(0, .ref b), (1, .ref d), (2, .ref m0), (3, .ref o), (4, .ref oD), (5, .int (nI i9))] → DyW G d C WD → MdW G m0 M th WM → LawI C M (N + 1) → W p l e room_1 s m #[Value.ref b] below meth c H locs (cl + 20000) (sl + 45000) Q (F0 m 2788 ls [])) {ls : Array Slot} {H : Heap} {locs : List Loc} {C M : DS} {th : Nat} {WD WM : va_W} {of : Nat → Int64} {og : Nat → UInt64} (hP : va_P G.1 CL ([(o, .inl (G.2 5, 1, .inr (.inl of))), (oD, .inl (G.2 6, 1, .inr (.inr (.inr (.inl og)))))] ++ (WD ++ (WM ++ []))) H) (hD : va_D A ([(o, .inl (G.2 5, 1, .inr (.inl of))), (oD, .inl (G.2 6, 1, .inr (.inr (.inr (.inl og)))))] ++ (WD ++ (WM ++ [])))) (hS : va_S A s.heap H locs) (hl : lv_has ls 10 [(0, .ref b), (1, .ref d), (2, .ref m0), (3, .ref o), (4, .ref oD), (5, .int (nI i9))]) (hDy : DyW G d C WD) (hMd : MdW G m0 M th WM) (hLw : LawI C M N) : W p l e room_1 s m #[Value.ref b] below meth c H locs cl sl Q (F0 m 2744 ls []) := by
  obtain ⟨cf, hKB, hE, hA, hX9, hbl, hbA, hNc, hL96⟩ := F
  have hx := cf.1
  have hb := cf.2.1
  have hml := cf.2.2.1
  have hown : s.vm.findClass RX0 = some m.cls := cf.2.2.2.1
  have hts := cf.2.2.2.2
  have hK := hKB.1
  have hIc := hDy.inv.1
  have hIm : Inv (dC M) := Inv_sim hLw.1 hIc
  have hRk : RkOk (dC M) := RkOk_sim hLw.1 (RkOk_srt hDy.inv.2.2)
  have hl := hl
  refine lv_aload_n hx hb dL_law_2744 rfl (lv_at hl 1 rfl) ?_
  refine lv_aload_n hx hb dL_law_2745 rfl (lv_at hl 3 rfl) ?_
  have hpm_4697 : (([(o, .inl (G.2 5, 1, .inr (.inl of))), (oD, .inl (G.2 6, 1, .inr (.inr (.inr (.inl og)))))] ++ (WD ++ (WM ++ []))) : va_W).Perm (([(o, .inl (G.2 5, 1, .inr (.inl of)))] ++ (WD ++ [])) ++ ([(oD, .inl (G.2 6, 1, .inr (.inr (.inr (.inl og)))))] ++ (WM ++ []))) := segs_perm [[(o, .inl (G.2 5, 1, .inr (.inl of)))], [(oD, .inl (G.2 6, 1, .inr (.inr (.inr (.inl og)))))], WD, WM] [0, 2] [1, 3] rfl
  have hF := hF_ofP (wc := ([(o, .inl (G.2 5, 1, .inr (.inl of)))] ++ (WD ++ []))) hD hS hA hpm_4697
  refine go_ctP hS hP hD hpm_4697 hF
      (vx_runSW (As := [.ref d, .ref o]) (rest := []) cf (wX0_restore l G d C WD o of (hDy) hfl H.size) (vx_cwSW 2 hts (lw_SW q1574 q1575 q46 q1576) rfl rfl rfl (by decide +kernel) ⟨Nat.le_of_ble_eq_true rfl, Nat.le_of_ble_eq_true rfl⟩) (preS_ofW hNc hKB hE hS hF (P_left (P_perm hpm_4697 hP)) ((D_left (D_perm hpm_4697 hD)).weaken (fun _ _ _ _ => trivial)) trivial) rfl rfl hl.1 rfl (lv_room (Nat.le_of_ble_eq_true rfl)) dL_law_2746 ⟨show cl + 103 ≤ 1200144 from by first | decide | omega, show sl + 5800 ≤ 5495674 from by first | decide | omega⟩)
      (fun u_ H locs hq hph (hP : va_P G.1 CL (([(oD, .inl (G.2 6, 1, .inr (.inr (.inr (.inl og)))))] ++ (WM ++ [])) ++ ([(o, .inl (G.2 5, 1, .inr (.inl u_.1)))] ++ (u_.2.2 ++ []))) H) (hD : va_D A (([(oD, .inl (G.2 6, 1, .inr (.inr (.inr (.inl og)))))] ++ (WM ++ [])) ++ ([(o, .inl (G.2 5, 1, .inr (.inl u_.1)))] ++ (u_.2.2 ++ [])))) hS hfz hfk => ?_)
  obtain ⟨of2_4698, k_4699, W2_4700⟩ := u_
  obtain ⟨hq_4701, hq_4702⟩ : (∀ P, dS C = some P → k_4699 = 0 ∧ of2_4698 0 = (nI (sN P)).toInt64 ∧ DyW G d ((P, dS C, 0, dH C, dL C, dN C) : DS) W2_4700) ∧ (dS C = none → k_4699 = 1 ∧ DyW G d C W2_4700) := hq
  have hpm_4703 : (([(oD, .inl (G.2 6, 1, .inr (.inr (.inr (.inl og)))))] ++ (WM ++ [])) ++ ([(o, .inl (G.2 5, 1, .inr (.inl of2_4698)))] ++ (W2_4700 ++ [])) : va_W).Perm ([(oD, .inl (G.2 6, 1, .inr (.inr (.inr (.inl og))))), (o, .inl (G.2 5, 1, .inr (.inl of2_4698)))] ++ (WM ++ (W2_4700 ++ []))) := segs_perm2 [[(oD, .inl (G.2 6, 1, .inr (.inr (.inr (.inl og)))))], WM] [[(o, .inl (G.2 5, 1, .inr (.inl of2_4698)))], W2_4700] [0, 2, 1, 3] rfl
  have hP : va_P G.1 CL ([(oD, .inl (G.2 6, 1, .inr (.inr (.inr (.inl og))))), (o, .inl (G.2 5, 1, .inr (.inl of2_4698)))] ++ (WM ++ (W2_4700 ++ []))) H := P_perm hpm_4703 hP
  have hD : va_D A ([(oD, .inl (G.2 6, 1, .inr (.inr (.inr (.inl og))))), (o, .inl (G.2 5, 1, .inr (.inl of2_4698)))] ++ (WM ++ (W2_4700 ++ []))) := D_perm hpm_4703 hD
  refine W.eq (g2 := F0 m 2749 ls [.int (nI k_4699)]) rfl ?_
  refine lv_istore (lv' := [(6, .int (nI k_4699)), (0, .ref b), (1, .ref d), (2, .ref m0), (3, .ref o), (4, .ref oD), (5, .int (nI i9))]) hx hb dL_law_2749 hl (by decide) rfl (fun ls hl => ?_)
  refine lv_aload_n hx hb dL_law_2751 rfl (lv_at hl 3 rfl) ?_
  have hpm_4704 : (([(oD, .inl (G.2 6, 1, .inr (.inr (.inr (.inl og))))), (o, .inl (G.2 5, 1, .inr (.inl of2_4698)))] ++ (WM ++ (W2_4700 ++ []))) : va_W).Perm ((WM ++ []) ++ ([(oD, .inl (G.2 6, 1, .inr (.inr (.inr (.inl og))))), (o, .inl (G.2 5, 1, .inr (.inl of2_4698)))] ++ (W2_4700 ++ []))) := segs_perm [[(oD, .inl (G.2 6, 1, .inr (.inr (.inr (.inl og)))))], [(o, .inl (G.2 5, 1, .inr (.inl of2_4698)))], WM, W2_4700] [2] [0, 1, 3] rfl
  have hF := hF_ofP (wc := (WM ++ [])) hD hS hA hpm_4704
  refine go_ctP hS hP hD hpm_4704 hF
      (va_runV (As := []) (rest := []) cf (eX4_restore l G m0 M th WM (hMd) H.size) (cwV 0 hts (lw_V q1958 q1959 q1960 q58 q1961) rfl rfl rfl (by decide +kernel) ⟨Nat.le_of_ble_eq_true rfl, Nat.le_of_ble_eq_true rfl⟩) (preV_of hKB hE hS hF (MdW.recv hK hMd (seg_at [[(oD, .inl (G.2 6, 1, .inr (.inr (.inr (.inl og)))))], [(o, .inl (G.2 5, 1, .inr (.inl of2_4698)))], WM, W2_4700] 2 rfl hP)) (P_left (P_perm hpm_4704 hP)) ((D_left (D_perm hpm_4704 hD)).weaken (fun _ _ _ _ => trivial)) trivial) rfl rfl hl.1 rfl (lv_room (Nat.le_of_ble_eq_true rfl)) dL_law_2752 ⟨show cl + 103 + 0 ≤ 1200144 from by first | decide | omega, show sl + 5800 + 0 ≤ 5495674 from by first | decide | omega⟩)
      (fun u_ H locs hq hph (hP : va_P G.1 CL (([(oD, .inl (G.2 6, 1, .inr (.inr (.inr (.inl og))))), (o, .inl (G.2 5, 1, .inr (.inl of2_4698)))] ++ (W2_4700 ++ [])) ++ (u_.2 ++ [])) H) (hD : va_D A (([(oD, .inl (G.2 6, 1, .inr (.inr (.inr (.inl og))))), (o, .inl (G.2 5, 1, .inr (.inl of2_4698)))] ++ (W2_4700 ++ [])) ++ (u_.2 ++ []))) hS hfz hfk => ?_)
  obtain ⟨rr_4705, W2_4706⟩ := u_
  obtain ⟨hq_4707, hq_4708⟩ : (∀ P, dS M = some P → rr_4705 = nI (sN P) ∧ MdW G m0 ((P, dS M, 0, dH M, dL M, dN M) : DS) 0 W2_4706) ∧ (dS M = none → MdW G m0 M 1 W2_4706) := hq
  have hpm_4709 : (([(oD, .inl (G.2 6, 1, .inr (.inr (.inr (.inl og))))), (o, .inl (G.2 5, 1, .inr (.inl of2_4698)))] ++ (W2_4700 ++ [])) ++ (W2_4706 ++ []) : va_W).Perm ([(oD, .inl (G.2 6, 1, .inr (.inr (.inr (.inl og))))), (o, .inl (G.2 5, 1, .inr (.inl of2_4698)))] ++ (W2_4700 ++ (W2_4706 ++ []))) := segs_perm2 [[(oD, .inl (G.2 6, 1, .inr (.inr (.inr (.inl og)))))], [(o, .inl (G.2 5, 1, .inr (.inl of2_4698)))], W2_4700] [W2_4706] [0, 1, 2, 3] rfl
  have hP : va_P G.1 CL ([(oD, .inl (G.2 6, 1, .inr (.inr (.inr (.inl og))))), (o, .inl (G.2 5, 1, .inr (.inl of2_4698)))] ++ (W2_4700 ++ (W2_4706 ++ []))) H := P_perm hpm_4709 hP
  have hD : va_D A ([(oD, .inl (G.2 6, 1, .inr (.inr (.inr (.inl og))))), (o, .inl (G.2 5, 1, .inr (.inl of2_4698)))] ++ (W2_4700 ++ (W2_4706 ++ []))) := D_perm hpm_4709 hD
  refine W.eq (g2 := F0 m 2755 ls [.int rr_4705]) rfl ?_
  rcases hsn : dS C with _ | P_4710
  · obtain ⟨rfl, hDy2⟩ := hq_4702 hsn
    have hMd2 := hq_4708 (hLw.2.1.none_iff.mp hsn)
    refine W.eq (g2 := F0 m 2755 ls [.int rr_4705]) rfl ?_
    refine lv_istore (lv' := [(7, .int rr_4705), (6, .int (nI 1)), (0, .ref b), (1, .ref d), (2, .ref m0), (3, .ref o), (4, .ref oD), (5, .int (nI i9))]) hx hb dL_law_2755 hl (by decide) rfl (fun ls hl => ?_)
    refine lv_aload_n hx hb dL_law_2757 rfl (lv_at hl 4 rfl) ?_
    have hpm_4711 : (([(oD, .inl (G.2 6, 1, .inr (.inr (.inr (.inl og))))), (o, .inl (G.2 5, 1, .inr (.inl of2_4698)))] ++ (W2_4700 ++ (W2_4706 ++ []))) : va_W).Perm ([] ++ ([(oD, .inl (G.2 6, 1, .inr (.inr (.inr (.inl og))))), (o, .inl (G.2 5, 1, .inr (.inl of2_4698)))] ++ (W2_4700 ++ (W2_4706 ++ [])))) := segs_perm [[(oD, .inl (G.2 6, 1, .inr (.inr (.inr (.inl og)))))], [(o, .inl (G.2 5, 1, .inr (.inl of2_4698)))], W2_4700, W2_4706] [] [0, 1, 2, 3] rfl
    have hF := hF_ofP (wc := []) hD hS hA hpm_4711
    refine go_ctP hS hP hD hpm_4711 hF
        (va_runV (As := []) (rest := []) cf (eX4_thrown l G m0 M 1 W2_4706 (hMd2) H.size) (cwV 0 hts (lw_V q1639 q1640 q1641 q58 q1642) rfl rfl rfl (by decide +kernel) ⟨Nat.le_of_ble_eq_true rfl, Nat.le_of_ble_eq_true rfl⟩) (preV_of hKB hE hS hF (MdW.recv hK hMd2 (seg_at [[(oD, .inl (G.2 6, 1, .inr (.inr (.inr (.inl og)))))], [(o, .inl (G.2 5, 1, .inr (.inl of2_4698)))], W2_4700, W2_4706] 3 rfl hP)) (P_left (P_perm hpm_4711 hP)) ((D_left (D_perm hpm_4711 hD)).weaken (fun _ _ _ _ => trivial)) (roW.nil (seg_at [[(oD, .inl (G.2 6, 1, .inr (.inr (.inr (.inl og)))))], [(o, .inl (G.2 5, 1, .inr (.inl of2_4698)))], W2_4700, W2_4706] 3 rfl hP))) rfl rfl hl.1 rfl (lv_room (Nat.le_of_ble_eq_true rfl)) dL_law_2758 ⟨show cl + 103 + 0 ≤ 1200144 from by first | decide | omega, show sl + 5800 + 0 ≤ 5495674 from by first | decide | omega⟩)
        (fun u_ H locs hq hph (hP : va_P G.1 CL (([(oD, .inl (G.2 6, 1, .inr (.inr (.inr (.inl og))))), (o, .inl (G.2 5, 1, .inr (.inl of2_4698)))] ++ (W2_4700 ++ (W2_4706 ++ []))) ++ []) H) (hD : va_D A (([(oD, .inl (G.2 6, 1, .inr (.inr (.inr (.inl og))))), (o, .inl (G.2 5, 1, .inr (.inl of2_4698)))] ++ (W2_4700 ++ (W2_4706 ++ []))) ++ [])) hS hfz hfk => ?_)
    have hpm_4712 : (([(oD, .inl (G.2 6, 1, .inr (.inr (.inr (.inl og))))), (o, .inl (G.2 5, 1, .inr (.inl of2_4698)))] ++ (W2_4700 ++ (W2_4706 ++ []))) ++ [] : va_W).Perm ([(oD, .inl (G.2 6, 1, .inr (.inr (.inr (.inl og))))), (o, .inl (G.2 5, 1, .inr (.inl of2_4698)))] ++ (W2_4700 ++ (W2_4706 ++ []))) := segs_perm2 [[(oD, .inl (G.2 6, 1, .inr (.inr (.inr (.inl og)))))], [(o, .inl (G.2 5, 1, .inr (.inl of2_4698)))], W2_4700, W2_4706] [] [0, 1, 2, 3] rfl
    have hP : va_P G.1 CL ([(oD, .inl (G.2 6, 1, .inr (.inr (.inr (.inl og))))), (o, .inl (G.2 5, 1, .inr (.inl of2_4698)))] ++ (W2_4700 ++ (W2_4706 ++ []))) H := P_perm hpm_4712 hP
    have hD : va_D A ([(oD, .inl (G.2 6, 1, .inr (.inr (.inr (.inl og))))), (o, .inl (G.2 5, 1, .inr (.inl of2_4698)))] ++ (W2_4700 ++ (W2_4706 ++ []))) := D_perm hpm_4712 hD
    refine W.eq (g2 := F0 m 2761 ls [.int (nI 1)]) rfl ?_
    refine lv_iload hx hb dL_law_2761 (lv_at hl 1 rfl) ?_
    refine lv_icmp_eq (tgt := 2768) hx hb dL_law_2763 (by decide) (fun _ => ?_) (fun c9 => absurd rfl c9)
    refine lv_iload hx hb dL_law_2768 (lv_at hl 1 rfl) ?_
    refine n_if_ne (tgt := 2785) hx hb (by omega) dL_law_2770 (by decide) (fun c_4713 => ?_) (fun c_4713 => absurd c_4713 (by omega))
    refine lv_goto (tgt := 2788) hx hb dL_law_2785 (by decide) ?_
    have hpm_4714 : (([(oD, .inl (G.2 6, 1, .inr (.inr (.inr (.inl og))))), (o, .inl (G.2 5, 1, .inr (.inl of2_4698)))] ++ (W2_4700 ++ (W2_4706 ++ []))) : va_W).Perm (([(o, .inl (G.2 5, 1, .inr (.inl of2_4698))), (oD, .inl (G.2 6, 1, .inr (.inr (.inr (.inl og)))))] ++ (W2_4700 ++ (W2_4706 ++ []))) ++ []) := segs_perm [[(oD, .inl (G.2 6, 1, .inr (.inr (.inr (.inl og)))))], [(o, .inl (G.2 5, 1, .inr (.inl of2_4698)))], W2_4700, W2_4706] [1, 0, 2, 3] [] rfl
    have hP : va_P G.1 CL ([(o, .inl (G.2 5, 1, .inr (.inl of2_4698))), (oD, .inl (G.2 6, 1, .inr (.inr (.inr (.inl og)))))] ++ (W2_4700 ++ (W2_4706 ++ []))) H := P_left (P_perm hpm_4714 hP)
    have hD : va_D A ([(o, .inl (G.2 5, 1, .inr (.inl of2_4698))), (oD, .inl (G.2 6, 1, .inr (.inr (.inr (.inl og)))))] ++ (W2_4700 ++ (W2_4706 ++ []))) := D_left (D_perm hpm_4714 hD)
    have hl := lv_sub hl [2, 3, 4, 5, 6, 7] (l' := [(0, .ref b), (1, .ref d), (2, .ref m0), (3, .ref o), (4, .ref oD), (5, .int (nI i9))]) rfl
    exact W.widen (show cl + 103 ≤ cl + 20000 from by omega) (show sl + 5800 ≤ sl + 45000 from by omega) (kk ls H locs C M 1 W2_4700 W2_4706 of2_4698 og hP hD hS hl hDy2 hMd2 hLw.up)
  · obtain ⟨rfl, hof9, hDy2⟩ := hq_4701 P_4710 hsn
    obtain ⟨Q9, hsm, hPQ⟩ : ∃ Q, dS M = some Q ∧ Sim P_4710 Q := by have h9 := hLw.2.1; rw [hsn] at h9; exact h9.some
    obtain ⟨hrr9, hMd2⟩ := hq_4707 Q9 hsm
    refine lv_ton (n := (sN P_4710)) (hrr9.trans (congrArg nI hPQ.sN.symm)) ?_
    refine lv_istore (lv' := [(7, .int (nI (sN P_4710))), (6, .int (nI 0)), (0, .ref b), (1, .ref d), (2, .ref m0), (3, .ref o), (4, .ref oD), (5, .int (nI i9))]) hx hb dL_law_2755 hl (by decide) rfl (fun ls hl => ?_)
    refine lv_aload_n hx hb dL_law_2757 rfl (lv_at hl 4 rfl) ?_
    have hpm_4715 : (([(oD, .inl (G.2 6, 1, .inr (.inr (.inr (.inl og))))), (o, .inl (G.2 5, 1, .inr (.inl of2_4698)))] ++ (W2_4700 ++ (W2_4706 ++ []))) : va_W).Perm ([] ++ ([(oD, .inl (G.2 6, 1, .inr (.inr (.inr (.inl og))))), (o, .inl (G.2 5, 1, .inr (.inl of2_4698)))] ++ (W2_4700 ++ (W2_4706 ++ [])))) := segs_perm [[(oD, .inl (G.2 6, 1, .inr (.inr (.inr (.inl og)))))], [(o, .inl (G.2 5, 1, .inr (.inl of2_4698)))], W2_4700, W2_4706] [] [0, 1, 2, 3] rfl
    have hF := hF_ofP (wc := []) hD hS hA hpm_4715
    refine go_ctP hS hP hD hpm_4715 hF
        (va_runV (As := []) (rest := []) cf (eX4_thrown l G m0 ((Q9, dS M, 0, dH M, dL M, dN M) : DS) 0 W2_4706 (hMd2) H.size) (cwV 0 hts (lw_V q1639 q1640 q1641 q58 q1642) rfl rfl rfl (by decide +kernel) ⟨Nat.le_of_ble_eq_true rfl, Nat.le_of_ble_eq_true rfl⟩) (preV_of hKB hE hS hF (MdW.recv hK hMd2 (seg_at [[(oD, .inl (G.2 6, 1, .inr (.inr (.inr (.inl og)))))], [(o, .inl (G.2 5, 1, .inr (.inl of2_4698)))], W2_4700, W2_4706] 3 rfl hP)) (P_left (P_perm hpm_4715 hP)) ((D_left (D_perm hpm_4715 hD)).weaken (fun _ _ _ _ => trivial)) (roW.nil (seg_at [[(oD, .inl (G.2 6, 1, .inr (.inr (.inr (.inl og)))))], [(o, .inl (G.2 5, 1, .inr (.inl of2_4698)))], W2_4700, W2_4706] 3 rfl hP))) rfl rfl hl.1 rfl (lv_room (Nat.le_of_ble_eq_true rfl)) dL_law_2758 ⟨show cl + 103 + 0 ≤ 1200144 from by first | decide | omega, show sl + 5800 + 0 ≤ 5495674 from by first | decide | omega⟩)
        (fun u_ H locs hq hph (hP : va_P G.1 CL (([(oD, .inl (G.2 6, 1, .inr (.inr (.inr (.inl og))))), (o, .inl (G.2 5, 1, .inr (.inl of2_4698)))] ++ (W2_4700 ++ (W2_4706 ++ []))) ++ []) H) (hD : va_D A (([(oD, .inl (G.2 6, 1, .inr (.inr (.inr (.inl og))))), (o, .inl (G.2 5, 1, .inr (.inl of2_4698)))] ++ (W2_4700 ++ (W2_4706 ++ []))) ++ [])) hS hfz hfk => ?_)
    have hpm_4716 : (([(oD, .inl (G.2 6, 1, .inr (.inr (.inr (.inl og))))), (o, .inl (G.2 5, 1, .inr (.inl of2_4698)))] ++ (W2_4700 ++ (W2_4706 ++ []))) ++ [] : va_W).Perm ([(oD, .inl (G.2 6, 1, .inr (.inr (.inr (.inl og))))), (o, .inl (G.2 5, 1, .inr (.inl of2_4698)))] ++ (W2_4700 ++ (W2_4706 ++ []))) := segs_perm2 [[(oD, .inl (G.2 6, 1, .inr (.inr (.inr (.inl og)))))], [(o, .inl (G.2 5, 1, .inr (.inl of2_4698)))], W2_4700, W2_4706] [] [0, 1, 2, 3] rfl
    have hP : va_P G.1 CL ([(oD, .inl (G.2 6, 1, .inr (.inr (.inr (.inl og))))), (o, .inl (G.2 5, 1, .inr (.inl of2_4698)))] ++ (W2_4700 ++ (W2_4706 ++ []))) H := P_perm hpm_4716 hP
    have hD : va_D A ([(oD, .inl (G.2 6, 1, .inr (.inr (.inr (.inl og))))), (o, .inl (G.2 5, 1, .inr (.inl of2_4698)))] ++ (W2_4700 ++ (W2_4706 ++ []))) := D_perm hpm_4716 hD
    refine W.eq (g2 := F0 m 2761 ls [.int (nI 0)]) rfl ?_
    refine lv_iload hx hb dL_law_2761 (lv_at hl 1 rfl) ?_
    refine lv_icmp_eq (tgt := 2768) hx hb dL_law_2763 (by decide) (fun _ => ?_) (fun c9 => absurd rfl c9)
    refine lv_iload hx hb dL_law_2768 (lv_at hl 1 rfl) ?_
    refine n_if_ne (tgt := 2785) hx hb (by omega) dL_law_2770 (by decide) (fun c_4717 => absurd c_4717 (by omega)) (fun c_4717 => ?_)
    refine lv_aload_n hx hb dL_law_2773 rfl (lv_at hl 5 rfl) ?_
    refine lv_iconst (v := nI 0) hx hb dL_law_2774 (by decide) ?_
    refine r_lald (v := (nI (sN P_4710)).toInt64) hx hb hK hP 1 5 rfl rfl (i := 0) (by omega) (by omega) (hof9) dL_law_2775 ?_
    refine lv_iload hx hb dL_law_2776 (lv_at hl 0 rfl) ?_
    refine lv_i2l (v := (nI (sN P_4710)).toInt64) hx hb dL_law_2778 rfl ?_
    refine W.lcmp hx hb dL_law_2779 ?_
    refine lv_ton (n := 0) (lcmp0 _) ?_
    refine n_if_eq (tgt := 2785) hx hb (by omega) dL_law_2780 (by decide) (fun c_4718 => ?_) (fun c_4718 => absurd c_4718 (by omega))
    refine lv_goto (tgt := 2788) hx hb dL_law_2785 (by decide) ?_
    have hpm_4719 : (([(oD, .inl (G.2 6, 1, .inr (.inr (.inr (.inl og))))), (o, .inl (G.2 5, 1, .inr (.inl of2_4698)))] ++ (W2_4700 ++ (W2_4706 ++ []))) : va_W).Perm (([(o, .inl (G.2 5, 1, .inr (.inl of2_4698))), (oD, .inl (G.2 6, 1, .inr (.inr (.inr (.inl og)))))] ++ (W2_4700 ++ (W2_4706 ++ []))) ++ []) := segs_perm [[(oD, .inl (G.2 6, 1, .inr (.inr (.inr (.inl og)))))], [(o, .inl (G.2 5, 1, .inr (.inl of2_4698)))], W2_4700, W2_4706] [1, 0, 2, 3] [] rfl
    have hP : va_P G.1 CL ([(o, .inl (G.2 5, 1, .inr (.inl of2_4698))), (oD, .inl (G.2 6, 1, .inr (.inr (.inr (.inl og)))))] ++ (W2_4700 ++ (W2_4706 ++ []))) H := P_left (P_perm hpm_4719 hP)
    have hD : va_D A ([(o, .inl (G.2 5, 1, .inr (.inl of2_4698))), (oD, .inl (G.2 6, 1, .inr (.inr (.inr (.inl og)))))] ++ (W2_4700 ++ (W2_4706 ++ []))) := D_left (D_perm hpm_4719 hD)
    have hl := lv_sub hl [2, 3, 4, 5, 6, 7] (l' := [(0, .ref b), (1, .ref d), (2, .ref m0), (3, .ref o), (4, .ref oD), (5, .int (nI i9))]) rfl
    exact W.widen (show cl + 103 ≤ cl + 20000 from by omega) (show sl + 5800 ≤ sl + 45000 from by omega) (kk ls H locs ((P_4710, dS C, 0, dH C, dL C, dN C) : DS) ((Q9, dS M, 0, dH M, dL M, dN M) : DS) 0 W2_4700 W2_4706 of2_4698 og hP hD hS hl hDy2 hMd2 (hLw.restore hsn hsm))
