/-! the model: the plan, the week -/
set_option maxRecDepth 100000
set_option maxHeartbeats 4000000 in
theorem mX4_goes (l : Launch) (G : Gt) (m0 : Nat) (sa : Nat) (oa : Nat) (pa : Nat) (la : Nat) (za : Nat) (na : Nat) (gu : Int32) (gt : Int32) (gw : Int32) (gd : Int32) (gm : Int32) (gr : Int32) (gh : Int32) (gv : Int32) (f : Nat → Int32) (B : Bk) (lf : Nat → Int32) (zf : Nat → Int32) (hM : MR f B) (hI : Inv B) : CT l G yX4_goes cX4_goes 4 (some .boolean) ({ frames := 6, cells := 0, slots := 0, locals := 127 } : Room) [.ref m0] [(m0, .inr (6, [.ref sa, .ref oa, .ref pa, .ref la, .ref za, .ref na, .int gu, .int gt, .int gw, .int gd, .int gm, .int gr, .int gh, .int gv])), (la, .inl (G.2 0, 200, .inl lf)), (za, .inl (G.2 0, 6, .inl zf))] (fun (A : Nat → Prop) (H : Heap) => roW G A H [(sa, .inl (G.2 0, 830, .inl f))]) (S := (Nat → Int32)) (fun (u_ : (Nat → Int32)) => some (.int (gI B))) (fun (u_ : (Nat → Int32)) => True) (fun (u_ : (Nat → Int32)) => [(m0, .inr (6, [.ref sa, .ref oa, .ref pa, .ref la, .ref za, .ref na, .int gu, .int gt, .int gw, .int (nI ((crs B).1)), .int (nI ((crs B).2.1)), .int (nI ((crs B).2.2.1)), .int gh, .int gv])), (la, .inl (G.2 0, 200, .inl (ldF B))), (za, .inl (G.2 0, 6, .inl u_))]) (fun (u_ : (Nat → Int32)) (H : Heap) => True) := by
  refine CT.of (by decide) (Nat.le_of_ble_eq_true rfl) ?_
  intro p e s m below meth c ls A H locs h9 hH0 hP hS
  obtain ⟨cf, hr, hlk, hnm, hKB, hE, -, hD, -, hA, hAw, hR0, hl⟩ := h9
  have hx := cf.1
  have hb := cf.2.1
  have hml := cf.2.2.1
  have hown : s.vm.findClass RX4 = some m.cls := cf.2.2.2.1
  have hts := cf.2.2.2.2
  have hK := hKB.1
  have hl : lv_has ls 4 [(0, .ref m0)] := hl
  have iN := iv_sN hI
  have iT := iv_tN hI
  have iD := iv_bD hI
  have iE := iv_bE hI
  have iW := iv_id hI
  refine lv_aload_n hx hb dX4_goes_0 rfl (lv_at hl 0 rfl) ?_
  have hF := hF_of (wc := [(la, .inl (G.2 0, 200, .inl lf)), (za, .inl (G.2 0, 6, .inl zf))]) hD hS hA [1, 2] rfl
  have hro_131 : roW G (va_A [(la, .inl (G.2 0, 200, .inl lf)), (za, .inl (G.2 0, 6, .inl zf))] H.size) H [(m0, .inr (6, [.ref sa, .ref oa, .ref pa, .ref la, .ref za, .ref na, .int gu, .int gt, .int gw, .int gd, .int gm, .int gr, .int gh, .int gv])), (sa, .inl (G.2 0, 830, .inl f))] := ((roW.of (w' := [(m0, .inr (6, [.ref sa, .ref oa, .ref pa, .ref la, .ref za, .ref na, .int gu, .int gt, .int gw, .int gd, .int gm, .int gr, .int gh, .int gv]))]) hP hD [1, 2] [0] rfl rfl (by decide)).app ((hR0.kp hF hS.2.1).sub (ws' := [(sa, .inl (G.2 0, 830, .inl f))]) [0] rfl))
  refine go_ct hS hP hD [1, 2] [0] hF rfl rfl (by decide) (by decide)
      (va_runV (As := []) (rest := []) cf (mX4_loads l G m0 sa oa pa la za na gu gt gw gd gm gr gh gv f B lf zf (show MR f B from by first | assumption | omega) (show Inv B from by first | assumption | omega) H.size) (cwV 0 hts (lw_V q1795 q1797 qs34 q58 q1798) rfl rfl rfl (by decide +kernel) ⟨Nat.le_of_ble_eq_true rfl, Nat.le_of_ble_eq_true rfl⟩) (preV_of hKB hE hS hF (va_recv hK hP (ci := 6) (q0 := 0) rfl rfl) (va_P.sub hP [1, 2] rfl) ((va_D.sub hD [1, 2] (by decide) rfl).weaken (fun _ _ _ _ => trivial)) hro_131) rfl rfl hl.1 rfl (lv_room (Nat.le_of_ble_eq_true rfl)) dX4_goes_1 ⟨show 0 + 0 ≤ 0 from by first | decide | omega, show 0 + 0 ≤ 0 from by first | decide | omega⟩)
      (fun u_ H locs hq hph (hP : va_P G.1 CL [(m0, .inr (6, [.ref sa, .ref oa, .ref pa, .ref la, .ref za, .ref na, .int gu, .int gt, .int gw, .int gd, .int gm, .int gr, .int gh, .int gv])), (la, .inl (G.2 0, 200, .inl (ldF B))), (za, .inl (G.2 0, 6, .inl u_))] H) (hD : va_D A [(m0, .inr (6, [.ref sa, .ref oa, .ref pa, .ref la, .ref za, .ref na, .int gu, .int gt, .int gw, .int gd, .int gm, .int gr, .int gh, .int gv])), (la, .inl (G.2 0, 200, .inl (ldF B))), (za, .inl (G.2 0, 6, .inl u_))]) hS hfz hfk => ?_)
  obtain ⟨zg_132, rfl⟩ : ∃ z, z = u_ := ⟨_, rfl⟩
  have hP : va_P G.1 CL [(m0, .inr (6, [.ref sa, .ref oa, .ref pa, .ref la, .ref za, .ref na, .int gu, .int gt, .int gw, .int gd, .int gm, .int gr, .int gh, .int gv])), (la, .inl (G.2 0, 200, .inl (ldF B))), (za, .inl (G.2 0, 6, .inl zg_132))] H := hP
  have hD : va_D A [(m0, .inr (6, [.ref sa, .ref oa, .ref pa, .ref la, .ref za, .ref na, .int gu, .int gt, .int gw, .int gd, .int gm, .int gr, .int gh, .int gv])), (la, .inl (G.2 0, 200, .inl (ldF B))), (za, .inl (G.2 0, 6, .inl zg_132))] := hD
  refine W.eq (g2 := F0 m 4 ls []) rfl ?_
  refine lv_aload_n hx hb dX4_goes_4 rfl (lv_at hl 0 rfl) ?_
  refine lv_iconst (v := nI 0) hx hb dX4_goes_5 (by decide) ?_
  refine va_put (v := .int (nI 0)) (ty := .int) hx hb hts in_X4 tyX4 tyX4_ok nmX4 hown hK hP hD hS 0 rfl rfl 9 (by decide) (hts _ q1605) (fun _ h => h) rfl (by decide +kernel) rfl rfl (Nat.le_of_ble_eq_true rfl) dX4_goes_6 (fun H locs (hP : va_P G.1 CL [(m0, .inr (6, [.ref sa, .ref oa, .ref pa, .ref la, .ref za, .ref na, .int gu, .int gt, .int gw, .int (nI 0), .int gm, .int gr, .int gh, .int gv])), (la, .inl (G.2 0, 200, .inl (ldF B))), (za, .inl (G.2 0, 6, .inl zg_132))] H) (hD : va_D A [(m0, .inr (6, [.ref sa, .ref oa, .ref pa, .ref la, .ref za, .ref na, .int gu, .int gt, .int gw, .int (nI 0), .int gm, .int gr, .int gh, .int gv])), (la, .inl (G.2 0, 200, .inl (ldF B))), (za, .inl (G.2 0, 6, .inl zg_132))]) hS => ?_)
  refine lv_aload_n hx hb dX4_goes_9 rfl (lv_at hl 0 rfl) ?_
  refine lv_iconst (v := nI 0) hx hb dX4_goes_10 (by decide) ?_
  refine va_put (v := .int (nI 0)) (ty := .int) hx hb hts in_X4 tyX4 tyX4_ok nmX4 hown hK hP hD hS 0 rfl rfl 10 (by decide) (hts _ q1606) (fun _ h => h) rfl (by decide +kernel) rfl rfl (Nat.le_of_ble_eq_true rfl) dX4_goes_11 (fun H locs (hP : va_P G.1 CL [(m0, .inr (6, [.ref sa, .ref oa, .ref pa, .ref la, .ref za, .ref na, .int gu, .int gt, .int gw, .int (nI 0), .int (nI 0), .int gr, .int gh, .int gv])), (la, .inl (G.2 0, 200, .inl (ldF B))), (za, .inl (G.2 0, 6, .inl zg_132))] H) (hD : va_D A [(m0, .inr (6, [.ref sa, .ref oa, .ref pa, .ref la, .ref za, .ref na, .int gu, .int gt, .int gw, .int (nI 0), .int (nI 0), .int gr, .int gh, .int gv])), (la, .inl (G.2 0, 200, .inl (ldF B))), (za, .inl (G.2 0, 6, .inl zg_132))]) hS => ?_)
  refine lv_aload_n hx hb dX4_goes_14 rfl (lv_at hl 0 rfl) ?_
  refine lv_iconst (v := nI 0) hx hb dX4_goes_15 (by decide) ?_
  refine va_put (v := .int (nI 0)) (ty := .int) hx hb hts in_X4 tyX4 tyX4_ok nmX4 hown hK hP hD hS 0 rfl rfl 11 (by decide) (hts _ q1607) (fun _ h => h) rfl (by decide +kernel) rfl rfl (Nat.le_of_ble_eq_true rfl) dX4_goes_16 (fun H locs (hP : va_P G.1 CL [(m0, .inr (6, [.ref sa, .ref oa, .ref pa, .ref la, .ref za, .ref na, .int gu, .int gt, .int gw, .int (nI 0), .int (nI 0), .int (nI 0), .int gh, .int gv])), (la, .inl (G.2 0, 200, .inl (ldF B))), (za, .inl (G.2 0, 6, .inl zg_132))] H) (hD : va_D A [(m0, .inr (6, [.ref sa, .ref oa, .ref pa, .ref la, .ref za, .ref na, .int gu, .int gt, .int gw, .int (nI 0), .int (nI 0), .int (nI 0), .int gh, .int gv])), (la, .inl (G.2 0, 200, .inl (ldF B))), (za, .inl (G.2 0, 6, .inl zg_132))]) hS => ?_)
  refine lv_iconst (v := nI 0) hx hb dX4_goes_19 (by decide) ?_
  refine lv_istore_n (lv' := [(1, .int (nI 0)), (0, .ref m0)]) hx hb dX4_goes_20 rfl hl (by decide) rfl (fun ls hl => ?_)
  rcases hbp : bP B with _ | d_133
  · have hcr : crs B = (0, 0, 0, 0) := by unfold crs; rw [hbp]
    refine lv_aload_n hx hb dX4_goes_21 rfl (lv_at hl 1 rfl) ?_
    refine va_get hx hb hts in_X4 hown hK hP 0 rfl rfl 0 (by decide) (hts _ q1596) (fun _ h => h) rfl dX4_goes_22 ?_
    refine lv_iconst (v := nI 5) hx hb dX4_goes_25 (by decide) ?_
    refine r_iald (v := f 5) hx hb hK (hR0.w hS) 0 0 rfl rfl (i := 5) (by omega) (by omega) (rfl) dX4_goes_26 ?_
    refine lv_istore_n (lv' := [(2, .int (f 5)), (1, .int (nI 0)), (0, .ref m0)]) hx hb dX4_goes_27 rfl hl (by decide) rfl (fun ls hl => ?_)
    refine lv_aload_n hx hb dX4_goes_28 rfl (lv_at hl 2 rfl) ?_
    refine va_get hx hb hts in_X4 hown hK hP 0 rfl rfl 0 (by decide) (hts _ q1596) (fun _ h => h) rfl dX4_goes_29 ?_
    refine lv_iconst (v := nI 4) hx hb dX4_goes_32 (by decide) ?_
    refine r_iald (v := nI 0) hx hb hK (hR0.w hS) 0 0 rfl rfl (i := 4) (by omega) (by omega) (hM.planned.trans (by rw [hbp])) dX4_goes_33 ?_
    refine lv_iconst (v := nI 1) hx hb dX4_goes_34 (by decide) ?_
    refine n_icmp_ne (tgt := 173) hx hb (by omega) (by omega) dX4_goes_35 (by decide) (fun c_134 => ?_) (fun c_134 => absurd c_134 (by omega))
    have hP : va_P G.1 CL [(m0, .inr (6, [.ref sa, .ref oa, .ref pa, .ref la, .ref za, .ref na, .int gu, .int gt, .int gw, .int (nI ((crs B).1)), .int (nI ((crs B).2.1)), .int (nI ((crs B).2.2.1)), .int gh, .int gv])), (la, .inl (G.2 0, 200, .inl (ldF B))), (za, .inl (G.2 0, 6, .inl zg_132))] H := by rw [hcr]; exact hP
    have hD : va_D A [(m0, .inr (6, [.ref sa, .ref oa, .ref pa, .ref la, .ref za, .ref na, .int gu, .int gt, .int gw, .int (nI ((crs B).1)), .int (nI ((crs B).2.1)), .int (nI ((crs B).2.2.1)), .int gh, .int gv])), (la, .inl (G.2 0, 200, .inl (ldF B))), (za, .inl (G.2 0, 6, .inl zg_132))] := by rw [hcr]; exact hD
    have hc0 : (crs B).1 ≤ bE B := by rw [hcr]; first | exact hc1 | exact Nat.zero_le _
    refine lv_aload_n hx hb dX4_goes_173 rfl (lv_at hl 2 rfl) ?_
    refine va_get hx hb hts in_X4 hown hK hP 0 rfl rfl 0 (by decide) (hts _ q1596) (fun _ h => h) rfl dX4_goes_174 ?_
    refine lv_iconst (v := nI 4) hx hb dX4_goes_177 (by decide) ?_
    refine r_iald (v := nI 0) hx hb hK (hR0.w hS) 0 0 rfl rfl (i := 4) (by omega) (by omega) (hM.planned.trans (by rw [hbp])) dX4_goes_178 ?_
    refine lv_iconst (v := nI 1) hx hb dX4_goes_179 (by decide) ?_
    refine n_icmp_ne (tgt := 201) hx hb (by omega) (by omega) dX4_goes_180 (by decide) (fun c_135 => ?_) (fun c_135 => absurd c_135 (by omega))
    refine lv_iconst (v := nI 0) hx hb dX4_goes_201 (by decide) ?_
    have hP9 : va_P G.1 CL [(m0, .inr (6, [.ref sa, .ref oa, .ref pa, .ref la, .ref za, .ref na, .int gu, .int gt, .int gw, .int (nI ((crs B).1)), .int (nI ((crs B).2.1)), .int (nI ((crs B).2.2.1)), .int gh, .int gv])), (la, .inl (G.2 0, 200, .inl (ldF B))), (za, .inl (G.2 0, 6, .inl zg_132))] H := hP.sub [0, 1, 2] rfl
    have hD9 : va_D A [(m0, .inr (6, [.ref sa, .ref oa, .ref pa, .ref la, .ref za, .ref na, .int gu, .int gt, .int gw, .int (nI ((crs B).1)), .int (nI ((crs B).2.1)), .int (nI ((crs B).2.2.1)), .int gh, .int gv])), (la, .inl (G.2 0, 200, .inl (ldF B))), (za, .inl (G.2 0, 6, .inl zg_132))] := hD.sub [0, 1, 2] (by decide) rfl
    exact end_i hx hb hr hlk (by decide) (qc_of zg_132 (v := some (.int (nI 0))) (by unfold gI; rw [hbp] <;> dsimp only <;> first | rfl | (rw [if_pos (by omega)]) | (rw [if_neg (by omega)])) (trivial) hP9 hD9 (trivial) hS) hS dX4_goes_202 (show 0 ≤ 0 from by first | exact Nat.le_refl _ | decide | omega) (show 0 ≤ 0 from by first | exact Nat.le_refl _ | decide | omega)
  · have hd9 := iv_pl hI hbp
    have hdz : ∀ d9, d9 ≤ bD B → loadD B d9 ≤ 960000 := fun d9 _ => loadD_le hI d9
    refine lv_aload_n hx hb dX4_goes_21 rfl (lv_at hl 1 rfl) ?_
    refine va_get hx hb hts in_X4 hown hK hP 0 rfl rfl 0 (by decide) (hts _ q1596) (fun _ h => h) rfl dX4_goes_22 ?_
    refine lv_iconst (v := nI 5) hx hb dX4_goes_25 (by decide) ?_
    refine r_iald (v := nI d_133) hx hb hK (hR0.w hS) 0 0 rfl rfl (i := 5) (by omega) (by omega) (hM.begun hbp) dX4_goes_26 ?_
    refine lv_istore_n (lv' := [(2, .int (nI d_133)), (1, .int (nI 0)), (0, .ref m0)]) hx hb dX4_goes_27 rfl hl (by decide) rfl (fun ls hl => ?_)
    have hl := lv_sub hl [2, 1, 0] (l' := [(0, .ref m0), (1, .int (nI ((crW B d_133 0).2.2.2))), (2, .int (nI d_133))]) rfl
    refine lp_W (σ := Nat) (hpc := 28) (fun x => bD B - d_133 - x) (fun x => 0) (fun x => 0) (fun x H locs ls => va_P G.1 CL [(m0, .inr (6, [.ref sa, .ref oa, .ref pa, .ref la, .ref za, .ref na, .int gu, .int gt, .int gw, .int (nI ((crW B d_133 x).1)), .int (nI ((crW B d_133 x).2.1)), .int (nI ((crW B d_133 x).2.2.1)), .int gh, .int gv])), (la, .inl (G.2 0, 200, .inl (ldF B))), (za, .inl (G.2 0, 6, .inl zg_132))] H ∧ va_D A [(m0, .inr (6, [.ref sa, .ref oa, .ref pa, .ref la, .ref za, .ref na, .int gu, .int gt, .int gw, .int (nI ((crW B d_133 x).1)), .int (nI ((crW B d_133 x).2.1)), .int (nI ((crW B d_133 x).2.2.1)), .int gh, .int gv])), (la, .inl (G.2 0, 200, .inl (ldF B))), (za, .inl (G.2 0, 6, .inl zg_132))] ∧ va_S A s.heap H locs ∧ lv_has ls 4 [(0, .ref m0), (1, .int (nI ((crW B d_133 x).2.2.2))), (2, .int (nI (d_133 + x)))] ∧ (x ≤ bD B - d_133)) ?_ (0) ⟨(show va_P G.1 CL [(m0, .inr (6, [.ref sa, .ref oa, .ref pa, .ref la, .ref za, .ref na, .int gu, .int gt, .int gw, .int (nI ((crW B d_133 0).1)), .int (nI ((crW B d_133 0).2.1)), .int (nI ((crW B d_133 0).2.2.1)), .int gh, .int gv])), (la, .inl (G.2 0, 200, .inl (ldF B))), (za, .inl (G.2 0, 6, .inl zg_132))] H from hP), (show va_D A [(m0, .inr (6, [.ref sa, .ref oa, .ref pa, .ref la, .ref za, .ref na, .int gu, .int gt, .int gw, .int (nI ((crW B d_133 0).1)), .int (nI ((crW B d_133 0).2.1)), .int (nI ((crW B d_133 0).2.2.1)), .int gh, .int gv])), (la, .inl (G.2 0, 200, .inl (ldF B))), (za, .inl (G.2 0, 6, .inl zg_132))] from hD), hS, hl, (show 0 ≤ bD B - d_133 from by omega)⟩ (show 0 ≤ 0 from by first | exact Nat.le_refl _ | omega) (show 0 ≤ 0 from by first | exact Nat.le_refl _ | omega)
    intro x H locs ls hI9 ih28
    obtain ⟨i_137, rfl⟩ : ∃ z, z = x := ⟨_, rfl⟩
    obtain ⟨hP, hD, hS, hl, hp_136⟩ := hI9
    have hP : va_P G.1 CL [(m0, .inr (6, [.ref sa, .ref oa, .ref pa, .ref la, .ref za, .ref na, .int gu, .int gt, .int gw, .int (nI ((crW B d_133 i_137).1)), .int (nI ((crW B d_133 i_137).2.1)), .int (nI ((crW B d_133 i_137).2.2.1)), .int gh, .int gv])), (la, .inl (G.2 0, 200, .inl (ldF B))), (za, .inl (G.2 0, 6, .inl zg_132))] H := hP
    have hD : va_D A [(m0, .inr (6, [.ref sa, .ref oa, .ref pa, .ref la, .ref za, .ref na, .int gu, .int gt, .int gw, .int (nI ((crW B d_133 i_137).1)), .int (nI ((crW B d_133 i_137).2.1)), .int (nI ((crW B d_133 i_137).2.2.1)), .int gh, .int gv])), (la, .inl (G.2 0, 200, .inl (ldF B))), (za, .inl (G.2 0, 6, .inl zg_132))] := hD
    have hl : lv_has ls 4 [(0, .ref m0), (1, .int (nI ((crW B d_133 i_137).2.2.2))), (2, .int (nI (d_133 + i_137)))] := hl
    have hp_136 : i_137 ≤ bD B - d_133 := hp_136
    obtain ⟨hc1, hc2, hc3, hc4⟩ := crW_ok B d_133 i_137
    have hdl := loadD_le hI (d_133 + i_137)
    refine lv_aload_n hx hb dX4_goes_28 rfl (lv_at hl 0 rfl) ?_
    refine va_get hx hb hts in_X4 hown hK hP 0 rfl rfl 0 (by decide) (hts _ q1596) (fun _ h => h) rfl dX4_goes_29 ?_
    refine lv_iconst (v := nI 4) hx hb dX4_goes_32 (by decide) ?_
    refine r_iald (v := nI 1) hx hb hK (hR0.w hS) 0 0 rfl rfl (i := 4) (by omega) (by omega) (hM.planned.trans (by rw [hbp])) dX4_goes_33 ?_
    refine lv_iconst (v := nI 1) hx hb dX4_goes_34 (by decide) ?_
    refine n_icmp_ne (tgt := 173) hx hb (by omega) (by omega) dX4_goes_35 (by decide) (fun c_138 => absurd c_138 (by omega)) (fun c_138 => ?_)
    refine lv_iload_n hx hb dX4_goes_38 rfl (lv_at hl 2 rfl) ?_
    refine lv_aload_n hx hb dX4_goes_39 rfl (lv_at hl 0 rfl) ?_
    refine va_get hx hb hts in_X4 hown hK hP 0 rfl rfl 0 (by decide) (hts _ q1596) (fun _ h => h) rfl dX4_goes_40 ?_
    refine lv_iconst (v := nI 0) hx hb dX4_goes_43 (by decide) ?_
    refine r_iald (v := nI (bD B)) hx hb hK (hR0.w hS) 0 0 rfl rfl (i := 0) (by omega) (by omega) (hM.today) dX4_goes_44 ?_
    refine n_icmp_ge (tgt := 173) hx hb (by omega) (by omega) dX4_goes_45 (by decide) (fun c_139 => ?_) (fun c_139 => ?_)
    · have hcr : crs B = crW B d_133 i_137 := by
        unfold crs
        rw [hbp]
        dsimp only
        first | rw [show bD B - d_133 = i_137 from by omega] | (rw [show bD B - d_133 = i_137 + (bD B - d_133 - i_137) from by omega]; exact crW_stop (by omega) _)
      have hP : va_P G.1 CL [(m0, .inr (6, [.ref sa, .ref oa, .ref pa, .ref la, .ref za, .ref na, .int gu, .int gt, .int gw, .int (nI ((crs B).1)), .int (nI ((crs B).2.1)), .int (nI ((crs B).2.2.1)), .int gh, .int gv])), (la, .inl (G.2 0, 200, .inl (ldF B))), (za, .inl (G.2 0, 6, .inl zg_132))] H := by rw [hcr]; exact hP
      have hD : va_D A [(m0, .inr (6, [.ref sa, .ref oa, .ref pa, .ref la, .ref za, .ref na, .int gu, .int gt, .int gw, .int (nI ((crs B).1)), .int (nI ((crs B).2.1)), .int (nI ((crs B).2.2.1)), .int gh, .int gv])), (la, .inl (G.2 0, 200, .inl (ldF B))), (za, .inl (G.2 0, 6, .inl zg_132))] := by rw [hcr]; exact hD
      have hc0 : (crs B).1 ≤ bE B := by rw [hcr]; first | exact hc1 | exact Nat.zero_le _
      refine lv_aload_n hx hb dX4_goes_173 rfl (lv_at hl 0 rfl) ?_
      refine va_get hx hb hts in_X4 hown hK hP 0 rfl rfl 0 (by decide) (hts _ q1596) (fun _ h => h) rfl dX4_goes_174 ?_
      refine lv_iconst (v := nI 4) hx hb dX4_goes_177 (by decide) ?_
      refine r_iald (v := nI 1) hx hb hK (hR0.w hS) 0 0 rfl rfl (i := 4) (by omega) (by omega) (hM.planned.trans (by rw [hbp])) dX4_goes_178 ?_
      refine lv_iconst (v := nI 1) hx hb dX4_goes_179 (by decide) ?_
      refine n_icmp_ne (tgt := 201) hx hb (by omega) (by omega) dX4_goes_180 (by decide) (fun c_140 => absurd c_140 (by omega)) (fun c_140 => ?_)
      refine lv_aload_n hx hb dX4_goes_183 rfl (lv_at hl 0 rfl) ?_
      refine va_get hx hb hts in_X4 hown hK hP 0 rfl rfl 9 (by decide) (hts _ q1605) (fun _ h => h) rfl dX4_goes_184 ?_
      refine lv_aload_n hx hb dX4_goes_187 rfl (lv_at hl 0 rfl) ?_
      refine va_get hx hb hts in_X4 hown hK hP 0 rfl rfl 0 (by decide) (hts _ q1596) (fun _ h => h) rfl dX4_goes_188 ?_
      refine lv_bipush (v := nI 6) hx hb dX4_goes_191 (by decide) ?_
      refine r_iald (v := nI (bE B)) hx hb hK (hR0.w hS) 0 0 rfl rfl (i := 6) (by omega) (by omega) (hM.ents) dX4_goes_193 ?_
      refine n_icmp_ge (tgt := 201) hx hb (by omega) (by omega) dX4_goes_194 (by decide) (fun c_141 => ?_) (fun c_141 => ?_)
      · refine lv_iconst (v := nI 0) hx hb dX4_goes_201 (by decide) ?_
        have hP9 : va_P G.1 CL [(m0, .inr (6, [.ref sa, .ref oa, .ref pa, .ref la, .ref za, .ref na, .int gu, .int gt, .int gw, .int (nI ((crs B).1)), .int (nI ((crs B).2.1)), .int (nI ((crs B).2.2.1)), .int gh, .int gv])), (la, .inl (G.2 0, 200, .inl (ldF B))), (za, .inl (G.2 0, 6, .inl zg_132))] H := hP.sub [0, 1, 2] rfl
        have hD9 : va_D A [(m0, .inr (6, [.ref sa, .ref oa, .ref pa, .ref la, .ref za, .ref na, .int gu, .int gt, .int gw, .int (nI ((crs B).1)), .int (nI ((crs B).2.1)), .int (nI ((crs B).2.2.1)), .int gh, .int gv])), (la, .inl (G.2 0, 200, .inl (ldF B))), (za, .inl (G.2 0, 6, .inl zg_132))] := hD.sub [0, 1, 2] (by decide) rfl
        exact end_i hx hb hr hlk (by decide) (qc_of zg_132 (v := some (.int (nI 0))) (by unfold gI; rw [hbp] <;> dsimp only <;> first | rfl | (rw [if_pos (by omega)]) | (rw [if_neg (by omega)])) (trivial) hP9 hD9 (trivial) hS) hS dX4_goes_202 (show 0 ≤ 0 from by first | exact Nat.le_refl _ | decide | omega) (show 0 ≤ 0 from by first | exact Nat.le_refl _ | decide | omega)
      · refine lv_iconst (v := nI 1) hx hb dX4_goes_197 (by decide) ?_
        refine lv_goto (tgt := 202) hx hb dX4_goes_198 (by decide) ?_
        have hP9 : va_P G.1 CL [(m0, .inr (6, [.ref sa, .ref oa, .ref pa, .ref la, .ref za, .ref na, .int gu, .int gt, .int gw, .int (nI ((crs B).1)), .int (nI ((crs B).2.1)), .int (nI ((crs B).2.2.1)), .int gh, .int gv])), (la, .inl (G.2 0, 200, .inl (ldF B))), (za, .inl (G.2 0, 6, .inl zg_132))] H := hP.sub [0, 1, 2] rfl
        have hD9 : va_D A [(m0, .inr (6, [.ref sa, .ref oa, .ref pa, .ref la, .ref za, .ref na, .int gu, .int gt, .int gw, .int (nI ((crs B).1)), .int (nI ((crs B).2.1)), .int (nI ((crs B).2.2.1)), .int gh, .int gv])), (la, .inl (G.2 0, 200, .inl (ldF B))), (za, .inl (G.2 0, 6, .inl zg_132))] := hD.sub [0, 1, 2] (by decide) rfl
        exact end_i hx hb hr hlk (by decide) (qc_of zg_132 (v := some (.int (nI 1))) (by unfold gI; rw [hbp] <;> dsimp only <;> first | rfl | (rw [if_pos (by omega)]) | (rw [if_neg (by omega)])) (trivial) hP9 hD9 (trivial) hS) hS dX4_goes_202 (show 0 ≤ 0 from by first | exact Nat.le_refl _ | decide | omega) (show 0 ≤ 0 from by first | exact Nat.le_refl _ | decide | omega)
    · refine lv_aload_n hx hb dX4_goes_48 rfl (lv_at hl 0 rfl) ?_
      refine va_get hx hb hts in_X4 hown hK hP 0 rfl rfl 9 (by decide) (hts _ q1605) (fun _ h => h) rfl dX4_goes_49 ?_
      refine lv_aload_n hx hb dX4_goes_52 rfl (lv_at hl 0 rfl) ?_
      refine va_get hx hb hts in_X4 hown hK hP 0 rfl rfl 0 (by decide) (hts _ q1596) (fun _ h => h) rfl dX4_goes_53 ?_
      refine lv_bipush (v := nI 6) hx hb dX4_goes_56 (by decide) ?_
      refine r_iald (v := nI (bE B)) hx hb hK (hR0.w hS) 0 0 rfl rfl (i := 6) (by omega) (by omega) (hM.ents) dX4_goes_58 ?_
      refine n_icmp_ge (tgt := 173) hx hb (by omega) (by omega) dX4_goes_59 (by decide) (fun c_142 => ?_) (fun c_142 => ?_)
      · have hcr : crs B = crW B d_133 i_137 := by
          unfold crs
          rw [hbp]
          dsimp only
          first | rw [show bD B - d_133 = i_137 from by omega] | (rw [show bD B - d_133 = i_137 + (bD B - d_133 - i_137) from by omega]; exact crW_stop (by omega) _)
        have hP : va_P G.1 CL [(m0, .inr (6, [.ref sa, .ref oa, .ref pa, .ref la, .ref za, .ref na, .int gu, .int gt, .int gw, .int (nI ((crs B).1)), .int (nI ((crs B).2.1)), .int (nI ((crs B).2.2.1)), .int gh, .int gv])), (la, .inl (G.2 0, 200, .inl (ldF B))), (za, .inl (G.2 0, 6, .inl zg_132))] H := by rw [hcr]; exact hP
        have hD : va_D A [(m0, .inr (6, [.ref sa, .ref oa, .ref pa, .ref la, .ref za, .ref na, .int gu, .int gt, .int gw, .int (nI ((crs B).1)), .int (nI ((crs B).2.1)), .int (nI ((crs B).2.2.1)), .int gh, .int gv])), (la, .inl (G.2 0, 200, .inl (ldF B))), (za, .inl (G.2 0, 6, .inl zg_132))] := by rw [hcr]; exact hD
        have hc0 : (crs B).1 ≤ bE B := by rw [hcr]; first | exact hc1 | exact Nat.zero_le _
        refine lv_aload_n hx hb dX4_goes_173 rfl (lv_at hl 0 rfl) ?_
        refine va_get hx hb hts in_X4 hown hK hP 0 rfl rfl 0 (by decide) (hts _ q1596) (fun _ h => h) rfl dX4_goes_174 ?_
        refine lv_iconst (v := nI 4) hx hb dX4_goes_177 (by decide) ?_
        refine r_iald (v := nI 1) hx hb hK (hR0.w hS) 0 0 rfl rfl (i := 4) (by omega) (by omega) (hM.planned.trans (by rw [hbp])) dX4_goes_178 ?_
        refine lv_iconst (v := nI 1) hx hb dX4_goes_179 (by decide) ?_
        refine n_icmp_ne (tgt := 201) hx hb (by omega) (by omega) dX4_goes_180 (by decide) (fun c_143 => absurd c_143 (by omega)) (fun c_143 => ?_)
        refine lv_aload_n hx hb dX4_goes_183 rfl (lv_at hl 0 rfl) ?_
        refine va_get hx hb hts in_X4 hown hK hP 0 rfl rfl 9 (by decide) (hts _ q1605) (fun _ h => h) rfl dX4_goes_184 ?_
        refine lv_aload_n hx hb dX4_goes_187 rfl (lv_at hl 0 rfl) ?_
        refine va_get hx hb hts in_X4 hown hK hP 0 rfl rfl 0 (by decide) (hts _ q1596) (fun _ h => h) rfl dX4_goes_188 ?_
        refine lv_bipush (v := nI 6) hx hb dX4_goes_191 (by decide) ?_
        refine r_iald (v := nI (bE B)) hx hb hK (hR0.w hS) 0 0 rfl rfl (i := 6) (by omega) (by omega) (hM.ents) dX4_goes_193 ?_
        refine n_icmp_ge (tgt := 201) hx hb (by omega) (by omega) dX4_goes_194 (by decide) (fun c_144 => ?_) (fun c_144 => ?_)
        · refine lv_iconst (v := nI 0) hx hb dX4_goes_201 (by decide) ?_
          have hP9 : va_P G.1 CL [(m0, .inr (6, [.ref sa, .ref oa, .ref pa, .ref la, .ref za, .ref na, .int gu, .int gt, .int gw, .int (nI ((crs B).1)), .int (nI ((crs B).2.1)), .int (nI ((crs B).2.2.1)), .int gh, .int gv])), (la, .inl (G.2 0, 200, .inl (ldF B))), (za, .inl (G.2 0, 6, .inl zg_132))] H := hP.sub [0, 1, 2] rfl
          have hD9 : va_D A [(m0, .inr (6, [.ref sa, .ref oa, .ref pa, .ref la, .ref za, .ref na, .int gu, .int gt, .int gw, .int (nI ((crs B).1)), .int (nI ((crs B).2.1)), .int (nI ((crs B).2.2.1)), .int gh, .int gv])), (la, .inl (G.2 0, 200, .inl (ldF B))), (za, .inl (G.2 0, 6, .inl zg_132))] := hD.sub [0, 1, 2] (by decide) rfl
          exact end_i hx hb hr hlk (by decide) (qc_of zg_132 (v := some (.int (nI 0))) (by unfold gI; rw [hbp] <;> dsimp only <;> first | rfl | (rw [if_pos (by omega)]) | (rw [if_neg (by omega)])) (trivial) hP9 hD9 (trivial) hS) hS dX4_goes_202 (show 0 ≤ 0 from by first | exact Nat.le_refl _ | decide | omega) (show 0 ≤ 0 from by first | exact Nat.le_refl _ | decide | omega)
        · refine lv_iconst (v := nI 1) hx hb dX4_goes_197 (by decide) ?_
          refine lv_goto (tgt := 202) hx hb dX4_goes_198 (by decide) ?_
          have hP9 : va_P G.1 CL [(m0, .inr (6, [.ref sa, .ref oa, .ref pa, .ref la, .ref za, .ref na, .int gu, .int gt, .int gw, .int (nI ((crs B).1)), .int (nI ((crs B).2.1)), .int (nI ((crs B).2.2.1)), .int gh, .int gv])), (la, .inl (G.2 0, 200, .inl (ldF B))), (za, .inl (G.2 0, 6, .inl zg_132))] H := hP.sub [0, 1, 2] rfl
          have hD9 : va_D A [(m0, .inr (6, [.ref sa, .ref oa, .ref pa, .ref la, .ref za, .ref na, .int gu, .int gt, .int gw, .int (nI ((crs B).1)), .int (nI ((crs B).2.1)), .int (nI ((crs B).2.2.1)), .int gh, .int gv])), (la, .inl (G.2 0, 200, .inl (ldF B))), (za, .inl (G.2 0, 6, .inl zg_132))] := hD.sub [0, 1, 2] (by decide) rfl
          exact end_i hx hb hr hlk (by decide) (qc_of zg_132 (v := some (.int (nI 1))) (by unfold gI; rw [hbp] <;> dsimp only <;> first | rfl | (rw [if_pos (by omega)]) | (rw [if_neg (by omega)])) (trivial) hP9 hD9 (trivial) hS) hS dX4_goes_202 (show 0 ≤ 0 from by first | exact Nat.le_refl _ | decide | omega) (show 0 ≤ 0 from by first | exact Nat.le_refl _ | decide | omega)
      · have hg9 := iv_bG hI (j := (crW B d_133 i_137).1) (by omega)
        refine lv_iconst (v := nI 2) hx hb dX4_goes_62 (by decide) ?_
        refine lv_aload_n hx hb dX4_goes_63 rfl (lv_at hl 0 rfl) ?_
        refine va_get hx hb hts in_X4 hown hK hP 0 rfl rfl 3 (by decide) (hts _ q1599) (fun _ h => h) rfl dX4_goes_64 ?_
        refine lv_iload_n hx hb dX4_goes_67 rfl (lv_at hl 2 rfl) ?_
        refine r_iald (v := nI (loadD B (d_133 + i_137))) hx hb hK hP 1 0 rfl rfl (i := d_133 + i_137) (by omega) (by omega) (rfl) dX4_goes_68 ?_
        refine lv_imul hx hb dX4_goes_69 ?_
        refine lv_ton (n := 2 * (loadD B (d_133 + i_137))) (nmul (by omega)) ?_
        refine lv_aload_n hx hb dX4_goes_70 rfl (lv_at hl 0 rfl) ?_
        refine va_get hx hb hts in_X4 hown hK hP 0 rfl rfl 0 (by decide) (hts _ q1596) (fun _ h => h) rfl dX4_goes_71 ?_
        refine lv_bipush (v := nI 40) hx hb dX4_goes_74 (by decide) ?_
        refine lv_aload_n hx hb dX4_goes_76 rfl (lv_at hl 0 rfl) ?_
        refine va_get hx hb hts in_X4 hown hK hP 0 rfl rfl 9 (by decide) (hts _ q1605) (fun _ h => h) rfl dX4_goes_77 ?_
        refine lv_iadd hx hb dX4_goes_80 ?_
        refine lv_ton (n := ((crW B d_133 i_137).1) + 40) (nadd (by omega)) ?_
        refine r_iald (v := nI (bG B ((crW B d_133 i_137).1))) hx hb hK (hR0.w hS) 0 0 rfl rfl (i := ((crW B d_133 i_137).1) + 40) (by omega) (by omega) (hM.target (j := (crW B d_133 i_137).1) (by omega)) dX4_goes_81 ?_
        refine n_icmp_ge (tgt := 89) hx hb (by omega) (by omega) dX4_goes_82 (by decide) (fun c_145 => ?_) (fun c_145 => ?_)
        · refine lv_iconst (v := nI 0) hx hb dX4_goes_89 (by decide) ?_
          refine lv_istore_n (lv' := [(3, .int (nI 0)), (0, .ref m0), (1, .int (nI ((crW B d_133 i_137).2.2.2))), (2, .int (nI (d_133 + i_137)))]) hx hb dX4_goes_90 rfl hl (by decide) rfl (fun ls hl => ?_)
          refine lv_iload_n hx hb dX4_goes_91 rfl (lv_at hl 0 rfl) ?_
          refine n_if_eq (tgt := 101) hx hb (by omega) dX4_goes_92 (by decide) (fun c_146 => ?_) (fun c_146 => absurd c_146 (by omega))
          refine lv_iconst (v := nI 0) hx hb dX4_goes_101 (by decide) ?_
          refine lv_istore_n (lv' := [(1, .int (nI 0)), (3, .int (nI 0)), (0, .ref m0), (2, .int (nI (d_133 + i_137)))]) hx hb dX4_goes_102 rfl hl (by decide) rfl (fun ls hl => ?_)
          refine lv_aload_n hx hb dX4_goes_103 rfl (lv_at hl 2 rfl) ?_
          refine lv_dup hx hb dX4_goes_104 rfl ?_
          refine va_get hx hb hts in_X4 hown hK hP 0 rfl rfl 10 (by decide) (hts _ q1606) (fun _ h => h) rfl dX4_goes_105 ?_
          refine lv_iload_n hx hb dX4_goes_108 rfl (lv_at hl 1 rfl) ?_
          refine n_if_eq (tgt := 116) hx hb (by omega) dX4_goes_109 (by decide) (fun c_147 => ?_) (fun c_147 => absurd c_147 (by omega))
          refine lv_iconst (v := nI 0) hx hb dX4_goes_116 (by decide) ?_
          refine lv_iadd hx hb dX4_goes_117 ?_
          refine lv_ton (n := ((crW B d_133 i_137).2.1)) (nadd (by omega)) ?_
          refine va_put (v := .int (nI ((crW B d_133 i_137).2.1))) (ty := .int) hx hb hts in_X4 tyX4 tyX4_ok nmX4 hown hK hP hD hS 0 rfl rfl 10 (by decide) (hts _ q1606) (fun _ h => h) rfl (by decide +kernel) rfl rfl (Nat.le_of_ble_eq_true rfl) dX4_goes_118 (fun H locs (hP : va_P G.1 CL [(m0, .inr (6, [.ref sa, .ref oa, .ref pa, .ref la, .ref za, .ref na, .int gu, .int gt, .int gw, .int (nI ((crW B d_133 i_137).1)), .int (nI ((crW B d_133 i_137).2.1)), .int (nI ((crW B d_133 i_137).2.2.1)), .int gh, .int gv])), (la, .inl (G.2 0, 200, .inl (ldF B))), (za, .inl (G.2 0, 6, .inl zg_132))] H) (hD : va_D A [(m0, .inr (6, [.ref sa, .ref oa, .ref pa, .ref la, .ref za, .ref na, .int gu, .int gt, .int gw, .int (nI ((crW B d_133 i_137).1)), .int (nI ((crW B d_133 i_137).2.1)), .int (nI ((crW B d_133 i_137).2.2.1)), .int gh, .int gv])), (la, .inl (G.2 0, 200, .inl (ldF B))), (za, .inl (G.2 0, 6, .inl zg_132))]) hS => ?_)
          refine lv_aload_n hx hb dX4_goes_121 rfl (lv_at hl 2 rfl) ?_
          refine lv_dup hx hb dX4_goes_122 rfl ?_
          refine va_get hx hb hts in_X4 hown hK hP 0 rfl rfl 11 (by decide) (hts _ q1607) (fun _ h => h) rfl dX4_goes_123 ?_
          refine lv_iload_n hx hb dX4_goes_126 rfl (lv_at hl 0 rfl) ?_
          refine lv_iconst (v := nI 3) hx hb dX4_goes_127 (by decide) ?_
          refine n_icmp_ne (tgt := 135) hx hb (by omega) (by omega) dX4_goes_128 (by decide) (fun c_148 => ?_) (fun c_148 => absurd c_148 (by omega))
          refine lv_iconst (v := nI 0) hx hb dX4_goes_135 (by decide) ?_
          refine lv_iadd hx hb dX4_goes_136 ?_
          refine lv_ton (n := ((crW B d_133 i_137).2.2.1)) (nadd (by omega)) ?_
          refine va_put (v := .int (nI ((crW B d_133 i_137).2.2.1))) (ty := .int) hx hb hts in_X4 tyX4 tyX4_ok nmX4 hown hK hP hD hS 0 rfl rfl 11 (by decide) (hts _ q1607) (fun _ h => h) rfl (by decide +kernel) rfl rfl (Nat.le_of_ble_eq_true rfl) dX4_goes_137 (fun H locs (hP : va_P G.1 CL [(m0, .inr (6, [.ref sa, .ref oa, .ref pa, .ref la, .ref za, .ref na, .int gu, .int gt, .int gw, .int (nI ((crW B d_133 i_137).1)), .int (nI ((crW B d_133 i_137).2.1)), .int (nI ((crW B d_133 i_137).2.2.1)), .int gh, .int gv])), (la, .inl (G.2 0, 200, .inl (ldF B))), (za, .inl (G.2 0, 6, .inl zg_132))] H) (hD : va_D A [(m0, .inr (6, [.ref sa, .ref oa, .ref pa, .ref la, .ref za, .ref na, .int gu, .int gt, .int gw, .int (nI ((crW B d_133 i_137).1)), .int (nI ((crW B d_133 i_137).2.1)), .int (nI ((crW B d_133 i_137).2.2.1)), .int gh, .int gv])), (la, .inl (G.2 0, 200, .inl (ldF B))), (za, .inl (G.2 0, 6, .inl zg_132))]) hS => ?_)
          refine lv_aload_n hx hb dX4_goes_140 rfl (lv_at hl 2 rfl) ?_
          refine lv_dup hx hb dX4_goes_141 rfl ?_
          refine va_get hx hb hts in_X4 hown hK hP 0 rfl rfl 9 (by decide) (hts _ q1605) (fun _ h => h) rfl dX4_goes_142 ?_
          refine lv_iload_n hx hb dX4_goes_145 rfl (lv_at hl 1 rfl) ?_
          refine n_if_eq (tgt := 154) hx hb (by omega) dX4_goes_146 (by decide) (fun c_149 => ?_) (fun c_149 => absurd c_149 (by omega))
          refine lv_iconst (v := nI 1) hx hb dX4_goes_154 (by decide) ?_
          refine lv_goto (tgt := 159) hx hb dX4_goes_155 (by decide) ?_
          refine lv_iadd hx hb dX4_goes_159 ?_
          refine lv_ton (n := ((crW B d_133 i_137).1) + 1) (nadd (by omega)) ?_
          refine va_put (v := .int (nI (((crW B d_133 i_137).1) + 1))) (ty := .int) hx hb hts in_X4 tyX4 tyX4_ok nmX4 hown hK hP hD hS 0 rfl rfl 9 (by decide) (hts _ q1605) (fun _ h => h) rfl (by decide +kernel) rfl rfl (Nat.le_of_ble_eq_true rfl) dX4_goes_160 (fun H locs (hP : va_P G.1 CL [(m0, .inr (6, [.ref sa, .ref oa, .ref pa, .ref la, .ref za, .ref na, .int gu, .int gt, .int gw, .int (nI (((crW B d_133 i_137).1) + 1)), .int (nI ((crW B d_133 i_137).2.1)), .int (nI ((crW B d_133 i_137).2.2.1)), .int gh, .int gv])), (la, .inl (G.2 0, 200, .inl (ldF B))), (za, .inl (G.2 0, 6, .inl zg_132))] H) (hD : va_D A [(m0, .inr (6, [.ref sa, .ref oa, .ref pa, .ref la, .ref za, .ref na, .int gu, .int gt, .int gw, .int (nI (((crW B d_133 i_137).1) + 1)), .int (nI ((crW B d_133 i_137).2.1)), .int (nI ((crW B d_133 i_137).2.2.1)), .int gh, .int gv])), (la, .inl (G.2 0, 200, .inl (ldF B))), (za, .inl (G.2 0, 6, .inl zg_132))]) hS => ?_)
          refine lv_iload_n hx hb dX4_goes_163 rfl (lv_at hl 0 rfl) ?_
          refine lv_iconst (v := nI 3) hx hb dX4_goes_164 (by decide) ?_
          refine lv_irem hx hb dX4_goes_165 (by decide) ?_
          refine lv_ton (n := 0) (nrem (by omega) (by omega) (by omega) rfl) ?_
          refine lv_istore_n (lv' := [(1, .int (nI 0)), (3, .int (nI 0)), (0, .ref m0), (2, .int (nI (d_133 + i_137)))]) hx hb dX4_goes_166 rfl hl (by decide) rfl (fun ls hl => ?_)
          have hj : crW B d_133 (i_137 + 1) = (((crW B d_133 i_137).1) + 1, ((crW B d_133 i_137).2.1), ((crW B d_133 i_137).2.2.1), 0) := by
            simp only [crW, crS]
            first | rw [if_pos (by omega), if_pos (by omega), if_pos (by omega)] | rw [if_pos (by omega), if_pos (by omega), if_neg (by omega)] | rw [if_pos (by omega), if_neg (by omega)]
            all_goals (refine Prod.ext ?_ (Prod.ext ?_ (Prod.ext ?_ ?_)) <;> dsimp only <;> omega)
          have hP : va_P G.1 CL [(m0, .inr (6, [.ref sa, .ref oa, .ref pa, .ref la, .ref za, .ref na, .int gu, .int gt, .int gw, .int (nI ((crW B d_133 (i_137 + 1)).1)), .int (nI ((crW B d_133 (i_137 + 1)).2.1)), .int (nI ((crW B d_133 (i_137 + 1)).2.2.1)), .int gh, .int gv])), (la, .inl (G.2 0, 200, .inl (ldF B))), (za, .inl (G.2 0, 6, .inl zg_132))] H := by rw [hj]; exact hP
          have hD : va_D A [(m0, .inr (6, [.ref sa, .ref oa, .ref pa, .ref la, .ref za, .ref na, .int gu, .int gt, .int gw, .int (nI ((crW B d_133 (i_137 + 1)).1)), .int (nI ((crW B d_133 (i_137 + 1)).2.1)), .int (nI ((crW B d_133 (i_137 + 1)).2.2.1)), .int gh, .int gv])), (la, .inl (G.2 0, 200, .inl (ldF B))), (za, .inl (G.2 0, 6, .inl zg_132))] := by rw [hj]; exact hD
          have hl : lv_has ls 4 [(1, .int (nI ((crW B d_133 (i_137 + 1)).2.2.2))), (3, .int (nI 0)), (0, .ref m0), (2, .int (nI (d_133 + i_137)))] := by rw [hj]; exact hl
          refine lv_iinc (v := nI (d_133 + i_137 + 1)) (lv' := [(2, .int (nI (d_133 + i_137 + 1))), (1, .int (nI ((crW B d_133 (i_137 + 1)).2.2.2))), (3, .int (nI 0)), (0, .ref m0)]) hx hb dX4_goes_167 hl (k := 3) rfl (ninc (b := 1) (by decide) (by omega)) (by decide) rfl (fun ls hl => ?_)
          refine lv_goto (tgt := 28) hx hb dX4_goes_170 (by decide) ?_
          have hP : va_P G.1 CL [(m0, .inr (6, [.ref sa, .ref oa, .ref pa, .ref la, .ref za, .ref na, .int gu, .int gt, .int gw, .int (nI ((crW B d_133 (i_137 + 1)).1)), .int (nI ((crW B d_133 (i_137 + 1)).2.1)), .int (nI ((crW B d_133 (i_137 + 1)).2.2.1)), .int gh, .int gv])), (la, .inl (G.2 0, 200, .inl (ldF B))), (za, .inl (G.2 0, 6, .inl zg_132))] H := hP.sub [0, 1, 2] rfl
          have hD : va_D A [(m0, .inr (6, [.ref sa, .ref oa, .ref pa, .ref la, .ref za, .ref na, .int gu, .int gt, .int gw, .int (nI ((crW B d_133 (i_137 + 1)).1)), .int (nI ((crW B d_133 (i_137 + 1)).2.1)), .int (nI ((crW B d_133 (i_137 + 1)).2.2.1)), .int gh, .int gv])), (la, .inl (G.2 0, 200, .inl (ldF B))), (za, .inl (G.2 0, 6, .inl zg_132))] := hD.sub [0, 1, 2] (by decide) rfl
          have hl := lv_sub hl [3, 1, 0] (l' := [(0, .ref m0), (1, .int (nI ((crW B d_133 (i_137 + 1)).2.2.2))), (2, .int (nI (d_133 + i_137 + 1)))]) rfl
          exact W.widen (show 0 ≤ 0 from by first | exact Nat.le_refl _ | omega) (show 0 ≤ 0 from by first | exact Nat.le_refl _ | omega) (ih28 ((i_137 + 1)) H locs ls ⟨hP, hD, hS, hl, (show (i_137 + 1) ≤ bD B - d_133 from by omega)⟩ (show bD B - d_133 - (i_137 + 1) < bD B - d_133 - i_137 from by omega))
        · refine lv_iconst (v := nI 1) hx hb dX4_goes_85 (by decide) ?_
          refine lv_goto (tgt := 90) hx hb dX4_goes_86 (by decide) ?_
          refine lv_istore_n (lv' := [(3, .int (nI 1)), (0, .ref m0), (1, .int (nI ((crW B d_133 i_137).2.2.2))), (2, .int (nI (d_133 + i_137)))]) hx hb dX4_goes_90 rfl hl (by decide) rfl (fun ls hl => ?_)
          refine lv_iload_n hx hb dX4_goes_91 rfl (lv_at hl 0 rfl) ?_
          refine n_if_eq (tgt := 101) hx hb (by omega) dX4_goes_92 (by decide) (fun c_150 => absurd c_150 (by omega)) (fun c_150 => ?_)
          refine lv_iload_n hx hb dX4_goes_95 rfl (lv_at hl 2 rfl) ?_
          refine lv_iconst (v := nI 1) hx hb dX4_goes_96 (by decide) ?_
          refine lv_iadd hx hb dX4_goes_97 ?_
          refine lv_ton (n := ((crW B d_133 i_137).2.2.2) + 1) (nadd (by omega)) ?_
          refine lv_goto (tgt := 102) hx hb dX4_goes_98 (by decide) ?_
          refine lv_istore_n (lv' := [(1, .int (nI (((crW B d_133 i_137).2.2.2) + 1))), (3, .int (nI 1)), (0, .ref m0), (2, .int (nI (d_133 + i_137)))]) hx hb dX4_goes_102 rfl hl (by decide) rfl (fun ls hl => ?_)
          refine lv_aload_n hx hb dX4_goes_103 rfl (lv_at hl 2 rfl) ?_
          refine lv_dup hx hb dX4_goes_104 rfl ?_
          refine va_get hx hb hts in_X4 hown hK hP 0 rfl rfl 10 (by decide) (hts _ q1606) (fun _ h => h) rfl dX4_goes_105 ?_
          refine lv_iload_n hx hb dX4_goes_108 rfl (lv_at hl 1 rfl) ?_
          refine n_if_eq (tgt := 116) hx hb (by omega) dX4_goes_109 (by decide) (fun c_151 => absurd c_151 (by omega)) (fun c_151 => ?_)
          refine lv_iconst (v := nI 1) hx hb dX4_goes_112 (by decide) ?_
          refine lv_goto (tgt := 117) hx hb dX4_goes_113 (by decide) ?_
          refine lv_iadd hx hb dX4_goes_117 ?_
          refine lv_ton (n := ((crW B d_133 i_137).2.1) + 1) (nadd (by omega)) ?_
          refine va_put (v := .int (nI (((crW B d_133 i_137).2.1) + 1))) (ty := .int) hx hb hts in_X4 tyX4 tyX4_ok nmX4 hown hK hP hD hS 0 rfl rfl 10 (by decide) (hts _ q1606) (fun _ h => h) rfl (by decide +kernel) rfl rfl (Nat.le_of_ble_eq_true rfl) dX4_goes_118 (fun H locs (hP : va_P G.1 CL [(m0, .inr (6, [.ref sa, .ref oa, .ref pa, .ref la, .ref za, .ref na, .int gu, .int gt, .int gw, .int (nI ((crW B d_133 i_137).1)), .int (nI (((crW B d_133 i_137).2.1) + 1)), .int (nI ((crW B d_133 i_137).2.2.1)), .int gh, .int gv])), (la, .inl (G.2 0, 200, .inl (ldF B))), (za, .inl (G.2 0, 6, .inl zg_132))] H) (hD : va_D A [(m0, .inr (6, [.ref sa, .ref oa, .ref pa, .ref la, .ref za, .ref na, .int gu, .int gt, .int gw, .int (nI ((crW B d_133 i_137).1)), .int (nI (((crW B d_133 i_137).2.1) + 1)), .int (nI ((crW B d_133 i_137).2.2.1)), .int gh, .int gv])), (la, .inl (G.2 0, 200, .inl (ldF B))), (za, .inl (G.2 0, 6, .inl zg_132))]) hS => ?_)
          refine lv_aload_n hx hb dX4_goes_121 rfl (lv_at hl 2 rfl) ?_
          refine lv_dup hx hb dX4_goes_122 rfl ?_
          refine va_get hx hb hts in_X4 hown hK hP 0 rfl rfl 11 (by decide) (hts _ q1607) (fun _ h => h) rfl dX4_goes_123 ?_
          refine lv_iload_n hx hb dX4_goes_126 rfl (lv_at hl 0 rfl) ?_
          refine lv_iconst (v := nI 3) hx hb dX4_goes_127 (by decide) ?_
          refine n_icmp_ne (tgt := 135) hx hb (by omega) (by omega) dX4_goes_128 (by decide) (fun c_152 => ?_) (fun c_152 => ?_)
          · refine lv_iconst (v := nI 0) hx hb dX4_goes_135 (by decide) ?_
            refine lv_iadd hx hb dX4_goes_136 ?_
            refine lv_ton (n := ((crW B d_133 i_137).2.2.1)) (nadd (by omega)) ?_
            refine va_put (v := .int (nI ((crW B d_133 i_137).2.2.1))) (ty := .int) hx hb hts in_X4 tyX4 tyX4_ok nmX4 hown hK hP hD hS 0 rfl rfl 11 (by decide) (hts _ q1607) (fun _ h => h) rfl (by decide +kernel) rfl rfl (Nat.le_of_ble_eq_true rfl) dX4_goes_137 (fun H locs (hP : va_P G.1 CL [(m0, .inr (6, [.ref sa, .ref oa, .ref pa, .ref la, .ref za, .ref na, .int gu, .int gt, .int gw, .int (nI ((crW B d_133 i_137).1)), .int (nI (((crW B d_133 i_137).2.1) + 1)), .int (nI ((crW B d_133 i_137).2.2.1)), .int gh, .int gv])), (la, .inl (G.2 0, 200, .inl (ldF B))), (za, .inl (G.2 0, 6, .inl zg_132))] H) (hD : va_D A [(m0, .inr (6, [.ref sa, .ref oa, .ref pa, .ref la, .ref za, .ref na, .int gu, .int gt, .int gw, .int (nI ((crW B d_133 i_137).1)), .int (nI (((crW B d_133 i_137).2.1) + 1)), .int (nI ((crW B d_133 i_137).2.2.1)), .int gh, .int gv])), (la, .inl (G.2 0, 200, .inl (ldF B))), (za, .inl (G.2 0, 6, .inl zg_132))]) hS => ?_)
            refine lv_aload_n hx hb dX4_goes_140 rfl (lv_at hl 2 rfl) ?_
            refine lv_dup hx hb dX4_goes_141 rfl ?_
            refine va_get hx hb hts in_X4 hown hK hP 0 rfl rfl 9 (by decide) (hts _ q1605) (fun _ h => h) rfl dX4_goes_142 ?_
            refine lv_iload_n hx hb dX4_goes_145 rfl (lv_at hl 1 rfl) ?_
            refine n_if_eq (tgt := 154) hx hb (by omega) dX4_goes_146 (by decide) (fun c_153 => absurd c_153 (by omega)) (fun c_153 => ?_)
            refine lv_iload_n hx hb dX4_goes_149 rfl (lv_at hl 0 rfl) ?_
            refine lv_iconst (v := nI 3) hx hb dX4_goes_150 (by decide) ?_
            refine n_icmp_ne (tgt := 158) hx hb (by omega) (by omega) dX4_goes_151 (by decide) (fun c_154 => ?_) (fun c_154 => ?_)
            · refine lv_iconst (v := nI 0) hx hb dX4_goes_158 (by decide) ?_
              refine lv_iadd hx hb dX4_goes_159 ?_
              refine lv_ton (n := ((crW B d_133 i_137).1)) (nadd (by omega)) ?_
              refine va_put (v := .int (nI ((crW B d_133 i_137).1))) (ty := .int) hx hb hts in_X4 tyX4 tyX4_ok nmX4 hown hK hP hD hS 0 rfl rfl 9 (by decide) (hts _ q1605) (fun _ h => h) rfl (by decide +kernel) rfl rfl (Nat.le_of_ble_eq_true rfl) dX4_goes_160 (fun H locs (hP : va_P G.1 CL [(m0, .inr (6, [.ref sa, .ref oa, .ref pa, .ref la, .ref za, .ref na, .int gu, .int gt, .int gw, .int (nI ((crW B d_133 i_137).1)), .int (nI (((crW B d_133 i_137).2.1) + 1)), .int (nI ((crW B d_133 i_137).2.2.1)), .int gh, .int gv])), (la, .inl (G.2 0, 200, .inl (ldF B))), (za, .inl (G.2 0, 6, .inl zg_132))] H) (hD : va_D A [(m0, .inr (6, [.ref sa, .ref oa, .ref pa, .ref la, .ref za, .ref na, .int gu, .int gt, .int gw, .int (nI ((crW B d_133 i_137).1)), .int (nI (((crW B d_133 i_137).2.1) + 1)), .int (nI ((crW B d_133 i_137).2.2.1)), .int gh, .int gv])), (la, .inl (G.2 0, 200, .inl (ldF B))), (za, .inl (G.2 0, 6, .inl zg_132))]) hS => ?_)
              refine lv_iload_n hx hb dX4_goes_163 rfl (lv_at hl 0 rfl) ?_
              refine lv_iconst (v := nI 3) hx hb dX4_goes_164 (by decide) ?_
              refine lv_irem hx hb dX4_goes_165 (by decide) ?_
              refine lv_ton (n := ((((crW B d_133 i_137).2.2.2) + 1) % 3)) (nrem (by omega) (by omega) (by omega) rfl) ?_
              refine lv_istore_n (lv' := [(1, .int (nI ((((crW B d_133 i_137).2.2.2) + 1) % 3))), (3, .int (nI 1)), (0, .ref m0), (2, .int (nI (d_133 + i_137)))]) hx hb dX4_goes_166 rfl hl (by decide) rfl (fun ls hl => ?_)
              have hj : crW B d_133 (i_137 + 1) = (((crW B d_133 i_137).1), ((crW B d_133 i_137).2.1) + 1, ((crW B d_133 i_137).2.2.1), ((((crW B d_133 i_137).2.2.2) + 1) % 3)) := by
                simp only [crW, crS]
                first | rw [if_pos (by omega), if_pos (by omega), if_pos (by omega)] | rw [if_pos (by omega), if_pos (by omega), if_neg (by omega)] | rw [if_pos (by omega), if_neg (by omega)]
                all_goals (refine Prod.ext ?_ (Prod.ext ?_ (Prod.ext ?_ ?_)) <;> dsimp only <;> omega)
              have hP : va_P G.1 CL [(m0, .inr (6, [.ref sa, .ref oa, .ref pa, .ref la, .ref za, .ref na, .int gu, .int gt, .int gw, .int (nI ((crW B d_133 (i_137 + 1)).1)), .int (nI ((crW B d_133 (i_137 + 1)).2.1)), .int (nI ((crW B d_133 (i_137 + 1)).2.2.1)), .int gh, .int gv])), (la, .inl (G.2 0, 200, .inl (ldF B))), (za, .inl (G.2 0, 6, .inl zg_132))] H := by rw [hj]; exact hP
              have hD : va_D A [(m0, .inr (6, [.ref sa, .ref oa, .ref pa, .ref la, .ref za, .ref na, .int gu, .int gt, .int gw, .int (nI ((crW B d_133 (i_137 + 1)).1)), .int (nI ((crW B d_133 (i_137 + 1)).2.1)), .int (nI ((crW B d_133 (i_137 + 1)).2.2.1)), .int gh, .int gv])), (la, .inl (G.2 0, 200, .inl (ldF B))), (za, .inl (G.2 0, 6, .inl zg_132))] := by rw [hj]; exact hD
              have hl : lv_has ls 4 [(1, .int (nI ((crW B d_133 (i_137 + 1)).2.2.2))), (3, .int (nI 1)), (0, .ref m0), (2, .int (nI (d_133 + i_137)))] := by rw [hj]; exact hl
              refine lv_iinc (v := nI (d_133 + i_137 + 1)) (lv' := [(2, .int (nI (d_133 + i_137 + 1))), (1, .int (nI ((crW B d_133 (i_137 + 1)).2.2.2))), (3, .int (nI 1)), (0, .ref m0)]) hx hb dX4_goes_167 hl (k := 3) rfl (ninc (b := 1) (by decide) (by omega)) (by decide) rfl (fun ls hl => ?_)
              refine lv_goto (tgt := 28) hx hb dX4_goes_170 (by decide) ?_
              have hP : va_P G.1 CL [(m0, .inr (6, [.ref sa, .ref oa, .ref pa, .ref la, .ref za, .ref na, .int gu, .int gt, .int gw, .int (nI ((crW B d_133 (i_137 + 1)).1)), .int (nI ((crW B d_133 (i_137 + 1)).2.1)), .int (nI ((crW B d_133 (i_137 + 1)).2.2.1)), .int gh, .int gv])), (la, .inl (G.2 0, 200, .inl (ldF B))), (za, .inl (G.2 0, 6, .inl zg_132))] H := hP.sub [0, 1, 2] rfl
              have hD : va_D A [(m0, .inr (6, [.ref sa, .ref oa, .ref pa, .ref la, .ref za, .ref na, .int gu, .int gt, .int gw, .int (nI ((crW B d_133 (i_137 + 1)).1)), .int (nI ((crW B d_133 (i_137 + 1)).2.1)), .int (nI ((crW B d_133 (i_137 + 1)).2.2.1)), .int gh, .int gv])), (la, .inl (G.2 0, 200, .inl (ldF B))), (za, .inl (G.2 0, 6, .inl zg_132))] := hD.sub [0, 1, 2] (by decide) rfl
              have hl := lv_sub hl [3, 1, 0] (l' := [(0, .ref m0), (1, .int (nI ((crW B d_133 (i_137 + 1)).2.2.2))), (2, .int (nI (d_133 + i_137 + 1)))]) rfl
              exact W.widen (show 0 ≤ 0 from by first | exact Nat.le_refl _ | omega) (show 0 ≤ 0 from by first | exact Nat.le_refl _ | omega) (ih28 ((i_137 + 1)) H locs ls ⟨hP, hD, hS, hl, (show (i_137 + 1) ≤ bD B - d_133 from by omega)⟩ (show bD B - d_133 - (i_137 + 1) < bD B - d_133 - i_137 from by omega))
            · refine lv_iconst (v := nI 1) hx hb dX4_goes_154 (by decide) ?_
              refine lv_goto (tgt := 159) hx hb dX4_goes_155 (by decide) ?_
              refine lv_iadd hx hb dX4_goes_159 ?_
              refine lv_ton (n := ((crW B d_133 i_137).1) + 1) (nadd (by omega)) ?_
              refine va_put (v := .int (nI (((crW B d_133 i_137).1) + 1))) (ty := .int) hx hb hts in_X4 tyX4 tyX4_ok nmX4 hown hK hP hD hS 0 rfl rfl 9 (by decide) (hts _ q1605) (fun _ h => h) rfl (by decide +kernel) rfl rfl (Nat.le_of_ble_eq_true rfl) dX4_goes_160 (fun H locs (hP : va_P G.1 CL [(m0, .inr (6, [.ref sa, .ref oa, .ref pa, .ref la, .ref za, .ref na, .int gu, .int gt, .int gw, .int (nI (((crW B d_133 i_137).1) + 1)), .int (nI (((crW B d_133 i_137).2.1) + 1)), .int (nI ((crW B d_133 i_137).2.2.1)), .int gh, .int gv])), (la, .inl (G.2 0, 200, .inl (ldF B))), (za, .inl (G.2 0, 6, .inl zg_132))] H) (hD : va_D A [(m0, .inr (6, [.ref sa, .ref oa, .ref pa, .ref la, .ref za, .ref na, .int gu, .int gt, .int gw, .int (nI (((crW B d_133 i_137).1) + 1)), .int (nI (((crW B d_133 i_137).2.1) + 1)), .int (nI ((crW B d_133 i_137).2.2.1)), .int gh, .int gv])), (la, .inl (G.2 0, 200, .inl (ldF B))), (za, .inl (G.2 0, 6, .inl zg_132))]) hS => ?_)
              refine lv_iload_n hx hb dX4_goes_163 rfl (lv_at hl 0 rfl) ?_
              refine lv_iconst (v := nI 3) hx hb dX4_goes_164 (by decide) ?_
              refine lv_irem hx hb dX4_goes_165 (by decide) ?_
              refine lv_ton (n := ((((crW B d_133 i_137).2.2.2) + 1) % 3)) (nrem (by omega) (by omega) (by omega) rfl) ?_
              refine lv_istore_n (lv' := [(1, .int (nI ((((crW B d_133 i_137).2.2.2) + 1) % 3))), (3, .int (nI 1)), (0, .ref m0), (2, .int (nI (d_133 + i_137)))]) hx hb dX4_goes_166 rfl hl (by decide) rfl (fun ls hl => ?_)
              have hj : crW B d_133 (i_137 + 1) = (((crW B d_133 i_137).1) + 1, ((crW B d_133 i_137).2.1) + 1, ((crW B d_133 i_137).2.2.1), ((((crW B d_133 i_137).2.2.2) + 1) % 3)) := by
                simp only [crW, crS]
                first | rw [if_pos (by omega), if_pos (by omega), if_pos (by omega)] | rw [if_pos (by omega), if_pos (by omega), if_neg (by omega)] | rw [if_pos (by omega), if_neg (by omega)]
                all_goals (refine Prod.ext ?_ (Prod.ext ?_ (Prod.ext ?_ ?_)) <;> dsimp only <;> omega)
              have hP : va_P G.1 CL [(m0, .inr (6, [.ref sa, .ref oa, .ref pa, .ref la, .ref za, .ref na, .int gu, .int gt, .int gw, .int (nI ((crW B d_133 (i_137 + 1)).1)), .int (nI ((crW B d_133 (i_137 + 1)).2.1)), .int (nI ((crW B d_133 (i_137 + 1)).2.2.1)), .int gh, .int gv])), (la, .inl (G.2 0, 200, .inl (ldF B))), (za, .inl (G.2 0, 6, .inl zg_132))] H := by rw [hj]; exact hP
              have hD : va_D A [(m0, .inr (6, [.ref sa, .ref oa, .ref pa, .ref la, .ref za, .ref na, .int gu, .int gt, .int gw, .int (nI ((crW B d_133 (i_137 + 1)).1)), .int (nI ((crW B d_133 (i_137 + 1)).2.1)), .int (nI ((crW B d_133 (i_137 + 1)).2.2.1)), .int gh, .int gv])), (la, .inl (G.2 0, 200, .inl (ldF B))), (za, .inl (G.2 0, 6, .inl zg_132))] := by rw [hj]; exact hD
              have hl : lv_has ls 4 [(1, .int (nI ((crW B d_133 (i_137 + 1)).2.2.2))), (3, .int (nI 1)), (0, .ref m0), (2, .int (nI (d_133 + i_137)))] := by rw [hj]; exact hl
              refine lv_iinc (v := nI (d_133 + i_137 + 1)) (lv' := [(2, .int (nI (d_133 + i_137 + 1))), (1, .int (nI ((crW B d_133 (i_137 + 1)).2.2.2))), (3, .int (nI 1)), (0, .ref m0)]) hx hb dX4_goes_167 hl (k := 3) rfl (ninc (b := 1) (by decide) (by omega)) (by decide) rfl (fun ls hl => ?_)
              refine lv_goto (tgt := 28) hx hb dX4_goes_170 (by decide) ?_
              have hP : va_P G.1 CL [(m0, .inr (6, [.ref sa, .ref oa, .ref pa, .ref la, .ref za, .ref na, .int gu, .int gt, .int gw, .int (nI ((crW B d_133 (i_137 + 1)).1)), .int (nI ((crW B d_133 (i_137 + 1)).2.1)), .int (nI ((crW B d_133 (i_137 + 1)).2.2.1)), .int gh, .int gv])), (la, .inl (G.2 0, 200, .inl (ldF B))), (za, .inl (G.2 0, 6, .inl zg_132))] H := hP.sub [0, 1, 2] rfl
              have hD : va_D A [(m0, .inr (6, [.ref sa, .ref oa, .ref pa, .ref la, .ref za, .ref na, .int gu, .int gt, .int gw, .int (nI ((crW B d_133 (i_137 + 1)).1)), .int (nI ((crW B d_133 (i_137 + 1)).2.1)), .int (nI ((crW B d_133 (i_137 + 1)).2.2.1)), .int gh, .int gv])), (la, .inl (G.2 0, 200, .inl (ldF B))), (za, .inl (G.2 0, 6, .inl zg_132))] := hD.sub [0, 1, 2] (by decide) rfl
              have hl := lv_sub hl [3, 1, 0] (l' := [(0, .ref m0), (1, .int (nI ((crW B d_133 (i_137 + 1)).2.2.2))), (2, .int (nI (d_133 + i_137 + 1)))]) rfl
              exact W.widen (show 0 ≤ 0 from by first | exact Nat.le_refl _ | omega) (show 0 ≤ 0 from by first | exact Nat.le_refl _ | omega) (ih28 ((i_137 + 1)) H locs ls ⟨hP, hD, hS, hl, (show (i_137 + 1) ≤ bD B - d_133 from by omega)⟩ (show bD B - d_133 - (i_137 + 1) < bD B - d_133 - i_137 from by omega))
          · refine lv_iconst (v := nI 1) hx hb dX4_goes_131 (by decide) ?_
            refine lv_goto (tgt := 136) hx hb dX4_goes_132 (by decide) ?_
            refine lv_iadd hx hb dX4_goes_136 ?_
            refine lv_ton (n := ((crW B d_133 i_137).2.2.1) + 1) (nadd (by omega)) ?_
            refine va_put (v := .int (nI (((crW B d_133 i_137).2.2.1) + 1))) (ty := .int) hx hb hts in_X4 tyX4 tyX4_ok nmX4 hown hK hP hD hS 0 rfl rfl 11 (by decide) (hts _ q1607) (fun _ h => h) rfl (by decide +kernel) rfl rfl (Nat.le_of_ble_eq_true rfl) dX4_goes_137 (fun H locs (hP : va_P G.1 CL [(m0, .inr (6, [.ref sa, .ref oa, .ref pa, .ref la, .ref za, .ref na, .int gu, .int gt, .int gw, .int (nI ((crW B d_133 i_137).1)), .int (nI (((crW B d_133 i_137).2.1) + 1)), .int (nI (((crW B d_133 i_137).2.2.1) + 1)), .int gh, .int gv])), (la, .inl (G.2 0, 200, .inl (ldF B))), (za, .inl (G.2 0, 6, .inl zg_132))] H) (hD : va_D A [(m0, .inr (6, [.ref sa, .ref oa, .ref pa, .ref la, .ref za, .ref na, .int gu, .int gt, .int gw, .int (nI ((crW B d_133 i_137).1)), .int (nI (((crW B d_133 i_137).2.1) + 1)), .int (nI (((crW B d_133 i_137).2.2.1) + 1)), .int gh, .int gv])), (la, .inl (G.2 0, 200, .inl (ldF B))), (za, .inl (G.2 0, 6, .inl zg_132))]) hS => ?_)
            refine lv_aload_n hx hb dX4_goes_140 rfl (lv_at hl 2 rfl) ?_
            refine lv_dup hx hb dX4_goes_141 rfl ?_
            refine va_get hx hb hts in_X4 hown hK hP 0 rfl rfl 9 (by decide) (hts _ q1605) (fun _ h => h) rfl dX4_goes_142 ?_
            refine lv_iload_n hx hb dX4_goes_145 rfl (lv_at hl 1 rfl) ?_
            refine n_if_eq (tgt := 154) hx hb (by omega) dX4_goes_146 (by decide) (fun c_155 => absurd c_155 (by omega)) (fun c_155 => ?_)
            refine lv_iload_n hx hb dX4_goes_149 rfl (lv_at hl 0 rfl) ?_
            refine lv_iconst (v := nI 3) hx hb dX4_goes_150 (by decide) ?_
            refine n_icmp_ne (tgt := 158) hx hb (by omega) (by omega) dX4_goes_151 (by decide) (fun c_156 => ?_) (fun c_156 => ?_)
            · refine lv_iconst (v := nI 0) hx hb dX4_goes_158 (by decide) ?_
              refine lv_iadd hx hb dX4_goes_159 ?_
              refine lv_ton (n := ((crW B d_133 i_137).1)) (nadd (by omega)) ?_
              refine va_put (v := .int (nI ((crW B d_133 i_137).1))) (ty := .int) hx hb hts in_X4 tyX4 tyX4_ok nmX4 hown hK hP hD hS 0 rfl rfl 9 (by decide) (hts _ q1605) (fun _ h => h) rfl (by decide +kernel) rfl rfl (Nat.le_of_ble_eq_true rfl) dX4_goes_160 (fun H locs (hP : va_P G.1 CL [(m0, .inr (6, [.ref sa, .ref oa, .ref pa, .ref la, .ref za, .ref na, .int gu, .int gt, .int gw, .int (nI ((crW B d_133 i_137).1)), .int (nI (((crW B d_133 i_137).2.1) + 1)), .int (nI (((crW B d_133 i_137).2.2.1) + 1)), .int gh, .int gv])), (la, .inl (G.2 0, 200, .inl (ldF B))), (za, .inl (G.2 0, 6, .inl zg_132))] H) (hD : va_D A [(m0, .inr (6, [.ref sa, .ref oa, .ref pa, .ref la, .ref za, .ref na, .int gu, .int gt, .int gw, .int (nI ((crW B d_133 i_137).1)), .int (nI (((crW B d_133 i_137).2.1) + 1)), .int (nI (((crW B d_133 i_137).2.2.1) + 1)), .int gh, .int gv])), (la, .inl (G.2 0, 200, .inl (ldF B))), (za, .inl (G.2 0, 6, .inl zg_132))]) hS => ?_)
              refine lv_iload_n hx hb dX4_goes_163 rfl (lv_at hl 0 rfl) ?_
              refine lv_iconst (v := nI 3) hx hb dX4_goes_164 (by decide) ?_
              refine lv_irem hx hb dX4_goes_165 (by decide) ?_
              refine lv_ton (n := ((((crW B d_133 i_137).2.2.2) + 1) % 3)) (nrem (by omega) (by omega) (by omega) rfl) ?_
              refine lv_istore_n (lv' := [(1, .int (nI ((((crW B d_133 i_137).2.2.2) + 1) % 3))), (3, .int (nI 1)), (0, .ref m0), (2, .int (nI (d_133 + i_137)))]) hx hb dX4_goes_166 rfl hl (by decide) rfl (fun ls hl => ?_)
              have hj : crW B d_133 (i_137 + 1) = (((crW B d_133 i_137).1), ((crW B d_133 i_137).2.1) + 1, ((crW B d_133 i_137).2.2.1) + 1, ((((crW B d_133 i_137).2.2.2) + 1) % 3)) := by
                simp only [crW, crS]
                first | rw [if_pos (by omega), if_pos (by omega), if_pos (by omega)] | rw [if_pos (by omega), if_pos (by omega), if_neg (by omega)] | rw [if_pos (by omega), if_neg (by omega)]
                all_goals (refine Prod.ext ?_ (Prod.ext ?_ (Prod.ext ?_ ?_)) <;> dsimp only <;> omega)
              have hP : va_P G.1 CL [(m0, .inr (6, [.ref sa, .ref oa, .ref pa, .ref la, .ref za, .ref na, .int gu, .int gt, .int gw, .int (nI ((crW B d_133 (i_137 + 1)).1)), .int (nI ((crW B d_133 (i_137 + 1)).2.1)), .int (nI ((crW B d_133 (i_137 + 1)).2.2.1)), .int gh, .int gv])), (la, .inl (G.2 0, 200, .inl (ldF B))), (za, .inl (G.2 0, 6, .inl zg_132))] H := by rw [hj]; exact hP
              have hD : va_D A [(m0, .inr (6, [.ref sa, .ref oa, .ref pa, .ref la, .ref za, .ref na, .int gu, .int gt, .int gw, .int (nI ((crW B d_133 (i_137 + 1)).1)), .int (nI ((crW B d_133 (i_137 + 1)).2.1)), .int (nI ((crW B d_133 (i_137 + 1)).2.2.1)), .int gh, .int gv])), (la, .inl (G.2 0, 200, .inl (ldF B))), (za, .inl (G.2 0, 6, .inl zg_132))] := by rw [hj]; exact hD
              have hl : lv_has ls 4 [(1, .int (nI ((crW B d_133 (i_137 + 1)).2.2.2))), (3, .int (nI 1)), (0, .ref m0), (2, .int (nI (d_133 + i_137)))] := by rw [hj]; exact hl
              refine lv_iinc (v := nI (d_133 + i_137 + 1)) (lv' := [(2, .int (nI (d_133 + i_137 + 1))), (1, .int (nI ((crW B d_133 (i_137 + 1)).2.2.2))), (3, .int (nI 1)), (0, .ref m0)]) hx hb dX4_goes_167 hl (k := 3) rfl (ninc (b := 1) (by decide) (by omega)) (by decide) rfl (fun ls hl => ?_)
              refine lv_goto (tgt := 28) hx hb dX4_goes_170 (by decide) ?_
              have hP : va_P G.1 CL [(m0, .inr (6, [.ref sa, .ref oa, .ref pa, .ref la, .ref za, .ref na, .int gu, .int gt, .int gw, .int (nI ((crW B d_133 (i_137 + 1)).1)), .int (nI ((crW B d_133 (i_137 + 1)).2.1)), .int (nI ((crW B d_133 (i_137 + 1)).2.2.1)), .int gh, .int gv])), (la, .inl (G.2 0, 200, .inl (ldF B))), (za, .inl (G.2 0, 6, .inl zg_132))] H := hP.sub [0, 1, 2] rfl
              have hD : va_D A [(m0, .inr (6, [.ref sa, .ref oa, .ref pa, .ref la, .ref za, .ref na, .int gu, .int gt, .int gw, .int (nI ((crW B d_133 (i_137 + 1)).1)), .int (nI ((crW B d_133 (i_137 + 1)).2.1)), .int (nI ((crW B d_133 (i_137 + 1)).2.2.1)), .int gh, .int gv])), (la, .inl (G.2 0, 200, .inl (ldF B))), (za, .inl (G.2 0, 6, .inl zg_132))] := hD.sub [0, 1, 2] (by decide) rfl
              have hl := lv_sub hl [3, 1, 0] (l' := [(0, .ref m0), (1, .int (nI ((crW B d_133 (i_137 + 1)).2.2.2))), (2, .int (nI (d_133 + i_137 + 1)))]) rfl
              exact W.widen (show 0 ≤ 0 from by first | exact Nat.le_refl _ | omega) (show 0 ≤ 0 from by first | exact Nat.le_refl _ | omega) (ih28 ((i_137 + 1)) H locs ls ⟨hP, hD, hS, hl, (show (i_137 + 1) ≤ bD B - d_133 from by omega)⟩ (show bD B - d_133 - (i_137 + 1) < bD B - d_133 - i_137 from by omega))
            · refine lv_iconst (v := nI 1) hx hb dX4_goes_154 (by decide) ?_
              refine lv_goto (tgt := 159) hx hb dX4_goes_155 (by decide) ?_
              refine lv_iadd hx hb dX4_goes_159 ?_
              refine lv_ton (n := ((crW B d_133 i_137).1) + 1) (nadd (by omega)) ?_
              refine va_put (v := .int (nI (((crW B d_133 i_137).1) + 1))) (ty := .int) hx hb hts in_X4 tyX4 tyX4_ok nmX4 hown hK hP hD hS 0 rfl rfl 9 (by decide) (hts _ q1605) (fun _ h => h) rfl (by decide +kernel) rfl rfl (Nat.le_of_ble_eq_true rfl) dX4_goes_160 (fun H locs (hP : va_P G.1 CL [(m0, .inr (6, [.ref sa, .ref oa, .ref pa, .ref la, .ref za, .ref na, .int gu, .int gt, .int gw, .int (nI (((crW B d_133 i_137).1) + 1)), .int (nI (((crW B d_133 i_137).2.1) + 1)), .int (nI (((crW B d_133 i_137).2.2.1) + 1)), .int gh, .int gv])), (la, .inl (G.2 0, 200, .inl (ldF B))), (za, .inl (G.2 0, 6, .inl zg_132))] H) (hD : va_D A [(m0, .inr (6, [.ref sa, .ref oa, .ref pa, .ref la, .ref za, .ref na, .int gu, .int gt, .int gw, .int (nI (((crW B d_133 i_137).1) + 1)), .int (nI (((crW B d_133 i_137).2.1) + 1)), .int (nI (((crW B d_133 i_137).2.2.1) + 1)), .int gh, .int gv])), (la, .inl (G.2 0, 200, .inl (ldF B))), (za, .inl (G.2 0, 6, .inl zg_132))]) hS => ?_)
              refine lv_iload_n hx hb dX4_goes_163 rfl (lv_at hl 0 rfl) ?_
              refine lv_iconst (v := nI 3) hx hb dX4_goes_164 (by decide) ?_
              refine lv_irem hx hb dX4_goes_165 (by decide) ?_
              refine lv_ton (n := ((((crW B d_133 i_137).2.2.2) + 1) % 3)) (nrem (by omega) (by omega) (by omega) rfl) ?_
              refine lv_istore_n (lv' := [(1, .int (nI ((((crW B d_133 i_137).2.2.2) + 1) % 3))), (3, .int (nI 1)), (0, .ref m0), (2, .int (nI (d_133 + i_137)))]) hx hb dX4_goes_166 rfl hl (by decide) rfl (fun ls hl => ?_)
              have hj : crW B d_133 (i_137 + 1) = (((crW B d_133 i_137).1) + 1, ((crW B d_133 i_137).2.1) + 1, ((crW B d_133 i_137).2.2.1) + 1, ((((crW B d_133 i_137).2.2.2) + 1) % 3)) := by
                simp only [crW, crS]
                first | rw [if_pos (by omega), if_pos (by omega), if_pos (by omega)] | rw [if_pos (by omega), if_pos (by omega), if_neg (by omega)] | rw [if_pos (by omega), if_neg (by omega)]
                all_goals (refine Prod.ext ?_ (Prod.ext ?_ (Prod.ext ?_ ?_)) <;> dsimp only <;> omega)
              have hP : va_P G.1 CL [(m0, .inr (6, [.ref sa, .ref oa, .ref pa, .ref la, .ref za, .ref na, .int gu, .int gt, .int gw, .int (nI ((crW B d_133 (i_137 + 1)).1)), .int (nI ((crW B d_133 (i_137 + 1)).2.1)), .int (nI ((crW B d_133 (i_137 + 1)).2.2.1)), .int gh, .int gv])), (la, .inl (G.2 0, 200, .inl (ldF B))), (za, .inl (G.2 0, 6, .inl zg_132))] H := by rw [hj]; exact hP
              have hD : va_D A [(m0, .inr (6, [.ref sa, .ref oa, .ref pa, .ref la, .ref za, .ref na, .int gu, .int gt, .int gw, .int (nI ((crW B d_133 (i_137 + 1)).1)), .int (nI ((crW B d_133 (i_137 + 1)).2.1)), .int (nI ((crW B d_133 (i_137 + 1)).2.2.1)), .int gh, .int gv])), (la, .inl (G.2 0, 200, .inl (ldF B))), (za, .inl (G.2 0, 6, .inl zg_132))] := by rw [hj]; exact hD
              have hl : lv_has ls 4 [(1, .int (nI ((crW B d_133 (i_137 + 1)).2.2.2))), (3, .int (nI 1)), (0, .ref m0), (2, .int (nI (d_133 + i_137)))] := by rw [hj]; exact hl
              refine lv_iinc (v := nI (d_133 + i_137 + 1)) (lv' := [(2, .int (nI (d_133 + i_137 + 1))), (1, .int (nI ((crW B d_133 (i_137 + 1)).2.2.2))), (3, .int (nI 1)), (0, .ref m0)]) hx hb dX4_goes_167 hl (k := 3) rfl (ninc (b := 1) (by decide) (by omega)) (by decide) rfl (fun ls hl => ?_)
              refine lv_goto (tgt := 28) hx hb dX4_goes_170 (by decide) ?_
              have hP : va_P G.1 CL [(m0, .inr (6, [.ref sa, .ref oa, .ref pa, .ref la, .ref za, .ref na, .int gu, .int gt, .int gw, .int (nI ((crW B d_133 (i_137 + 1)).1)), .int (nI ((crW B d_133 (i_137 + 1)).2.1)), .int (nI ((crW B d_133 (i_137 + 1)).2.2.1)), .int gh, .int gv])), (la, .inl (G.2 0, 200, .inl (ldF B))), (za, .inl (G.2 0, 6, .inl zg_132))] H := hP.sub [0, 1, 2] rfl
              have hD : va_D A [(m0, .inr (6, [.ref sa, .ref oa, .ref pa, .ref la, .ref za, .ref na, .int gu, .int gt, .int gw, .int (nI ((crW B d_133 (i_137 + 1)).1)), .int (nI ((crW B d_133 (i_137 + 1)).2.1)), .int (nI ((crW B d_133 (i_137 + 1)).2.2.1)), .int gh, .int gv])), (la, .inl (G.2 0, 200, .inl (ldF B))), (za, .inl (G.2 0, 6, .inl zg_132))] := hD.sub [0, 1, 2] (by decide) rfl
              have hl := lv_sub hl [3, 1, 0] (l' := [(0, .ref m0), (1, .int (nI ((crW B d_133 (i_137 + 1)).2.2.2))), (2, .int (nI (d_133 + i_137 + 1)))]) rfl
              exact W.widen (show 0 ≤ 0 from by first | exact Nat.le_refl _ | omega) (show 0 ≤ 0 from by first | exact Nat.le_refl _ | omega) (ih28 ((i_137 + 1)) H locs ls ⟨hP, hD, hS, hl, (show (i_137 + 1) ≤ bD B - d_133 from by omega)⟩ (show bD B - d_133 - (i_137 + 1) < bD B - d_133 - i_137 from by omega))

set_option maxHeartbeats 4000000 in
theorem mX4_told (l : Launch) (G : Gt) (m0 : Nat) (sa : Nat) (oa : Nat) (pa : Nat) (la : Nat) (za : Nat) (na : Nat) (gu : Int32) (gt : Int32) (gw : Int32) (gd : Int32) (gm : Int32) (gr : Int32) (gh : Int32) (gv : Int32) (f : Nat → Int32) (B : Bk) (zf : Nat → Int32) (d : Nat) (hM : MR f B) (hI : Inv B) (hd : d ≤ 1000) : CT l G yX4_told cX4_told 6 (some .char) ({ frames := 4, cells := 0, slots := 0, locals := 83 } : Room) [.ref m0, .int (nI d)] [(za, .inl (G.2 0, 6, .inl zf))] (fun (A : Nat → Prop) (H : Heap) => roW G A H [(m0, .inr (6, [.ref sa, .ref oa, .ref pa, .ref la, .ref za, .ref na, .int gu, .int gt, .int gw, .int gd, .int gm, .int gr, .int gh, .int gv])), (sa, .inl (G.2 0, 830, .inl f))]) (S := (Nat → Int32)) (fun (u_ : (Nat → Int32)) => some (.int (nI (signS B d)))) (fun (u_ : (Nat → Int32)) => True) (fun (u_ : (Nat → Int32)) => [(za, .inl (G.2 0, 6, .inl u_))]) (fun (u_ : (Nat → Int32)) (H : Heap) => True) := by
  refine CT.of (by decide) (Nat.le_of_ble_eq_true rfl) ?_
  intro p e s m below meth c ls A H locs h9 hH0 hP hS
  obtain ⟨cf, hr, hlk, hnm, hKB, hE, -, hD, -, hA, hAw, hR0, hl⟩ := h9
  have hx := cf.1
  have hb := cf.2.1
  have hml := cf.2.2.1
  have hown : s.vm.findClass RX4 = some m.cls := cf.2.2.2.1
  have hts := cf.2.2.2.2
  have hK := hKB.1
  have hl : lv_has ls 6 [(0, .ref m0), (1, .int (nI d))] := hl
  have iN := iv_sN hI
  have iT := iv_tN hI
  have iD := iv_bD hI
  have iE := iv_bE hI
  have iW := iv_id hI
  refine lv_aload_n hx hb dX4_told_0 rfl (lv_at hl 0 rfl) ?_
  have hF := hF_of (wc := [(za, .inl (G.2 0, 6, .inl zf))]) hD hS hA [0] rfl
  have hro_157 : roW G (va_A [(za, .inl (G.2 0, 6, .inl zf))] H.size) H [(m0, .inr (6, [.ref sa, .ref oa, .ref pa, .ref la, .ref za, .ref na, .int gu, .int gt, .int gw, .int gd, .int gm, .int gr, .int gh, .int gv]))] := ((hR0.kp hF hS.2.1).sub (ws' := [(m0, .inr (6, [.ref sa, .ref oa, .ref pa, .ref la, .ref za, .ref na, .int gu, .int gt, .int gw, .int gd, .int gm, .int gr, .int gh, .int gv]))]) [0] rfl)
  refine go_ct hS hP hD [0] [] hF rfl rfl (by decide) (by decide)
      (va_runV (As := []) (rest := []) cf (mX4_noZones l G m0 sa oa pa la za na gu gt gw gd gm gr gh gv zf  H.size) (cwV 0 hts (lw_V q1679 q1681 qs25 q58 q1682) rfl rfl rfl (by decide +kernel) ⟨Nat.le_of_ble_eq_true rfl, Nat.le_of_ble_eq_true rfl⟩) (preV_of hKB hE hS hF (va_recv hK (hR0.w hS) (ci := 6) (q0 := 0) rfl rfl) (va_P.sub hP [0] rfl) ((va_D.sub hD [0] (by decide) rfl).weaken (fun _ _ _ _ => trivial)) hro_157) rfl rfl hl.1 rfl (lv_room (Nat.le_of_ble_eq_true rfl)) dX4_told_1 ⟨show 0 + 0 ≤ 0 from by first | decide | omega, show 0 + 0 ≤ 0 from by first | decide | omega⟩)
      (fun u_ H locs hq hph (hP : va_P G.1 CL [(za, .inl (G.2 0, 6, .inl zz))] H) (hD : va_D A [(za, .inl (G.2 0, 6, .inl zz))]) hS hfz hfk => ?_)
  refine W.eq (g2 := F0 m 4 ls []) rfl ?_
  refine lv_iconst (v := nI 0) hx hb dX4_told_4 (by decide) ?_
  refine lv_istore_n (lv' := [(2, .int (nI 0)), (0, .ref m0), (1, .int (nI d))]) hx hb dX4_told_5 rfl hl (by decide) rfl (fun ls hl => ?_)
  refine lv_iconst (v := nI 0) hx hb dX4_told_6 (by decide) ?_
  refine lv_istore_n (lv' := [(3, .int (nI 0)), (2, .int (nI 0)), (0, .ref m0), (1, .int (nI d))]) hx hb dX4_told_7 rfl hl (by decide) rfl (fun ls hl => ?_)
  refine lv_iconst (v := nI 0) hx hb dX4_told_8 (by decide) ?_
  refine lv_istore (lv' := [(4, .int (nI 0)), (3, .int (nI 0)), (2, .int (nI 0)), (0, .ref m0), (1, .int (nI d))]) hx hb dX4_told_9 hl (by decide) rfl (fun ls hl => ?_)
  have he_158 : ∀ j9, j9 < 6 → zz j9 = (zDF B d 0) j9 := fun _ _ => rfl
  have hP : va_P G.1 CL [(za, .inl (G.2 0, 6, .inl (zDF B d 0)))] H := va_P.extI hP 0 rfl he_158
  have hD : va_D A [(za, .inl (G.2 0, 6, .inl (zDF B d 0)))] := hD.set (p := 0) rfl
  have hl := lv_sub hl [3, 4, 2, 1, 0] (l' := [(0, .ref m0), (1, .int (nI d)), (2, .int (nI (nDk B d 0))), (3, .int (nI (aDk B d 0))), (4, .int (nI 0))]) rfl
  refine lp_W (σ := Nat) (hpc := 11) (fun x => sN B - x) (fun x => 0) (fun x => 0) (fun x H locs ls => va_P G.1 CL [(za, .inl (G.2 0, 6, .inl (zDF B d x)))] H ∧ va_D A [(za, .inl (G.2 0, 6, .inl (zDF B d x)))] ∧ va_S A s.heap H locs ∧ lv_has ls 6 [(0, .ref m0), (1, .int (nI d)), (2, .int (nI (nDk B d x))), (3, .int (nI (aDk B d x))), (4, .int (nI x))] ∧ (x ≤ sN B)) ?_ (0) ⟨(show va_P G.1 CL [(za, .inl (G.2 0, 6, .inl (zDF B d 0)))] H from hP), (show va_D A [(za, .inl (G.2 0, 6, .inl (zDF B d 0)))] from hD), hS, hl, (show 0 ≤ sN B from by omega)⟩ (show 0 ≤ 0 from by first | exact Nat.le_refl _ | omega) (show 0 ≤ 0 from by first | exact Nat.le_refl _ | omega)
  intro x H locs ls hI9 ih11
  obtain ⟨k_160, rfl⟩ : ∃ z, z = x := ⟨_, rfl⟩
  obtain ⟨hP, hD, hS, hl, hp_159⟩ := hI9
  have hP : va_P G.1 CL [(za, .inl (G.2 0, 6, .inl (zDF B d k_160)))] H := hP
  have hD : va_D A [(za, .inl (G.2 0, 6, .inl (zDF B d k_160)))] := hD
  have hl : lv_has ls 6 [(0, .ref m0), (1, .int (nI d)), (2, .int (nI (nDk B d k_160))), (3, .int (nI (aDk B d k_160))), (4, .int (nI k_160))] := hl
  have hp_159 : k_160 ≤ sN B := hp_159
  have hn9 := nDk_le B d k_160
  have ha9 := aDk_le hI d (k := k_160) (by omega)
  refine lv_iload hx hb dX4_told_11 (lv_at hl 4 rfl) ?_
  refine lv_aload_n hx hb dX4_told_13 rfl (lv_at hl 0 rfl) ?_
  refine va_get hx hb hts in_X4 hown hK (hR0.w hS) 0 rfl rfl 0 (by decide) (hts _ q1596) (fun _ h => h) rfl dX4_told_14 ?_
  refine lv_iconst (v := nI 2) hx hb dX4_told_17 (by decide) ?_
  refine r_iald (v := nI (sN B)) hx hb hK (hR0.w hS) 1 0 rfl rfl (i := 2) (by omega) (by omega) (hM.many) dX4_told_18 ?_
  refine n_icmp_ge (tgt := 70) hx hb (by omega) (by omega) dX4_told_19 (by decide) (fun c_161 => ?_) (fun c_161 => ?_)
  · have hk9 : k_160 = sN B := by omega
    have hl := lv_sub hl [0, 1, 2, 3] (l' := [(0, .ref m0), (1, .int (nI d)), (2, .int (nI (nDk B d k_160))), (3, .int (nI (aDk B d k_160)))]) rfl
    have hP : va_P G.1 CL [(za, .inl (G.2 0, 6, .inl (zDF B d (sN B))))] H := by rw [← hk9]; exact hP
    have hD : va_D A [(za, .inl (G.2 0, 6, .inl (zDF B d (sN B))))] := by rw [← hk9]; exact hD
    have hl : lv_has ls 6 [(0, .ref m0), (1, .int (nI d)), (2, .int (nI (nDk B d (sN B)))), (3, .int (nI (aDk B d (sN B))))] := by rw [← hk9]; exact hl
    have hn7 := nDk_le B d (sN B)
    have ha7 := aDk_le hI d (k := sN B) (Nat.le_refl _)
    have hz7 : ∀ z, zDk B d (sN B) z ≤ 240 * sN B := fun z => zDk_le hI d z (Nat.le_refl _)
    refine lv_iconst (v := nI 1) hx hb dX4_told_70 (by decide) ?_
    refine lv_istore (lv' := [(4, .int (nI 1)), (0, .ref m0), (1, .int (nI d)), (2, .int (nI (nDk B d (sN B)))), (3, .int (nI (aDk B d (sN B))))]) hx hb dX4_told_71 hl (by decide) rfl (fun ls hl => ?_)
    refine lv_iconst (v := nI 2) hx hb dX4_told_73 (by decide) ?_
    refine lv_istore (lv' := [(5, .int (nI 2)), (4, .int (nI 1)), (0, .ref m0), (1, .int (nI d)), (2, .int (nI (nDk B d (sN B)))), (3, .int (nI (aDk B d (sN B))))]) hx hb dX4_told_74 hl (by decide) rfl (fun ls hl => ?_)
    have hl := lv_sub hl [2, 3, 4, 5, 1, 0] (l' := [(0, .ref m0), (1, .int (nI d)), (2, .int (nI (nDk B d (sN B)))), (3, .int (nI (aDk B d (sN B)))), (4, .int (nI (zbW (zDk B d (sN B)) 0))), (5, .int (nI 2))]) rfl
    refine lp_W (σ := Nat) (hpc := 76) (fun x => 4 - x) (fun x => 0) (fun x => 0) (fun x H locs ls => va_P G.1 CL [(za, .inl (G.2 0, 6, .inl (zDF B d (sN B))))] H ∧ va_D A [(za, .inl (G.2 0, 6, .inl (zDF B d (sN B))))] ∧ va_S A s.heap H locs ∧ lv_has ls 6 [(0, .ref m0), (1, .int (nI d)), (2, .int (nI (nDk B d (sN B)))), (3, .int (nI (aDk B d (sN B)))), (4, .int (nI (zbW (zDk B d (sN B)) x))), (5, .int (nI (x + 2)))] ∧ (x ≤ 4)) ?_ (0) ⟨(show va_P G.1 CL [(za, .inl (G.2 0, 6, .inl (zDF B d (sN B))))] H from hP), (show va_D A [(za, .inl (G.2 0, 6, .inl (zDF B d (sN B))))] from hD), hS, hl, (show 0 ≤ 4 from by omega)⟩ (show 0 ≤ 0 from by first | exact Nat.le_refl _ | omega) (show 0 ≤ 0 from by first | exact Nat.le_refl _ | omega)
    intro x H locs ls hI9 ih76
    obtain ⟨j_163, rfl⟩ : ∃ z, z = x := ⟨_, rfl⟩
    obtain ⟨hP, hD, hS, hl, hp_162⟩ := hI9
    have hP : va_P G.1 CL [(za, .inl (G.2 0, 6, .inl (zDF B d (sN B))))] H := hP
    have hD : va_D A [(za, .inl (G.2 0, 6, .inl (zDF B d (sN B))))] := hD
    have hl : lv_has ls 6 [(0, .ref m0), (1, .int (nI d)), (2, .int (nI (nDk B d (sN B)))), (3, .int (nI (aDk B d (sN B)))), (4, .int (nI (zbW (zDk B d (sN B)) j_163))), (5, .int (nI (j_163 + 2)))] := hl
    have hp_162 : j_163 ≤ 4 := hp_162
    have hb9 := zbW_ok (zDk B d (sN B)) j_163
    have hz6 := hz7 (j_163 + 2)
    have hz5 := hz7 (zbW (zDk B d (sN B)) j_163)
    refine lv_iload hx hb dX4_told_76 (lv_at hl 5 rfl) ?_
    refine lv_iconst (v := nI 5) hx hb dX4_told_78 (by decide) ?_
    refine n_icmp_gt (tgt := 114) hx hb (by omega) (by omega) dX4_told_79 (by decide) (fun c_164 => ?_) (fun c_164 => ?_)
    · have hj9 : j_163 = 4 := by omega
      have hl := lv_sub hl [0, 1, 2, 3, 4] (l' := [(0, .ref m0), (1, .int (nI d)), (2, .int (nI (nDk B d (sN B)))), (3, .int (nI (aDk B d (sN B)))), (4, .int (nI (zbW (zDk B d (sN B)) j_163)))]) rfl
      have hl : lv_has ls 6 [(0, .ref m0), (1, .int (nI d)), (2, .int (nI (nDk B d (sN B)))), (3, .int (nI (aDk B d (sN B)))), (4, .int (nI (zbW (zDk B d (sN B)) 4)))] := by rw [hj9] at hl; exact hl
      have hb8 := zbW_ok (zDk B d (sN B)) 4
      refine lv_iload_n hx hb dX4_told_114 rfl (lv_at hl 1 rfl) ?_
      refine lv_aload_n hx hb dX4_told_115 rfl (lv_at hl 0 rfl) ?_
      refine va_get hx hb hts in_X4 hown hK (hR0.w hS) 0 rfl rfl 0 (by decide) (hts _ q1596) (fun _ h => h) rfl dX4_told_116 ?_
      refine lv_iconst (v := nI 0) hx hb dX4_told_119 (by decide) ?_
      refine r_iald (v := nI (bD B)) hx hb hK (hR0.w hS) 1 0 rfl rfl (i := 0) (by omega) (by omega) (hM.today) dX4_told_120 ?_
      refine n_icmp_le (tgt := 129) hx hb (by omega) (by omega) dX4_told_121 (by decide) (fun c_165 => ?_) (fun c_165 => ?_)
      · refine lv_iload_n hx hb dX4_told_129 rfl (lv_at hl 2 rfl) ?_
        refine n_if_ne (tgt := 138) hx hb (by omega) dX4_told_130 (by decide) (fun c_166 => ?_) (fun c_166 => ?_)
        · refine lv_iload_n hx hb dX4_told_138 rfl (lv_at hl 3 rfl) ?_
          refine n_if_ne (tgt := 147) hx hb (by omega) dX4_told_139 (by decide) (fun c_167 => ?_) (fun c_167 => ?_)
          · refine lv_bipush (v := nI 48) hx hb dX4_told_147 (by decide) ?_
            refine lv_iload hx hb dX4_told_149 (lv_at hl 4 rfl) ?_
            refine lv_iadd hx hb dX4_told_151 ?_
            refine lv_ton (n := (zbW (zDk B d (sN B)) 4) + 48) (nadd (by omega)) ?_
            refine lv_i2c (v := nI ((zbW (zDk B d (sN B)) 4) + 48)) hx hb dX4_told_152 (n2c (by omega)) ?_
            refine lv_ton (n := (signS B d)) (congrArg nI (by unfold signS; first | rw [if_pos (by omega)] | rw [if_neg (by omega), if_pos (by omega)] | rw [if_neg (by omega), if_neg (by omega), if_pos (by omega)] | (rw [if_neg (by omega), if_neg (by omega), if_neg (by omega)]; omega))) ?_
            have hs8 := signS_lt B d
            have hP9 : va_P G.1 CL [(za, .inl (G.2 0, 6, .inl (zDF B d (sN B))))] H := hP.sub [0] rfl
            have hD9 : va_D A [(za, .inl (G.2 0, 6, .inl (zDF B d (sN B))))] := hD.sub [0] (by decide) rfl
            exact end_i hx hb hr hlk (nar_cv (by omega)) (qc_of (zDF B d (sN B)) (v := some (.int (nI (signS B d)))) (by rfl) (trivial) hP9 hD9 (trivial) hS) hS dX4_told_153 (show 0 ≤ 0 from by first | exact Nat.le_refl _ | decide | omega) (show 0 ≤ 0 from by first | exact Nat.le_refl _ | decide | omega)
          · refine lv_bipush (v := nI 48) hx hb dX4_told_142 (by decide) ?_
            refine lv_goto (tgt := 153) hx hb dX4_told_144 (by decide) ?_
            refine lv_ton (n := (signS B d)) (congrArg nI (by unfold signS; first | rw [if_pos (by omega)] | rw [if_neg (by omega), if_pos (by omega)] | rw [if_neg (by omega), if_neg (by omega), if_pos (by omega)] | (rw [if_neg (by omega), if_neg (by omega), if_neg (by omega)]; omega))) ?_
            have hs8 := signS_lt B d
            have hP9 : va_P G.1 CL [(za, .inl (G.2 0, 6, .inl (zDF B d (sN B))))] H := hP.sub [0] rfl
            have hD9 : va_D A [(za, .inl (G.2 0, 6, .inl (zDF B d (sN B))))] := hD.sub [0] (by decide) rfl
            exact end_i hx hb hr hlk (nar_cv (by omega)) (qc_of (zDF B d (sN B)) (v := some (.int (nI (signS B d)))) (by rfl) (trivial) hP9 hD9 (trivial) hS) hS dX4_told_153 (show 0 ≤ 0 from by first | exact Nat.le_refl _ | decide | omega) (show 0 ≤ 0 from by first | exact Nat.le_refl _ | decide | omega)
        · refine lv_bipush (v := nI 46) hx hb dX4_told_133 (by decide) ?_
          refine lv_goto (tgt := 153) hx hb dX4_told_135 (by decide) ?_
          refine lv_ton (n := (signS B d)) (congrArg nI (by unfold signS; first | rw [if_pos (by omega)] | rw [if_neg (by omega), if_pos (by omega)] | rw [if_neg (by omega), if_neg (by omega), if_pos (by omega)] | (rw [if_neg (by omega), if_neg (by omega), if_neg (by omega)]; omega))) ?_
          have hs8 := signS_lt B d
          have hP9 : va_P G.1 CL [(za, .inl (G.2 0, 6, .inl (zDF B d (sN B))))] H := hP.sub [0] rfl
          have hD9 : va_D A [(za, .inl (G.2 0, 6, .inl (zDF B d (sN B))))] := hD.sub [0] (by decide) rfl
          exact end_i hx hb hr hlk (nar_cv (by omega)) (qc_of (zDF B d (sN B)) (v := some (.int (nI (signS B d)))) (by rfl) (trivial) hP9 hD9 (trivial) hS) hS dX4_told_153 (show 0 ≤ 0 from by first | exact Nat.le_refl _ | decide | omega) (show 0 ≤ 0 from by first | exact Nat.le_refl _ | decide | omega)
      · refine lv_bipush (v := nI 45) hx hb dX4_told_124 (by decide) ?_
        refine lv_goto (tgt := 153) hx hb dX4_told_126 (by decide) ?_
        refine lv_ton (n := (signS B d)) (congrArg nI (by unfold signS; first | rw [if_pos (by omega)] | rw [if_neg (by omega), if_pos (by omega)] | rw [if_neg (by omega), if_neg (by omega), if_pos (by omega)] | (rw [if_neg (by omega), if_neg (by omega), if_neg (by omega)]; omega))) ?_
        have hs8 := signS_lt B d
        have hP9 : va_P G.1 CL [(za, .inl (G.2 0, 6, .inl (zDF B d (sN B))))] H := hP.sub [0] rfl
        have hD9 : va_D A [(za, .inl (G.2 0, 6, .inl (zDF B d (sN B))))] := hD.sub [0] (by decide) rfl
        exact end_i hx hb hr hlk (nar_cv (by omega)) (qc_of (zDF B d (sN B)) (v := some (.int (nI (signS B d)))) (by rfl) (trivial) hP9 hD9 (trivial) hS) hS dX4_told_153 (show 0 ≤ 0 from by first | exact Nat.le_refl _ | decide | omega) (show 0 ≤ 0 from by first | exact Nat.le_refl _ | decide | omega)
    · refine lv_aload_n hx hb dX4_told_82 rfl (lv_at hl 0 rfl) ?_
      refine va_get hx hb hts in_X4 hown hK (hR0.w hS) 0 rfl rfl 4 (by decide) (hts _ q1600) (fun _ h => h) rfl dX4_told_83 ?_
      refine lv_iload hx hb dX4_told_86 (lv_at hl 5 rfl) ?_
      refine r_iald (v := nI (zDk B d (sN B) (j_163 + 2))) hx hb hK hP 0 0 rfl rfl (i := j_163 + 2) (by omega) (by omega) (rfl) dX4_told_88 ?_
      refine lv_aload_n hx hb dX4_told_89 rfl (lv_at hl 0 rfl) ?_
      refine va_get hx hb hts in_X4 hown hK (hR0.w hS) 0 rfl rfl 4 (by decide) (hts _ q1600) (fun _ h => h) rfl dX4_told_90 ?_
      refine lv_iload hx hb dX4_told_93 (lv_at hl 4 rfl) ?_
      refine r_iald (v := nI (zDk B d (sN B) ((zbW (zDk B d (sN B)) j_163)))) hx hb hK hP 0 0 rfl rfl (i := (zbW (zDk B d (sN B)) j_163)) (by omega) (by omega) (rfl) dX4_told_95 ?_
      refine n_icmp_le (tgt := 104) hx hb (by omega) (by omega) dX4_told_96 (by decide) (fun c_168 => ?_) (fun c_168 => ?_)
      · refine lv_iload hx hb dX4_told_104 (lv_at hl 4 rfl) ?_
        refine lv_ton (n := (zbW (zDk B d (sN B)) (j_163 + 1))) (congrArg nI (by simp only [zbW]; first | rw [if_pos (by omega)] | rw [if_neg (by omega)])) ?_
        refine lv_istore (lv' := [(4, .int (nI (zbW (zDk B d (sN B)) (j_163 + 1)))), (0, .ref m0), (1, .int (nI d)), (2, .int (nI (nDk B d (sN B)))), (3, .int (nI (aDk B d (sN B)))), (5, .int (nI (j_163 + 2)))]) hx hb dX4_told_106 hl (by decide) rfl (fun ls hl => ?_)
        refine lv_iinc (v := nI (j_163 + 3)) (lv' := [(5, .int (nI (j_163 + 3))), (4, .int (nI (zbW (zDk B d (sN B)) (j_163 + 1)))), (0, .ref m0), (1, .int (nI d)), (2, .int (nI (nDk B d (sN B)))), (3, .int (nI (aDk B d (sN B))))]) hx hb dX4_told_108 hl (k := 5) rfl (ninc (b := 1) (by decide) (by omega)) (by decide) rfl (fun ls hl => ?_)
        refine lv_goto (tgt := 76) hx hb dX4_told_111 (by decide) ?_
        have hP : va_P G.1 CL [(za, .inl (G.2 0, 6, .inl (zDF B d (sN B))))] H := hP.sub [0] rfl
        have hD : va_D A [(za, .inl (G.2 0, 6, .inl (zDF B d (sN B))))] := hD.sub [0] (by decide) rfl
        have hl := lv_sub hl [2, 3, 4, 5, 1, 0] (l' := [(0, .ref m0), (1, .int (nI d)), (2, .int (nI (nDk B d (sN B)))), (3, .int (nI (aDk B d (sN B)))), (4, .int (nI (zbW (zDk B d (sN B)) (j_163 + 1)))), (5, .int (nI (j_163 + 3)))]) rfl
        exact W.widen (show 0 ≤ 0 from by first | exact Nat.le_refl _ | omega) (show 0 ≤ 0 from by first | exact Nat.le_refl _ | omega) (ih76 ((j_163 + 1)) H locs ls ⟨hP, hD, hS, hl, (show (j_163 + 1) ≤ 4 from by omega)⟩ (show 4 - (j_163 + 1) < 4 - j_163 from by omega))
      · refine lv_iload hx hb dX4_told_99 (lv_at hl 5 rfl) ?_
        refine lv_goto (tgt := 106) hx hb dX4_told_101 (by decide) ?_
        refine lv_ton (n := (zbW (zDk B d (sN B)) (j_163 + 1))) (congrArg nI (by simp only [zbW]; first | rw [if_pos (by omega)] | rw [if_neg (by omega)])) ?_
        refine lv_istore (lv' := [(4, .int (nI (zbW (zDk B d (sN B)) (j_163 + 1)))), (0, .ref m0), (1, .int (nI d)), (2, .int (nI (nDk B d (sN B)))), (3, .int (nI (aDk B d (sN B)))), (5, .int (nI (j_163 + 2)))]) hx hb dX4_told_106 hl (by decide) rfl (fun ls hl => ?_)
        refine lv_iinc (v := nI (j_163 + 3)) (lv' := [(5, .int (nI (j_163 + 3))), (4, .int (nI (zbW (zDk B d (sN B)) (j_163 + 1)))), (0, .ref m0), (1, .int (nI d)), (2, .int (nI (nDk B d (sN B)))), (3, .int (nI (aDk B d (sN B))))]) hx hb dX4_told_108 hl (k := 5) rfl (ninc (b := 1) (by decide) (by omega)) (by decide) rfl (fun ls hl => ?_)
        refine lv_goto (tgt := 76) hx hb dX4_told_111 (by decide) ?_
        have hP : va_P G.1 CL [(za, .inl (G.2 0, 6, .inl (zDF B d (sN B))))] H := hP.sub [0] rfl
        have hD : va_D A [(za, .inl (G.2 0, 6, .inl (zDF B d (sN B))))] := hD.sub [0] (by decide) rfl
        have hl := lv_sub hl [2, 3, 4, 5, 1, 0] (l' := [(0, .ref m0), (1, .int (nI d)), (2, .int (nI (nDk B d (sN B)))), (3, .int (nI (aDk B d (sN B)))), (4, .int (nI (zbW (zDk B d (sN B)) (j_163 + 1)))), (5, .int (nI (j_163 + 3)))]) rfl
        exact W.widen (show 0 ≤ 0 from by first | exact Nat.le_refl _ | omega) (show 0 ≤ 0 from by first | exact Nat.le_refl _ | omega) (ih76 ((j_163 + 1)) H locs ls ⟨hP, hD, hS, hl, (show (j_163 + 1) ≤ 4 from by omega)⟩ (show 4 - (j_163 + 1) < 4 - j_163 from by omega))
  · have hs9 := iv_ses hI (k := k_160) (by omega)
    obtain ⟨hs1, hs2, hs3, -⟩ := hs9
    refine lv_aload_n hx hb dX4_told_22 rfl (lv_at hl 0 rfl) ?_
    refine va_get hx hb hts in_X4 hown hK (hR0.w hS) 0 rfl rfl 0 (by decide) (hts _ q1596) (fun _ h => h) rfl dX4_told_23 ?_
    refine lv_aload_n hx hb dX4_told_26 rfl (lv_at hl 0 rfl) ?_
    refine lv_iload hx hb dX4_told_27 (lv_at hl 4 rfl) ?_
    have hF := hF_of (wc := []) hD hS hA [] rfl
    refine go_ct hS hP hD [] [0] hF rfl rfl (by decide) (by decide)
        (va_runV (As := [.int (nI k_160)]) (rest := [.ref sa]) cf (mX4_at l G m0 k_160  H.size) (cwV 1 hts (lw_V q1687 q1689 qs27 q58 q1690) rfl rfl rfl (by decide +kernel) ⟨Nat.le_of_ble_eq_true rfl, Nat.le_of_ble_eq_true rfl⟩) (preV_of hKB hE hS hF (va_recv hK (hR0.w hS) (ci := 6) (q0 := 0) rfl rfl) (va_P.sub hP [] rfl) ((va_D.sub hD [] (by decide) rfl).weaken (fun _ _ _ _ => trivial)) trivial) rfl rfl hl.1 rfl (lv_room (Nat.le_of_ble_eq_true rfl)) dX4_told_29 ⟨show 0 + 0 ≤ 0 from by first | decide | omega, show 0 + 0 ≤ 0 from by first | decide | omega⟩)
        (fun u_ H locs hq hph (hP : va_P G.1 CL [(za, .inl (G.2 0, 6, .inl (zDF B d k_160)))] H) (hD : va_D A [(za, .inl (G.2 0, 6, .inl (zDF B d k_160)))]) hS hfz hfk => ?_)
    refine W.eq (g2 := F0 m 32 ls [.int (nI (19 * k_160 + 70)), .ref sa]) rfl ?_
    refine lv_iconst (v := nI 1) hx hb dX4_told_32 (by decide) ?_
    refine lv_iadd hx hb dX4_told_33 ?_
    refine lv_ton (n := 19 * k_160 + 71) (nadd (by omega)) ?_
    refine r_iald (v := nI (sDay (sAt B k_160))) hx hb hK (hR0.w hS) 1 0 rfl rfl (i := 19 * k_160 + 71) (by omega) (by omega) (hM.sday (k := k_160) (by omega)) dX4_told_34 ?_
    refine lv_iload_n hx hb dX4_told_35 rfl (lv_at hl 1 rfl) ?_
    refine n_icmp_ne (tgt := 64) hx hb (by omega) (by omega) dX4_told_36 (by decide) (fun c_169 => ?_) (fun c_169 => ?_)
    · have hP : va_P G.1 CL [(za, .inl (G.2 0, 6, .inl (zDF B d (k_160 + 1))))] H := by rw [← zDF_no (B := B) (d := d) (k := k_160) (by omega)]; exact hP
      have hD : va_D A [(za, .inl (G.2 0, 6, .inl (zDF B d (k_160 + 1))))] := by rw [← zDF_no (B := B) (d := d) (k := k_160) (by omega)]; exact hD
      have hn8 : nDk B d (k_160 + 1) = (nDk B d k_160) := by unfold nDk; rw [psum_s, if_neg (by omega)] <;> omega
      have ha8 : aDk B d (k_160 + 1) = (aDk B d k_160) := by unfold aDk; rw [psum_s, if_neg (by omega)] <;> omega
      have hl : lv_has ls 6 [(0, .ref m0), (1, .int (nI d)), (2, .int (nI (nDk B d (k_160 + 1)))), (3, .int (nI (aDk B d (k_160 + 1)))), (4, .int (nI k_160))] := by rw [hn8, ha8]; exact hl
      refine lv_iinc (v := nI (k_160 + 1)) (lv' := [(4, .int (nI (k_160 + 1))), (0, .ref m0), (1, .int (nI d)), (2, .int (nI (nDk B d (k_160 + 1)))), (3, .int (nI (aDk B d (k_160 + 1))))]) hx hb dX4_told_64 hl (k := 4) rfl (ninc (b := 1) (by decide) (by omega)) (by decide) rfl (fun ls hl => ?_)
      refine lv_goto (tgt := 11) hx hb dX4_told_67 (by decide) ?_
      have hP : va_P G.1 CL [(za, .inl (G.2 0, 6, .inl (zDF B d (k_160 + 1))))] H := hP.sub [0] rfl
      have hD : va_D A [(za, .inl (G.2 0, 6, .inl (zDF B d (k_160 + 1))))] := hD.sub [0] (by decide) rfl
      have hl := lv_sub hl [1, 2, 3, 4, 0] (l' := [(0, .ref m0), (1, .int (nI d)), (2, .int (nI (nDk B d (k_160 + 1)))), (3, .int (nI (aDk B d (k_160 + 1)))), (4, .int (nI (k_160 + 1)))]) rfl
      exact W.widen (show 0 ≤ 0 from by first | exact Nat.le_refl _ | omega) (show 0 ≤ 0 from by first | exact Nat.le_refl _ | omega) (ih11 ((k_160 + 1)) H locs ls ⟨hP, hD, hS, hl, (show (k_160 + 1) ≤ sN B from by omega)⟩ (show sN B - (k_160 + 1) < sN B - k_160 from by omega))
    · refine lv_iinc (v := nI ((nDk B d k_160) + 1)) (lv' := [(2, .int (nI ((nDk B d k_160) + 1))), (0, .ref m0), (1, .int (nI d)), (3, .int (nI (aDk B d k_160))), (4, .int (nI k_160))]) hx hb dX4_told_39 hl (k := 2) rfl (ninc (b := 1) (by decide) (by omega)) (by decide) rfl (fun ls hl => ?_)
      refine lv_aload_n hx hb dX4_told_42 rfl (lv_at hl 1 rfl) ?_
      refine lv_iload hx hb dX4_told_43 (lv_at hl 4 rfl) ?_
      have hF := hF_of (wc := [(za, .inl (G.2 0, 6, .inl (zDF B d k_160)))]) hD hS hA [0] rfl
      have hro_170 : roW G (va_A [(za, .inl (G.2 0, 6, .inl (zDF B d k_160)))] H.size) H [(m0, .inr (6, [.ref sa, .ref oa, .ref pa, .ref la, .ref za, .ref na, .int gu, .int gt, .int gw, .int gd, .int gm, .int gr, .int gh, .int gv])), (sa, .inl (G.2 0, 830, .inl f))] := ((hR0.kp hF hS.2.1).sub (ws' := [(m0, .inr (6, [.ref sa, .ref oa, .ref pa, .ref la, .ref za, .ref na, .int gu, .int gt, .int gw, .int gd, .int gm, .int gr, .int gh, .int gv])), (sa, .inl (G.2 0, 830, .inl f))]) [0, 1] rfl)
      refine go_ct hS hP hD [0] [] hF rfl rfl (by decide) (by decide)
          (va_runV (As := [.int (nI k_160)]) (rest := []) cf (mX4_zones l G m0 sa oa pa la za na gu gt gw gd gm gr gh gv f B (zDF B d k_160) k_160 (show MR f B from by first | assumption | omega) (show Inv B from by first | assumption | omega) (show k_160 < sN B from by first | assumption | omega) H.size) (cwV 1 hts (lw_V q1683 q1685 qs26 q58 q1686) rfl rfl rfl (by decide +kernel) ⟨Nat.le_of_ble_eq_true rfl, Nat.le_of_ble_eq_true rfl⟩) (preV_of hKB hE hS hF (va_recv hK (hR0.w hS) (ci := 6) (q0 := 0) rfl rfl) (va_P.sub hP [0] rfl) ((va_D.sub hD [0] (by decide) rfl).weaken (fun _ _ _ _ => trivial)) hro_170) rfl rfl hl.1 rfl (lv_room (Nat.le_of_ble_eq_true rfl)) dX4_told_45 ⟨show 0 + 0 ≤ 0 from by first | decide | omega, show 0 + 0 ≤ 0 from by first | decide | omega⟩)
          (fun u_ H locs hq hph (hP : va_P G.1 CL [(za, .inl (G.2 0, 6, .inl (zAdd (zDF B d k_160) B (sAt B k_160) (nP (sAt B k_160)))))] H) (hD : va_D A [(za, .inl (G.2 0, 6, .inl (zAdd (zDF B d k_160) B (sAt B k_160) (nP (sAt B k_160)))))]) hS hfz hfk => ?_)
      refine W.eq (g2 := F0 m 48 ls []) rfl ?_
      refine lv_iload_n hx hb dX4_told_48 rfl (lv_at hl 3 rfl) ?_
      refine lv_aload_n hx hb dX4_told_49 rfl (lv_at hl 1 rfl) ?_
      refine va_get hx hb hts in_X4 hown hK (hR0.w hS) 0 rfl rfl 0 (by decide) (hts _ q1596) (fun _ h => h) rfl dX4_told_50 ?_
      refine lv_aload_n hx hb dX4_told_53 rfl (lv_at hl 1 rfl) ?_
      refine lv_iload hx hb dX4_told_54 (lv_at hl 4 rfl) ?_
      have hF := hF_of (wc := []) hD hS hA [] rfl
      refine go_ct hS hP hD [] [0] hF rfl rfl (by decide) (by decide)
          (va_runV (As := [.int (nI k_160)]) (rest := [.ref sa, .int (nI (aDk B d k_160))]) cf (mX4_at l G m0 k_160  H.size) (cwV 1 hts (lw_V q1687 q1689 qs27 q58 q1690) rfl rfl rfl (by decide +kernel) ⟨Nat.le_of_ble_eq_true rfl, Nat.le_of_ble_eq_true rfl⟩) (preV_of hKB hE hS hF (va_recv hK (hR0.w hS) (ci := 6) (q0 := 0) rfl rfl) (va_P.sub hP [] rfl) ((va_D.sub hD [] (by decide) rfl).weaken (fun _ _ _ _ => trivial)) trivial) rfl rfl hl.1 rfl (lv_room (Nat.le_of_ble_eq_true rfl)) dX4_told_56 ⟨show 0 + 0 ≤ 0 from by first | decide | omega, show 0 + 0 ≤ 0 from by first | decide | omega⟩)
          (fun u_ H locs hq hph (hP : va_P G.1 CL [(za, .inl (G.2 0, 6, .inl (zAdd (zDF B d k_160) B (sAt B k_160) (nP (sAt B k_160)))))] H) (hD : va_D A [(za, .inl (G.2 0, 6, .inl (zAdd (zDF B d k_160) B (sAt B k_160) (nP (sAt B k_160)))))]) hS hfz hfk => ?_)
      refine W.eq (g2 := F0 m 59 ls [.int (nI (19 * k_160 + 70)), .ref sa, .int (nI (aDk B d k_160))]) rfl ?_
      refine lv_iconst (v := nI 2) hx hb dX4_told_59 (by decide) ?_
      refine lv_iadd hx hb dX4_told_60 ?_
      refine lv_ton (n := 19 * k_160 + 72) (nadd (by omega)) ?_
      refine r_iald (v := nI (nP (sAt B k_160))) hx hb hK (hR0.w hS) 1 0 rfl rfl (i := 19 * k_160 + 72) (by omega) (by omega) (hM.snp (k := k_160) (by omega)) dX4_told_61 ?_
      refine lv_iadd hx hb dX4_told_62 ?_
      refine lv_ton (n := (aDk B d k_160) + (nP (sAt B k_160))) (nadd (by omega)) ?_
      refine lv_istore_n (lv' := [(3, .int (nI ((aDk B d k_160) + (nP (sAt B k_160))))), (2, .int (nI ((nDk B d k_160) + 1))), (0, .ref m0), (1, .int (nI d)), (4, .int (nI k_160))]) hx hb dX4_told_63 rfl hl (by decide) rfl (fun ls hl => ?_)
      have hP : va_P G.1 CL [(za, .inl (G.2 0, 6, .inl (zDF B d (k_160 + 1))))] H := by rw [← zDF_yes (B := B) (d := d) (k := k_160) (by omega)]; exact hP
      have hD : va_D A [(za, .inl (G.2 0, 6, .inl (zDF B d (k_160 + 1))))] := by rw [← zDF_yes (B := B) (d := d) (k := k_160) (by omega)]; exact hD
      have hn8 : nDk B d (k_160 + 1) = (nDk B d k_160) + 1 := by unfold nDk; rw [psum_s, if_pos (by omega)] <;> omega
      have ha8 : aDk B d (k_160 + 1) = (aDk B d k_160) + (nP (sAt B k_160)) := by unfold aDk; rw [psum_s, if_pos (by omega)] <;> omega
      have hl : lv_has ls 6 [(3, .int (nI (aDk B d (k_160 + 1)))), (2, .int (nI (nDk B d (k_160 + 1)))), (0, .ref m0), (1, .int (nI d)), (4, .int (nI k_160))] := by rw [hn8, ha8]; exact hl
      refine lv_iinc (v := nI (k_160 + 1)) (lv' := [(4, .int (nI (k_160 + 1))), (3, .int (nI (aDk B d (k_160 + 1)))), (2, .int (nI (nDk B d (k_160 + 1)))), (0, .ref m0), (1, .int (nI d))]) hx hb dX4_told_64 hl (k := 4) rfl (ninc (b := 1) (by decide) (by omega)) (by decide) rfl (fun ls hl => ?_)
      refine lv_goto (tgt := 11) hx hb dX4_told_67 (by decide) ?_
      have hP : va_P G.1 CL [(za, .inl (G.2 0, 6, .inl (zDF B d (k_160 + 1))))] H := hP.sub [0] rfl
      have hD : va_D A [(za, .inl (G.2 0, 6, .inl (zDF B d (k_160 + 1))))] := hD.sub [0] (by decide) rfl
      have hl := lv_sub hl [3, 4, 2, 1, 0] (l' := [(0, .ref m0), (1, .int (nI d)), (2, .int (nI (nDk B d (k_160 + 1)))), (3, .int (nI (aDk B d (k_160 + 1)))), (4, .int (nI (k_160 + 1)))]) rfl
      exact W.widen (show 0 ≤ 0 from by first | exact Nat.le_refl _ | omega) (show 0 ≤ 0 from by first | exact Nat.le_refl _ | omega) (ih11 ((k_160 + 1)) H locs ls ⟨hP, hD, hS, hl, (show (k_160 + 1) ≤ sN B from by omega)⟩ (show sN B - (k_160 + 1) < sN B - k_160 from by omega))
