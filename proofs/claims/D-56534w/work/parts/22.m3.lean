/-! the model: ranks, efforts -/
set_option maxRecDepth 100000
set_option maxHeartbeats 4000000 in
theorem mX4_ranked (l : Launch) (G : Gt) (m0 : Nat) (sa : Nat) (oa : Nat) (pa : Nat) (la : Nat) (za : Nat) (na : Nat) (gu : Int32) (gt : Int32) (gw : Int32) (gd : Int32) (gm : Int32) (gr : Int32) (gh : Int32) (gv : Int32) (f : Nat → Int32) (B : Bk) (pos : Nat) (hM : MR f B) (hI : Inv B) (hpos : pos ≤ 1000) : CT l G yX4_ranked cX4_ranked 7 (some .int) ({ frames := 2, cells := 0, slots := 0, locals := 33 } : Room) [.ref m0, .int (nI pos)] [] (fun (A : Nat → Prop) (H : Heap) => roW G A H [(m0, .inr (6, [.ref sa, .ref oa, .ref pa, .ref la, .ref za, .ref na, .int gu, .int gt, .int gw, .int gd, .int gm, .int gr, .int gh, .int gv])), (sa, .inl (G.2 0, 830, .inl f))]) (S := (Option Nat)) (fun (u_ : (Option Nat)) => some (.int (oI u_))) (fun (u_ : (Option Nat)) => PR B pos (sN B) u_) (fun (u_ : (Option Nat)) => []) (fun (u_ : (Option Nat)) (H : Heap) => True) := by
  refine CT.of (by decide) (Nat.le_of_ble_eq_true rfl) ?_
  intro p e s m below meth c ls A H locs h9 hH0 hP hS
  obtain ⟨cf, hr, hlk, hnm, hKB, hE, -, hD, -, hA, hAw, hR0, hl⟩ := h9
  have hx := cf.1
  have hb := cf.2.1
  have hml := cf.2.2.1
  have hown : s.vm.findClass RX4 = some m.cls := cf.2.2.2.1
  have hts := cf.2.2.2.2
  have hK := hKB.1
  have hl : lv_has ls 7 [(0, .ref m0), (1, .int (nI pos))] := hl
  have iN := iv_sN hI
  have iT := iv_tN hI
  have iD := iv_bD hI
  have iE := iv_bE hI
  have iW := iv_id hI
  refine lv_iconst (v := nI 0) hx hb dX4_ranked_0 (by decide) ?_
  refine lv_istore_n (lv' := [(2, .int (nI 0)), (0, .ref m0), (1, .int (nI pos))]) hx hb dX4_ranked_1 rfl hl (by decide) rfl (fun ls hl => ?_)
  have hl := lv_sub hl [1, 2, 0] (l' := [(0, .ref m0), (1, .int (nI pos)), (2, .int (nI 0))]) rfl
  refine lp_W (σ := Nat) (hpc := 2) (fun x => sN B - x) (fun x => 0) (fun x => 0) (fun x H locs ls => va_P G.1 CL [] H ∧ va_D A [] ∧ va_S A s.heap H locs ∧ lv_has ls 7 [(0, .ref m0), (1, .int (nI pos)), (2, .int (nI x))] ∧ (x ≤ sN B) ∧ (∀ q, q < x → rk B q (sN B) ≠ pos)) ?_ (0) ⟨(show va_P G.1 CL [] H from hP), (show va_D A [] from hD), hS, hl, (show 0 ≤ sN B from by omega), (show ∀ q, q < 0 → rk B q (sN B) ≠ pos from fun q hq => absurd hq (by omega))⟩ (show 0 ≤ 0 from by first | exact Nat.le_refl _ | omega) (show 0 ≤ 0 from by first | exact Nat.le_refl _ | omega)
  intro x H locs ls hI9 ih2
  obtain ⟨k_92, rfl⟩ : ∃ z, z = x := ⟨_, rfl⟩
  obtain ⟨hP, hD, hS, hl, hp_90, hp_91⟩ := hI9
  have hP : va_P G.1 CL [] H := hP
  have hD : va_D A [] := hD
  have hl : lv_has ls 7 [(0, .ref m0), (1, .int (nI pos)), (2, .int (nI k_92))] := hl
  have hp_90 : k_92 ≤ sN B := hp_90
  have hp_91 : ∀ q, q < k_92 → rk B q (sN B) ≠ pos := hp_91
  refine lv_iload_n hx hb dX4_ranked_2 rfl (lv_at hl 2 rfl) ?_
  refine lv_aload_n hx hb dX4_ranked_3 rfl (lv_at hl 0 rfl) ?_
  refine va_get hx hb hts in_X4 hown hK (hR0.w hS) 0 rfl rfl 0 (by decide) (hts _ q1596) (fun _ h => h) rfl dX4_ranked_4 ?_
  refine lv_iconst (v := nI 2) hx hb dX4_ranked_7 (by decide) ?_
  refine r_iald (v := nI (sN B)) hx hb hK (hR0.w hS) 1 0 rfl rfl (i := 2) (by omega) (by omega) (hM.many) dX4_ranked_8 ?_
  refine n_icmp_ge (tgt := 122) hx hb (by omega) (by omega) dX4_ranked_9 (by decide) (fun c_93 => ?_) (fun c_93 => ?_)
  · refine lv_iconst (v := (-1)) hx hb dX4_ranked_122 (by decide) ?_
    have hP9 : va_P G.1 CL [] H := hP.sub [] rfl
    have hD9 : va_D A [] := hD.sub [] (by decide) rfl
    exact end_i hx hb hr hlk (rfl) (qc_of none (v := some (.int (-1))) (by rfl) (fun q hq => hp_91 q (by omega)) hP9 hD9 (trivial) hS) hS dX4_ranked_123 (show 0 ≤ 0 from by first | exact Nat.le_refl _ | decide | omega) (show 0 ≤ 0 from by first | exact Nat.le_refl _ | decide | omega)
  · refine lv_iconst (v := nI 0) hx hb dX4_ranked_12 (by decide) ?_
    refine lv_istore_n (lv' := [(3, .int (nI 0)), (0, .ref m0), (1, .int (nI pos)), (2, .int (nI k_92))]) hx hb dX4_ranked_13 rfl hl (by decide) rfl (fun ls hl => ?_)
    refine lv_iconst (v := nI 0) hx hb dX4_ranked_14 (by decide) ?_
    refine lv_istore (lv' := [(4, .int (nI 0)), (3, .int (nI 0)), (0, .ref m0), (1, .int (nI pos)), (2, .int (nI k_92))]) hx hb dX4_ranked_15 hl (by decide) rfl (fun ls hl => ?_)
    have hl := lv_sub hl [2, 3, 4, 1, 0] (l' := [(0, .ref m0), (1, .int (nI pos)), (2, .int (nI k_92)), (3, .int (nI (rk B k_92 0))), (4, .int (nI 0))]) rfl
    refine lp_W (σ := Nat) (hpc := 17) (fun x => sN B - x) (fun x => 0) (fun x => 0) (fun x H locs ls => va_P G.1 CL [] H ∧ va_D A [] ∧ va_S A s.heap H locs ∧ lv_has ls 7 [(0, .ref m0), (1, .int (nI pos)), (2, .int (nI k_92)), (3, .int (nI (rk B k_92 x))), (4, .int (nI x))] ∧ (x ≤ sN B)) ?_ (0) ⟨(show va_P G.1 CL [] H from hP), (show va_D A [] from hD), hS, hl, (show 0 ≤ sN B from by omega)⟩ (show 0 ≤ 0 from by first | exact Nat.le_refl _ | omega) (show 0 ≤ 0 from by first | exact Nat.le_refl _ | omega)
    intro x H locs ls hI9 ih17
    obtain ⟨j_95, rfl⟩ : ∃ z, z = x := ⟨_, rfl⟩
    obtain ⟨hP, hD, hS, hl, hp_94⟩ := hI9
    have hP : va_P G.1 CL [] H := hP
    have hD : va_D A [] := hD
    have hl : lv_has ls 7 [(0, .ref m0), (1, .int (nI pos)), (2, .int (nI k_92)), (3, .int (nI (rk B k_92 j_95))), (4, .int (nI j_95))] := hl
    have hp_94 : j_95 ≤ sN B := hp_94
    have hr9 := rk_le B k_92 j_95
    refine lv_iload hx hb dX4_ranked_17 (lv_at hl 4 rfl) ?_
    refine lv_aload_n hx hb dX4_ranked_19 rfl (lv_at hl 0 rfl) ?_
    refine va_get hx hb hts in_X4 hown hK (hR0.w hS) 0 rfl rfl 0 (by decide) (hts _ q1596) (fun _ h => h) rfl dX4_ranked_20 ?_
    refine lv_iconst (v := nI 2) hx hb dX4_ranked_23 (by decide) ?_
    refine r_iald (v := nI (sN B)) hx hb hK (hR0.w hS) 1 0 rfl rfl (i := 2) (by omega) (by omega) (hM.many) dX4_ranked_24 ?_
    refine n_icmp_ge (tgt := 109) hx hb (by omega) (by omega) dX4_ranked_25 (by decide) (fun c_96 => ?_) (fun c_96 => ?_)
    · have hl : lv_has ls 7 [(0, .ref m0), (1, .int (nI pos)), (2, .int (nI k_92)), (3, .int (nI (rk B k_92 (sN B)))), (4, .int (nI j_95))] := by
        have e9 : ((.int (nI (rk B k_92 (sN B)))) : Value) = .int (nI (rk B k_92 j_95)) := by rw [show j_95 = sN B from by omega]
        rw [e9]; exact hl
      have hr8 := rk_le B k_92 (sN B)
      refine lv_iload_n hx hb dX4_ranked_109 rfl (lv_at hl 3 rfl) ?_
      refine lv_iload_n hx hb dX4_ranked_110 rfl (lv_at hl 1 rfl) ?_
      refine n_icmp_ne (tgt := 116) hx hb (by omega) (by omega) dX4_ranked_111 (by decide) (fun c_97 => ?_) (fun c_97 => ?_)
      · refine lv_iinc (v := nI (k_92 + 1)) (lv' := [(2, .int (nI (k_92 + 1))), (0, .ref m0), (1, .int (nI pos)), (3, .int (nI (rk B k_92 (sN B)))), (4, .int (nI j_95))]) hx hb dX4_ranked_116 hl (k := 2) rfl (ninc (b := 1) (by decide) (by omega)) (by decide) rfl (fun ls hl => ?_)
        refine lv_goto (tgt := 2) hx hb dX4_ranked_119 (by decide) ?_
        have hP : va_P G.1 CL [] H := hP.sub [] rfl
        have hD : va_D A [] := hD.sub [] (by decide) rfl
        have hl := lv_sub hl [1, 2, 0] (l' := [(0, .ref m0), (1, .int (nI pos)), (2, .int (nI (k_92 + 1)))]) rfl
        exact W.widen (show 0 ≤ 0 from by first | exact Nat.le_refl _ | omega) (show 0 ≤ 0 from by first | exact Nat.le_refl _ | omega) (ih2 ((k_92 + 1)) H locs ls ⟨hP, hD, hS, hl, (show (k_92 + 1) ≤ sN B from by omega), (show ∀ q, q < (k_92 + 1) → rk B q (sN B) ≠ pos from fun q hq => by rcases Nat.lt_succ_iff_lt_or_eq.mp hq with z | z; exact hp_91 q z; rw [z]; assumption)⟩ (show sN B - (k_92 + 1) < sN B - k_92 from by omega))
      · refine lv_iload_n hx hb dX4_ranked_114 rfl (lv_at hl 2 rfl) ?_
        have hP9 : va_P G.1 CL [] H := hP.sub [] rfl
        have hD9 : va_D A [] := hD.sub [] (by decide) rfl
        exact end_i hx hb hr hlk (rfl) (qc_of (some k_92) (v := some (.int (nI k_92))) (by rfl) (⟨by omega, by assumption⟩) hP9 hD9 (trivial) hS) hS dX4_ranked_115 (show 0 ≤ 0 from by first | exact Nat.le_refl _ | decide | omega) (show 0 ≤ 0 from by first | exact Nat.le_refl _ | decide | omega)
    · have hs9 := iv_ses hI (k := j_95) (by omega)
      have hs8 := iv_ses hI (k := k_92) (by omega)
      obtain ⟨hs91, hs92, -⟩ := hs9
      obtain ⟨hs81, hs82, -⟩ := hs8
      refine lv_aload_n hx hb dX4_ranked_28 rfl (lv_at hl 0 rfl) ?_
      refine va_get hx hb hts in_X4 hown hK (hR0.w hS) 0 rfl rfl 0 (by decide) (hts _ q1596) (fun _ h => h) rfl dX4_ranked_29 ?_
      refine lv_aload_n hx hb dX4_ranked_32 rfl (lv_at hl 0 rfl) ?_
      refine lv_iload hx hb dX4_ranked_33 (lv_at hl 4 rfl) ?_
      have hF := hF_of (wc := []) hD hS hA [] rfl
      refine go_ct hS hP hD [] [] hF rfl rfl (by decide) (by decide)
          (va_runV (As := [.int (nI j_95)]) (rest := [.ref sa]) cf (mX4_at l G m0 j_95  H.size) (cwV 1 hts (lw_V q1687 q1689 qs27 q58 q1690) rfl rfl rfl (by decide +kernel) ⟨Nat.le_of_ble_eq_true rfl, Nat.le_of_ble_eq_true rfl⟩) (preV_of hKB hE hS hF (va_recv hK (hR0.w hS) (ci := 6) (q0 := 0) rfl rfl) (va_P.sub hP [] rfl) ((va_D.sub hD [] (by decide) rfl).weaken (fun _ _ _ _ => trivial)) trivial) rfl rfl hl.1 rfl (lv_room (Nat.le_of_ble_eq_true rfl)) dX4_ranked_35 ⟨show 0 + 0 ≤ 0 from by first | decide | omega, show 0 + 0 ≤ 0 from by first | decide | omega⟩)
          (fun u_ H locs hq hph (hP : va_P G.1 CL [] H) (hD : va_D A []) hS hfz hfk => ?_)
      refine W.eq (g2 := F0 m 38 ls [.int (nI (19 * j_95 + 70)), .ref sa]) rfl ?_
      refine lv_iconst (v := nI 1) hx hb dX4_ranked_38 (by decide) ?_
      refine lv_iadd hx hb dX4_ranked_39 ?_
      refine lv_ton (n := 19 * j_95 + 71) (nadd (by omega)) ?_
      refine r_iald (v := nI (sDay (sAt B j_95))) hx hb hK (hR0.w hS) 1 0 rfl rfl (i := 19 * j_95 + 71) (by omega) (by omega) (hM.sday (k := j_95) (by omega)) dX4_ranked_40 ?_
      refine lv_istore (lv' := [(5, .int (nI (sDay (sAt B j_95)))), (0, .ref m0), (1, .int (nI pos)), (2, .int (nI k_92)), (3, .int (nI (rk B k_92 j_95))), (4, .int (nI j_95))]) hx hb dX4_ranked_41 hl (by decide) rfl (fun ls hl => ?_)
      refine lv_aload_n hx hb dX4_ranked_43 rfl (lv_at hl 1 rfl) ?_
      refine va_get hx hb hts in_X4 hown hK (hR0.w hS) 0 rfl rfl 0 (by decide) (hts _ q1596) (fun _ h => h) rfl dX4_ranked_44 ?_
      refine lv_aload_n hx hb dX4_ranked_47 rfl (lv_at hl 1 rfl) ?_
      refine lv_iload_n hx hb dX4_ranked_48 rfl (lv_at hl 3 rfl) ?_
      have hF := hF_of (wc := []) hD hS hA [] rfl
      refine go_ct hS hP hD [] [] hF rfl rfl (by decide) (by decide)
          (va_runV (As := [.int (nI k_92)]) (rest := [.ref sa]) cf (mX4_at l G m0 k_92  H.size) (cwV 1 hts (lw_V q1687 q1689 qs27 q58 q1690) rfl rfl rfl (by decide +kernel) ⟨Nat.le_of_ble_eq_true rfl, Nat.le_of_ble_eq_true rfl⟩) (preV_of hKB hE hS hF (va_recv hK (hR0.w hS) (ci := 6) (q0 := 0) rfl rfl) (va_P.sub hP [] rfl) ((va_D.sub hD [] (by decide) rfl).weaken (fun _ _ _ _ => trivial)) trivial) rfl rfl hl.1 rfl (lv_room (Nat.le_of_ble_eq_true rfl)) dX4_ranked_49 ⟨show 0 + 0 ≤ 0 from by first | decide | omega, show 0 + 0 ≤ 0 from by first | decide | omega⟩)
          (fun u_ H locs hq hph (hP : va_P G.1 CL [] H) (hD : va_D A []) hS hfz hfk => ?_)
      refine W.eq (g2 := F0 m 52 ls [.int (nI (19 * k_92 + 70)), .ref sa]) rfl ?_
      refine lv_iconst (v := nI 1) hx hb dX4_ranked_52 (by decide) ?_
      refine lv_iadd hx hb dX4_ranked_53 ?_
      refine lv_ton (n := 19 * k_92 + 71) (nadd (by omega)) ?_
      refine r_iald (v := nI (sDay (sAt B k_92))) hx hb hK (hR0.w hS) 1 0 rfl rfl (i := 19 * k_92 + 71) (by omega) (by omega) (hM.sday (k := k_92) (by omega)) dX4_ranked_54 ?_
      refine lv_istore (lv' := [(6, .int (nI (sDay (sAt B k_92)))), (5, .int (nI (sDay (sAt B j_95)))), (0, .ref m0), (1, .int (nI pos)), (2, .int (nI k_92)), (3, .int (nI (rk B k_92 j_95))), (4, .int (nI j_95))]) hx hb dX4_ranked_55 hl (by decide) rfl (fun ls hl => ?_)
      refine lv_iload_n hx hb dX4_ranked_57 rfl (lv_at hl 5 rfl) ?_
      refine lv_iload hx hb dX4_ranked_58 (lv_at hl 1 rfl) ?_
      refine lv_iload hx hb dX4_ranked_60 (lv_at hl 0 rfl) ?_
      refine n_icmp_lt (tgt := 96) hx hb (by omega) (by omega) dX4_ranked_62 (by decide) (fun c_98 => ?_) (fun c_98 => ?_)
      · refine lv_iconst (v := nI 1) hx hb dX4_ranked_96 (by decide) ?_
        refine lv_goto (tgt := 101) hx hb dX4_ranked_97 (by decide) ?_
        refine lv_iadd hx hb dX4_ranked_101 ?_
        refine lv_ton (n := (rk B k_92 j_95) + 1) (nadd (by omega)) ?_
        refine lv_ton (n := (rk B k_92 (j_95 + 1))) (congrArg nI (rk_yes (B := B) (k := k_92) (j := j_95) (by omega)).symm) ?_
        refine lv_istore_n (lv' := [(3, .int (nI (rk B k_92 (j_95 + 1)))), (6, .int (nI (sDay (sAt B k_92)))), (5, .int (nI (sDay (sAt B j_95)))), (0, .ref m0), (1, .int (nI pos)), (2, .int (nI k_92)), (4, .int (nI j_95))]) hx hb dX4_ranked_102 rfl hl (by decide) rfl (fun ls hl => ?_)
        refine lv_iinc (v := nI (j_95 + 1)) (lv' := [(4, .int (nI (j_95 + 1))), (3, .int (nI (rk B k_92 (j_95 + 1)))), (6, .int (nI (sDay (sAt B k_92)))), (5, .int (nI (sDay (sAt B j_95)))), (0, .ref m0), (1, .int (nI pos)), (2, .int (nI k_92))]) hx hb dX4_ranked_103 hl (k := 6) rfl (ninc (b := 1) (by decide) (by omega)) (by decide) rfl (fun ls hl => ?_)
        refine lv_goto (tgt := 17) hx hb dX4_ranked_106 (by decide) ?_
        have hP : va_P G.1 CL [] H := hP.sub [] rfl
        have hD : va_D A [] := hD.sub [] (by decide) rfl
        have hl := lv_sub hl [4, 5, 6, 1, 0] (l' := [(0, .ref m0), (1, .int (nI pos)), (2, .int (nI k_92)), (3, .int (nI (rk B k_92 (j_95 + 1)))), (4, .int (nI (j_95 + 1)))]) rfl
        exact W.widen (show 0 ≤ 0 from by first | exact Nat.le_refl _ | omega) (show 0 ≤ 0 from by first | exact Nat.le_refl _ | omega) (ih17 ((j_95 + 1)) H locs ls ⟨hP, hD, hS, hl, (show (j_95 + 1) ≤ sN B from by omega)⟩ (show sN B - (j_95 + 1) < sN B - j_95 from by omega))
      · refine lv_iload hx hb dX4_ranked_65 (lv_at hl 1 rfl) ?_
        refine lv_iload hx hb dX4_ranked_67 (lv_at hl 0 rfl) ?_
        refine n_icmp_ne (tgt := 100) hx hb (by omega) (by omega) dX4_ranked_69 (by decide) (fun c_99 => ?_) (fun c_99 => ?_)
        · refine lv_iconst (v := nI 0) hx hb dX4_ranked_100 (by decide) ?_
          refine lv_iadd hx hb dX4_ranked_101 ?_
          refine lv_ton (n := (rk B k_92 j_95)) (nadd (by omega)) ?_
          refine lv_ton (n := (rk B k_92 (j_95 + 1))) (congrArg nI (rk_no (B := B) (k := k_92) (j := j_95) (by omega)).symm) ?_
          refine lv_istore_n (lv' := [(3, .int (nI (rk B k_92 (j_95 + 1)))), (6, .int (nI (sDay (sAt B k_92)))), (5, .int (nI (sDay (sAt B j_95)))), (0, .ref m0), (1, .int (nI pos)), (2, .int (nI k_92)), (4, .int (nI j_95))]) hx hb dX4_ranked_102 rfl hl (by decide) rfl (fun ls hl => ?_)
          refine lv_iinc (v := nI (j_95 + 1)) (lv' := [(4, .int (nI (j_95 + 1))), (3, .int (nI (rk B k_92 (j_95 + 1)))), (6, .int (nI (sDay (sAt B k_92)))), (5, .int (nI (sDay (sAt B j_95)))), (0, .ref m0), (1, .int (nI pos)), (2, .int (nI k_92))]) hx hb dX4_ranked_103 hl (k := 6) rfl (ninc (b := 1) (by decide) (by omega)) (by decide) rfl (fun ls hl => ?_)
          refine lv_goto (tgt := 17) hx hb dX4_ranked_106 (by decide) ?_
          have hP : va_P G.1 CL [] H := hP.sub [] rfl
          have hD : va_D A [] := hD.sub [] (by decide) rfl
          have hl := lv_sub hl [4, 5, 6, 1, 0] (l' := [(0, .ref m0), (1, .int (nI pos)), (2, .int (nI k_92)), (3, .int (nI (rk B k_92 (j_95 + 1)))), (4, .int (nI (j_95 + 1)))]) rfl
          exact W.widen (show 0 ≤ 0 from by first | exact Nat.le_refl _ | omega) (show 0 ≤ 0 from by first | exact Nat.le_refl _ | omega) (ih17 ((j_95 + 1)) H locs ls ⟨hP, hD, hS, hl, (show (j_95 + 1) ≤ sN B from by omega)⟩ (show sN B - (j_95 + 1) < sN B - j_95 from by omega))
        · refine lv_aload_n hx hb dX4_ranked_72 rfl (lv_at hl 2 rfl) ?_
          refine va_get hx hb hts in_X4 hown hK (hR0.w hS) 0 rfl rfl 0 (by decide) (hts _ q1596) (fun _ h => h) rfl dX4_ranked_73 ?_
          refine lv_aload_n hx hb dX4_ranked_76 rfl (lv_at hl 2 rfl) ?_
          refine lv_iload hx hb dX4_ranked_77 (lv_at hl 6 rfl) ?_
          have hF := hF_of (wc := []) hD hS hA [] rfl
          refine go_ct hS hP hD [] [] hF rfl rfl (by decide) (by decide)
              (va_runV (As := [.int (nI j_95)]) (rest := [.ref sa, .int (nI (rk B k_92 j_95))]) cf (mX4_at l G m0 j_95  H.size) (cwV 1 hts (lw_V q1687 q1689 qs27 q58 q1690) rfl rfl rfl (by decide +kernel) ⟨Nat.le_of_ble_eq_true rfl, Nat.le_of_ble_eq_true rfl⟩) (preV_of hKB hE hS hF (va_recv hK (hR0.w hS) (ci := 6) (q0 := 0) rfl rfl) (va_P.sub hP [] rfl) ((va_D.sub hD [] (by decide) rfl).weaken (fun _ _ _ _ => trivial)) trivial) rfl rfl hl.1 rfl (lv_room (Nat.le_of_ble_eq_true rfl)) dX4_ranked_79 ⟨show 0 + 0 ≤ 0 from by first | decide | omega, show 0 + 0 ≤ 0 from by first | decide | omega⟩)
              (fun u_ H locs hq hph (hP : va_P G.1 CL [] H) (hD : va_D A []) hS hfz hfk => ?_)
          refine W.eq (g2 := F0 m 82 ls [.int (nI (19 * j_95 + 70)), .ref sa, .int (nI (rk B k_92 j_95))]) rfl ?_
          refine r_iald (v := nI (sId (sAt B j_95))) hx hb hK (hR0.w hS) 1 0 rfl rfl (i := 19 * j_95 + 70) (by omega) (by omega) (hM.sid (k := j_95) (by omega)) dX4_ranked_82 ?_
          refine lv_aload_n hx hb dX4_ranked_83 rfl (lv_at hl 2 rfl) ?_
          refine va_get hx hb hts in_X4 hown hK (hR0.w hS) 0 rfl rfl 0 (by decide) (hts _ q1596) (fun _ h => h) rfl dX4_ranked_84 ?_
          refine lv_aload_n hx hb dX4_ranked_87 rfl (lv_at hl 2 rfl) ?_
          refine lv_iload_n hx hb dX4_ranked_88 rfl (lv_at hl 4 rfl) ?_
          have hF := hF_of (wc := []) hD hS hA [] rfl
          refine go_ct hS hP hD [] [] hF rfl rfl (by decide) (by decide)
              (va_runV (As := [.int (nI k_92)]) (rest := [.ref sa, .int (nI (sId (sAt B j_95))), .int (nI (rk B k_92 j_95))]) cf (mX4_at l G m0 k_92  H.size) (cwV 1 hts (lw_V q1687 q1689 qs27 q58 q1690) rfl rfl rfl (by decide +kernel) ⟨Nat.le_of_ble_eq_true rfl, Nat.le_of_ble_eq_true rfl⟩) (preV_of hKB hE hS hF (va_recv hK (hR0.w hS) (ci := 6) (q0 := 0) rfl rfl) (va_P.sub hP [] rfl) ((va_D.sub hD [] (by decide) rfl).weaken (fun _ _ _ _ => trivial)) trivial) rfl rfl hl.1 rfl (lv_room (Nat.le_of_ble_eq_true rfl)) dX4_ranked_89 ⟨show 0 + 0 ≤ 0 from by first | decide | omega, show 0 + 0 ≤ 0 from by first | decide | omega⟩)
              (fun u_ H locs hq hph (hP : va_P G.1 CL [] H) (hD : va_D A []) hS hfz hfk => ?_)
          refine W.eq (g2 := F0 m 92 ls [.int (nI (19 * k_92 + 70)), .ref sa, .int (nI (sId (sAt B j_95))), .int (nI (rk B k_92 j_95))]) rfl ?_
          refine r_iald (v := nI (sId (sAt B k_92))) hx hb hK (hR0.w hS) 1 0 rfl rfl (i := 19 * k_92 + 70) (by omega) (by omega) (hM.sid (k := k_92) (by omega)) dX4_ranked_92 ?_
          refine n_icmp_ge (tgt := 100) hx hb (by omega) (by omega) dX4_ranked_93 (by decide) (fun c_100 => ?_) (fun c_100 => ?_)
          · refine lv_iconst (v := nI 0) hx hb dX4_ranked_100 (by decide) ?_
            refine lv_iadd hx hb dX4_ranked_101 ?_
            refine lv_ton (n := (rk B k_92 j_95)) (nadd (by omega)) ?_
            refine lv_ton (n := (rk B k_92 (j_95 + 1))) (congrArg nI (rk_no (B := B) (k := k_92) (j := j_95) (by omega)).symm) ?_
            refine lv_istore_n (lv' := [(3, .int (nI (rk B k_92 (j_95 + 1)))), (6, .int (nI (sDay (sAt B k_92)))), (5, .int (nI (sDay (sAt B j_95)))), (0, .ref m0), (1, .int (nI pos)), (2, .int (nI k_92)), (4, .int (nI j_95))]) hx hb dX4_ranked_102 rfl hl (by decide) rfl (fun ls hl => ?_)
            refine lv_iinc (v := nI (j_95 + 1)) (lv' := [(4, .int (nI (j_95 + 1))), (3, .int (nI (rk B k_92 (j_95 + 1)))), (6, .int (nI (sDay (sAt B k_92)))), (5, .int (nI (sDay (sAt B j_95)))), (0, .ref m0), (1, .int (nI pos)), (2, .int (nI k_92))]) hx hb dX4_ranked_103 hl (k := 6) rfl (ninc (b := 1) (by decide) (by omega)) (by decide) rfl (fun ls hl => ?_)
            refine lv_goto (tgt := 17) hx hb dX4_ranked_106 (by decide) ?_
            have hP : va_P G.1 CL [] H := hP.sub [] rfl
            have hD : va_D A [] := hD.sub [] (by decide) rfl
            have hl := lv_sub hl [4, 5, 6, 1, 0] (l' := [(0, .ref m0), (1, .int (nI pos)), (2, .int (nI k_92)), (3, .int (nI (rk B k_92 (j_95 + 1)))), (4, .int (nI (j_95 + 1)))]) rfl
            exact W.widen (show 0 ≤ 0 from by first | exact Nat.le_refl _ | omega) (show 0 ≤ 0 from by first | exact Nat.le_refl _ | omega) (ih17 ((j_95 + 1)) H locs ls ⟨hP, hD, hS, hl, (show (j_95 + 1) ≤ sN B from by omega)⟩ (show sN B - (j_95 + 1) < sN B - j_95 from by omega))
          · refine lv_iconst (v := nI 1) hx hb dX4_ranked_96 (by decide) ?_
            refine lv_goto (tgt := 101) hx hb dX4_ranked_97 (by decide) ?_
            refine lv_iadd hx hb dX4_ranked_101 ?_
            refine lv_ton (n := (rk B k_92 j_95) + 1) (nadd (by omega)) ?_
            refine lv_ton (n := (rk B k_92 (j_95 + 1))) (congrArg nI (rk_yes (B := B) (k := k_92) (j := j_95) (by omega)).symm) ?_
            refine lv_istore_n (lv' := [(3, .int (nI (rk B k_92 (j_95 + 1)))), (6, .int (nI (sDay (sAt B k_92)))), (5, .int (nI (sDay (sAt B j_95)))), (0, .ref m0), (1, .int (nI pos)), (2, .int (nI k_92)), (4, .int (nI j_95))]) hx hb dX4_ranked_102 rfl hl (by decide) rfl (fun ls hl => ?_)
            refine lv_iinc (v := nI (j_95 + 1)) (lv' := [(4, .int (nI (j_95 + 1))), (3, .int (nI (rk B k_92 (j_95 + 1)))), (6, .int (nI (sDay (sAt B k_92)))), (5, .int (nI (sDay (sAt B j_95)))), (0, .ref m0), (1, .int (nI pos)), (2, .int (nI k_92))]) hx hb dX4_ranked_103 hl (k := 6) rfl (ninc (b := 1) (by decide) (by omega)) (by decide) rfl (fun ls hl => ?_)
            refine lv_goto (tgt := 17) hx hb dX4_ranked_106 (by decide) ?_
            have hP : va_P G.1 CL [] H := hP.sub [] rfl
            have hD : va_D A [] := hD.sub [] (by decide) rfl
            have hl := lv_sub hl [4, 5, 6, 1, 0] (l' := [(0, .ref m0), (1, .int (nI pos)), (2, .int (nI k_92)), (3, .int (nI (rk B k_92 (j_95 + 1)))), (4, .int (nI (j_95 + 1)))]) rfl
            exact W.widen (show 0 ≤ 0 from by first | exact Nat.le_refl _ | omega) (show 0 ≤ 0 from by first | exact Nat.le_refl _ | omega) (ih17 ((j_95 + 1)) H locs ls ⟨hP, hD, hS, hl, (show (j_95 + 1) ≤ sN B from by omega)⟩ (show sN B - (j_95 + 1) < sN B - j_95 from by omega))

set_option maxHeartbeats 4000000 in
theorem mX4_intensity (l : Launch) (G : Gt) (m0 : Nat) (sa : Nat) (oa : Nat) (pa : Nat) (la : Nat) (za : Nat) (na : Nat) (gu : Int32) (gt : Int32) (gw : Int32) (gd : Int32) (gm : Int32) (gr : Int32) (gh : Int32) (gv : Int32) (f : Nat → Int32) (B : Bk) (k : Nat) (mn : Nat) (hM : MR f B) (hI : Inv B) (hk : k < sN B) (hmn : mn < minOf (sAt B k)) : CT l G yX4_intensity cX4_intensity 5 (some .int) ({ frames := 2, cells := 0, slots := 0, locals := 33 } : Room) [.ref m0, .int (nI k), .int (nI mn)] [] (fun (A : Nat → Prop) (H : Heap) => roW G A H [(m0, .inr (6, [.ref sa, .ref oa, .ref pa, .ref la, .ref za, .ref na, .int gu, .int gt, .int gw, .int gd, .int gm, .int gr, .int gh, .int gv])), (sa, .inl (G.2 0, 830, .inl f))]) (S := Unit) (fun (u_ : Unit) => some (.int (nI (iAt (sAt B k) mn)))) (fun (u_ : Unit) => True) (fun (u_ : Unit) => []) (fun (u_ : Unit) (H : Heap) => True) := by
  refine CT.of (by decide) (Nat.le_of_ble_eq_true rfl) ?_
  intro p e s m below meth c ls A H locs h9 hH0 hP hS
  obtain ⟨cf, hr, hlk, hnm, hKB, hE, -, hD, -, hA, hAw, hR0, hl⟩ := h9
  have hx := cf.1
  have hb := cf.2.1
  have hml := cf.2.2.1
  have hown : s.vm.findClass RX4 = some m.cls := cf.2.2.2.1
  have hts := cf.2.2.2.2
  have hK := hKB.1
  have hl : lv_has ls 5 [(0, .ref m0), (1, .int (nI k)), (2, .int (nI mn))] := hl
  have iN := iv_sN hI
  have iT := iv_tN hI
  have iD := iv_bD hI
  have iE := iv_bE hI
  have iW := iv_id hI
  obtain ⟨iS1, iS2, iS3, iS4, iS5⟩ := iv_ses hI hk
  refine lv_iload_n hx hb dX4_intensity_0 rfl (lv_at hl 2 rfl) ?_
  refine lv_istore_n (lv' := [(3, .int (nI mn)), (0, .ref m0), (1, .int (nI k)), (2, .int (nI mn))]) hx hb dX4_intensity_1 rfl hl (by decide) rfl (fun ls hl => ?_)
  refine lv_iconst (v := nI 0) hx hb dX4_intensity_2 (by decide) ?_
  refine lv_istore (lv' := [(4, .int (nI 0)), (3, .int (nI mn)), (0, .ref m0), (1, .int (nI k)), (2, .int (nI mn))]) hx hb dX4_intensity_3 hl (by decide) rfl (fun ls hl => ?_)
  have hl := lv_sub hl [2, 3, 4, 1, 0] (l' := [(0, .ref m0), (1, .int (nI k)), (2, .int (nI mn)), (3, .int (nI mn)), (4, .int (nI 0))]) rfl
  refine lp_W (σ := Nat × Nat) (hpc := 5) (fun x => nP (sAt B k) - x.1) (fun x => 0) (fun x => 0) (fun x H locs ls => va_P G.1 CL [] H ∧ va_D A [] ∧ va_S A s.heap H locs ∧ lv_has ls 5 [(0, .ref m0), (1, .int (nI k)), (2, .int (nI mn)), (3, .int (nI x.2)), (4, .int (nI x.1))] ∧ (x.1 ≤ nP (sAt B k)) ∧ (x.2 + psum (pMin (sAt B k)) x.1 = mn)) ?_ (0, mn) ⟨(show va_P G.1 CL [] H from hP), (show va_D A [] from hD), hS, hl, (show 0 ≤ nP (sAt B k) from by omega), (show mn + psum (pMin (sAt B k)) 0 = mn from by simp [psum])⟩ (show 0 ≤ 0 from by first | exact Nat.le_refl _ | omega) (show 0 ≤ 0 from by first | exact Nat.le_refl _ | omega)
  intro x H locs ls hI9 ih5
  obtain ⟨p_103, lf9_104⟩ := x
  obtain ⟨hP, hD, hS, hl, hp_101, hp_102⟩ := hI9
  have hP : va_P G.1 CL [] H := hP
  have hD : va_D A [] := hD
  have hl : lv_has ls 5 [(0, .ref m0), (1, .int (nI k)), (2, .int (nI mn)), (3, .int (nI lf9_104)), (4, .int (nI p_103))] := hl
  have hp_101 : p_103 ≤ nP (sAt B k) := hp_101
  have hp_102 : lf9_104 + psum (pMin (sAt B k)) p_103 = mn := hp_102
  have hp8 : p_103 < nP (sAt B k) := by
    rcases Nat.lt_or_ge p_103 (nP (sAt B k)) with z | z
    · exact z
    · have := psum_up (g := pMin (sAt B k)) z; unfold minOf at hmn; omega
  have hm9 := iS5 p_103 hp8
  refine lv_iload_n hx hb dX4_intensity_5 rfl (lv_at hl 3 rfl) ?_
  refine lv_aload_n hx hb dX4_intensity_6 rfl (lv_at hl 0 rfl) ?_
  refine va_get hx hb hts in_X4 hown hK (hR0.w hS) 0 rfl rfl 0 (by decide) (hts _ q1596) (fun _ h => h) rfl dX4_intensity_7 ?_
  refine lv_aload_n hx hb dX4_intensity_10 rfl (lv_at hl 0 rfl) ?_
  refine lv_iload_n hx hb dX4_intensity_11 rfl (lv_at hl 1 rfl) ?_
  have hF := hF_of (wc := []) hD hS hA [] rfl
  refine go_ct hS hP hD [] [] hF rfl rfl (by decide) (by decide)
      (va_runV (As := [.int (nI k)]) (rest := [.ref sa, .int (nI lf9_104)]) cf (mX4_at l G m0 k  H.size) (cwV 1 hts (lw_V q1687 q1689 qs27 q58 q1690) rfl rfl rfl (by decide +kernel) ⟨Nat.le_of_ble_eq_true rfl, Nat.le_of_ble_eq_true rfl⟩) (preV_of hKB hE hS hF (va_recv hK (hR0.w hS) (ci := 6) (q0 := 0) rfl rfl) (va_P.sub hP [] rfl) ((va_D.sub hD [] (by decide) rfl).weaken (fun _ _ _ _ => trivial)) trivial) rfl rfl hl.1 rfl (lv_room (Nat.le_of_ble_eq_true rfl)) dX4_intensity_12 ⟨show 0 + 0 ≤ 0 from by first | decide | omega, show 0 + 0 ≤ 0 from by first | decide | omega⟩)
      (fun u_ H locs hq hph (hP : va_P G.1 CL [] H) (hD : va_D A []) hS hfz hfk => ?_)
  refine W.eq (g2 := F0 m 15 ls [.int (nI (19 * k + 70)), .ref sa, .int (nI lf9_104)]) rfl ?_
  refine lv_iconst (v := nI 3) hx hb dX4_intensity_15 (by decide) ?_
  refine lv_iadd hx hb dX4_intensity_16 ?_
  refine lv_ton (n := 19 * k + 73) (nadd (by omega)) ?_
  refine lv_iload hx hb dX4_intensity_17 (lv_at hl 4 rfl) ?_
  refine lv_iadd hx hb dX4_intensity_19 ?_
  refine lv_ton (n := 19 * k + p_103 + 73) (nadd (by omega)) ?_
  refine r_iald (v := nI (pMin (sAt B k) p_103)) hx hb hK (hR0.w hS) 1 0 rfl rfl (i := 19 * k + p_103 + 73) (by omega) (by omega) ((congrArg f (show 19 * k + p_103 + 73 = 19 * k + p_103 + 73 from by omega)).trans (hM.smin (k := k) (p := p_103) (by omega) (by omega))) dX4_intensity_20 ?_
  refine n_icmp_lt (tgt := 48) hx hb (by omega) (by omega) dX4_intensity_21 (by decide) (fun c_105 => ?_) (fun c_105 => ?_)
  · refine lv_aload_n hx hb dX4_intensity_48 rfl (lv_at hl 0 rfl) ?_
    refine va_get hx hb hts in_X4 hown hK (hR0.w hS) 0 rfl rfl 0 (by decide) (hts _ q1596) (fun _ h => h) rfl dX4_intensity_49 ?_
    refine lv_aload_n hx hb dX4_intensity_52 rfl (lv_at hl 0 rfl) ?_
    refine lv_iload_n hx hb dX4_intensity_53 rfl (lv_at hl 1 rfl) ?_
    have hF := hF_of (wc := []) hD hS hA [] rfl
    refine go_ct hS hP hD [] [] hF rfl rfl (by decide) (by decide)
        (va_runV (As := [.int (nI k)]) (rest := [.ref sa]) cf (mX4_at l G m0 k  H.size) (cwV 1 hts (lw_V q1687 q1689 qs27 q58 q1690) rfl rfl rfl (by decide +kernel) ⟨Nat.le_of_ble_eq_true rfl, Nat.le_of_ble_eq_true rfl⟩) (preV_of hKB hE hS hF (va_recv hK (hR0.w hS) (ci := 6) (q0 := 0) rfl rfl) (va_P.sub hP [] rfl) ((va_D.sub hD [] (by decide) rfl).weaken (fun _ _ _ _ => trivial)) trivial) rfl rfl hl.1 rfl (lv_room (Nat.le_of_ble_eq_true rfl)) dX4_intensity_54 ⟨show 0 + 0 ≤ 0 from by first | decide | omega, show 0 + 0 ≤ 0 from by first | decide | omega⟩)
        (fun u_ H locs hq hph (hP : va_P G.1 CL [] H) (hD : va_D A []) hS hfz hfk => ?_)
    refine W.eq (g2 := F0 m 57 ls [.int (nI (19 * k + 70)), .ref sa]) rfl ?_
    refine lv_iconst (v := nI 3) hx hb dX4_intensity_57 (by decide) ?_
    refine lv_iadd hx hb dX4_intensity_58 ?_
    refine lv_ton (n := 19 * k + 73) (nadd (by omega)) ?_
    refine lv_bipush (v := nI 8) hx hb dX4_intensity_59 (by decide) ?_
    refine lv_iadd hx hb dX4_intensity_61 ?_
    refine lv_ton (n := 19 * k + 81) (nadd (by omega)) ?_
    refine lv_iload hx hb dX4_intensity_62 (lv_at hl 4 rfl) ?_
    refine lv_iadd hx hb dX4_intensity_64 ?_
    refine lv_ton (n := 19 * k + p_103 + 81) (nadd (by omega)) ?_
    refine r_iald (v := nI (pInt (sAt B k) p_103)) hx hb hK (hR0.w hS) 1 0 rfl rfl (i := 19 * k + p_103 + 81) (by omega) (by omega) ((congrArg f (show 19 * k + p_103 + 81 = 19 * k + p_103 + 81 from by omega)).trans (hM.sint (k := k) (p := p_103) (by omega) (by omega))) dX4_intensity_65 ?_
    have hP9 : va_P G.1 CL [] H := hP.sub [] rfl
    have hD9 : va_D A [] := hD.sub [] (by decide) rfl
    exact end_i hx hb hr hlk (rfl) (qc_of () (v := some (.int (nI (pInt (sAt B k) p_103)))) (by rw [iAt_eq (p := p_103) (by omega) (by omega) (by simp only [psum]; omega)]) (trivial) hP9 hD9 (trivial) hS) hS dX4_intensity_66 (show 0 ≤ 0 from by first | exact Nat.le_refl _ | decide | omega) (show 0 ≤ 0 from by first | exact Nat.le_refl _ | decide | omega)
  · refine lv_iload_n hx hb dX4_intensity_24 rfl (lv_at hl 3 rfl) ?_
    refine lv_aload_n hx hb dX4_intensity_25 rfl (lv_at hl 0 rfl) ?_
    refine va_get hx hb hts in_X4 hown hK (hR0.w hS) 0 rfl rfl 0 (by decide) (hts _ q1596) (fun _ h => h) rfl dX4_intensity_26 ?_
    refine lv_aload_n hx hb dX4_intensity_29 rfl (lv_at hl 0 rfl) ?_
    refine lv_iload_n hx hb dX4_intensity_30 rfl (lv_at hl 1 rfl) ?_
    have hF := hF_of (wc := []) hD hS hA [] rfl
    refine go_ct hS hP hD [] [] hF rfl rfl (by decide) (by decide)
        (va_runV (As := [.int (nI k)]) (rest := [.ref sa, .int (nI lf9_104)]) cf (mX4_at l G m0 k  H.size) (cwV 1 hts (lw_V q1687 q1689 qs27 q58 q1690) rfl rfl rfl (by decide +kernel) ⟨Nat.le_of_ble_eq_true rfl, Nat.le_of_ble_eq_true rfl⟩) (preV_of hKB hE hS hF (va_recv hK (hR0.w hS) (ci := 6) (q0 := 0) rfl rfl) (va_P.sub hP [] rfl) ((va_D.sub hD [] (by decide) rfl).weaken (fun _ _ _ _ => trivial)) trivial) rfl rfl hl.1 rfl (lv_room (Nat.le_of_ble_eq_true rfl)) dX4_intensity_31 ⟨show 0 + 0 ≤ 0 from by first | decide | omega, show 0 + 0 ≤ 0 from by first | decide | omega⟩)
        (fun u_ H locs hq hph (hP : va_P G.1 CL [] H) (hD : va_D A []) hS hfz hfk => ?_)
    refine W.eq (g2 := F0 m 34 ls [.int (nI (19 * k + 70)), .ref sa, .int (nI lf9_104)]) rfl ?_
    refine lv_iconst (v := nI 3) hx hb dX4_intensity_34 (by decide) ?_
    refine lv_iadd hx hb dX4_intensity_35 ?_
    refine lv_ton (n := 19 * k + 73) (nadd (by omega)) ?_
    refine lv_iload hx hb dX4_intensity_36 (lv_at hl 4 rfl) ?_
    refine lv_iadd hx hb dX4_intensity_38 ?_
    refine lv_ton (n := 19 * k + p_103 + 73) (nadd (by omega)) ?_
    refine r_iald (v := nI (pMin (sAt B k) p_103)) hx hb hK (hR0.w hS) 1 0 rfl rfl (i := 19 * k + p_103 + 73) (by omega) (by omega) ((congrArg f (show 19 * k + p_103 + 73 = 19 * k + p_103 + 73 from by omega)).trans (hM.smin (k := k) (p := p_103) (by omega) (by omega))) dX4_intensity_39 ?_
    refine lv_isub hx hb dX4_intensity_40 ?_
    refine lv_ton (n := (lf9_104 - (pMin (sAt B k) p_103))) (nsub (by omega)) ?_
    refine lv_istore_n (lv' := [(3, .int (nI (lf9_104 - (pMin (sAt B k) p_103)))), (0, .ref m0), (1, .int (nI k)), (2, .int (nI mn)), (4, .int (nI p_103))]) hx hb dX4_intensity_41 rfl hl (by decide) rfl (fun ls hl => ?_)
    refine lv_iinc (v := nI (p_103 + 1)) (lv' := [(4, .int (nI (p_103 + 1))), (3, .int (nI (lf9_104 - (pMin (sAt B k) p_103)))), (0, .ref m0), (1, .int (nI k)), (2, .int (nI mn))]) hx hb dX4_intensity_42 hl (k := 4) rfl (ninc (b := 1) (by decide) (by omega)) (by decide) rfl (fun ls hl => ?_)
    refine lv_goto (tgt := 5) hx hb dX4_intensity_45 (by decide) ?_
    have hP : va_P G.1 CL [] H := hP.sub [] rfl
    have hD : va_D A [] := hD.sub [] (by decide) rfl
    have hl := lv_sub hl [2, 3, 4, 1, 0] (l' := [(0, .ref m0), (1, .int (nI k)), (2, .int (nI mn)), (3, .int (nI (lf9_104 - (pMin (sAt B k) p_103)))), (4, .int (nI (p_103 + 1)))]) rfl
    exact W.widen (show 0 ≤ 0 from by first | exact Nat.le_refl _ | omega) (show 0 ≤ 0 from by first | exact Nat.le_refl _ | omega) (ih5 ((p_103 + 1), (lf9_104 - (pMin (sAt B k) p_103))) H locs ls ⟨hP, hD, hS, hl, (show (p_103 + 1) ≤ nP (sAt B k) from by omega), (show (lf9_104 - (pMin (sAt B k) p_103)) + psum (pMin (sAt B k)) (p_103 + 1) = mn from by simp only [psum]; omega)⟩ (show nP (sAt B k) - (p_103 + 1) < nP (sAt B k) - p_103 from by omega))

set_option maxHeartbeats 4000000 in
theorem mX4_effort (l : Launch) (G : Gt) (m0 : Nat) (sa : Nat) (oa : Nat) (pa : Nat) (la : Nat) (za : Nat) (na : Nat) (gu : Int32) (gt : Int32) (gw : Int32) (gd : Int32) (gm : Int32) (gr : Int32) (gh : Int32) (gv : Int32) (f : Nat → Int32) (B : Bk) (k : Nat) (mn : Nat) (hM : MR f B) (hI : Inv B) (hk : k < sN B) (hmn : 1 ≤ mn ∧ mn ≤ 240) : CT l G yX4_effort cX4_effort 7 (some .int) ({ frames := 3, cells := 0, slots := 0, locals := 57 } : Room) [.ref m0, .int (nI k), .int (nI mn)] [] (fun (A : Nat → Prop) (H : Heap) => roW G A H [(m0, .inr (6, [.ref sa, .ref oa, .ref pa, .ref la, .ref za, .ref na, .int gu, .int gt, .int gw, .int gd, .int gm, .int gr, .int gh, .int gv])), (sa, .inl (G.2 0, 830, .inl f))]) (S := Unit) (fun (u_ : Unit) => some (.int (lI (effS (sAt B k) mn)))) (fun (u_ : Unit) => True) (fun (u_ : Unit) => []) (fun (u_ : Unit) (H : Heap) => True) := by
  refine CT.of (by decide) (Nat.le_of_ble_eq_true rfl) ?_
  intro p e s m below meth c ls A H locs h9 hH0 hP hS
  obtain ⟨cf, hr, hlk, hnm, hKB, hE, -, hD, -, hA, hAw, hR0, hl⟩ := h9
  have hx := cf.1
  have hb := cf.2.1
  have hml := cf.2.2.1
  have hown : s.vm.findClass RX4 = some m.cls := cf.2.2.2.1
  have hts := cf.2.2.2.2
  have hK := hKB.1
  have hl : lv_has ls 7 [(0, .ref m0), (1, .int (nI k)), (2, .int (nI mn))] := hl
  have iN := iv_sN hI
  have iT := iv_tN hI
  have iD := iv_bD hI
  have iE := iv_bE hI
  have iW := iv_id hI
  obtain ⟨iS1, iS2, iS3, iS4, iS5⟩ := iv_ses hI hk
  refine lv_aload_n hx hb dX4_effort_0 rfl (lv_at hl 0 rfl) ?_
  refine lv_iload_n hx hb dX4_effort_1 rfl (lv_at hl 1 rfl) ?_
  have hF := hF_of (wc := []) hD hS hA [] rfl
  have hro_106 : va_P G.1 CL [(m0, .inr (6, [.ref sa, .ref oa, .ref pa, .ref la, .ref za, .ref na, .int gu, .int gt, .int gw, .int gd, .int gm, .int gr, .int gh, .int gv])), (sa, .inl (G.2 0, 830, .inl f))] H := ((hR0.w hS).sub [0, 1] rfl)
  refine go_ct hS hP hD [] [] hF rfl rfl (by decide) (by decide)
      (va_runV (As := [.int (nI k)]) (rest := []) cf (mX4_minutes l G m0 sa oa pa la za na gu gt gw gd gm gr gh gv f B k (show MR f B from by first | assumption | omega) (show Inv B from by first | assumption | omega) (show k < sN B from by first | assumption | omega) H.size) (cwV 1 hts (lw_V q1743 q1745 qs31 q58 q1746) rfl rfl rfl (by decide +kernel) ⟨Nat.le_of_ble_eq_true rfl, Nat.le_of_ble_eq_true rfl⟩) (preV_of hKB hE hS hF (va_recv hK (hR0.w hS) (ci := 6) (q0 := 0) rfl rfl) (va_P.sub hP [] rfl) ((va_D.sub hD [] (by decide) rfl).weaken (fun _ _ _ _ => trivial)) (roW.nil hro_106)) rfl rfl hl.1 rfl (lv_room (Nat.le_of_ble_eq_true rfl)) dX4_effort_2 ⟨show 0 + 0 ≤ 0 from by first | decide | omega, show 0 + 0 ≤ 0 from by first | decide | omega⟩)
      (fun u_ H locs hq hph (hP : va_P G.1 CL [] H) (hD : va_D A []) hS hfz hfk => ?_)
  refine W.eq (g2 := F0 m 5 ls [.int (nI (minOf (sAt B k)))]) rfl ?_
  refine lv_istore_n (lv' := [(3, .int (nI (minOf (sAt B k)))), (0, .ref m0), (1, .int (nI k)), (2, .int (nI mn))]) hx hb dX4_effort_5 rfl hl (by decide) rfl (fun ls hl => ?_)
  refine lv_iconst (v := (-1)) hx hb dX4_effort_6 (by decide) ?_
  refine lv_istore (lv' := [(4, .int (-1)), (3, .int (nI (minOf (sAt B k)))), (0, .ref m0), (1, .int (nI k)), (2, .int (nI mn))]) hx hb dX4_effort_7 hl (by decide) rfl (fun ls hl => ?_)
  refine lv_iconst (v := nI 0) hx hb dX4_effort_9 (by decide) ?_
  refine lv_istore (lv' := [(5, .int (nI 0)), (4, .int (-1)), (3, .int (nI (minOf (sAt B k)))), (0, .ref m0), (1, .int (nI k)), (2, .int (nI mn))]) hx hb dX4_effort_10 hl (by decide) rfl (fun ls hl => ?_)
  refine lv_iconst (v := nI 0) hx hb dX4_effort_12 (by decide) ?_
  refine lv_istore (lv' := [(6, .int (nI 0)), (5, .int (nI 0)), (4, .int (-1)), (3, .int (nI (minOf (sAt B k)))), (0, .ref m0), (1, .int (nI k)), (2, .int (nI mn))]) hx hb dX4_effort_13 hl (by decide) rfl (fun ls hl => ?_)
  have hl : lv_has ls 7 [(6, .int (nI 0)), (5, .int (nI 0)), (4, .int (lI (eB (sAt B k) mn 0))), (3, .int (nI (minOf (sAt B k)))), (0, .ref m0), (1, .int (nI k)), (2, .int (nI mn))] := by
    have e9 : ((.int (lI (eB (sAt B k) mn 0))) : Value) = .int (-1) := congrArg Value.int (by show lI 0 = -1; decide)
    rw [e9]; exact hl
  have hl : lv_has ls 7 [(6, .int (nI 0)), (5, .int (nI (eS (sAt B k) mn 0))), (4, .int (lI (eB (sAt B k) mn 0))), (3, .int (nI (minOf (sAt B k)))), (0, .ref m0), (1, .int (nI k)), (2, .int (nI mn))] := by
    have e9 : ((.int (nI (eS (sAt B k) mn 0))) : Value) = .int (nI 0) := by simp [eS, psum]
    rw [e9]; exact hl
  have hl := lv_sub hl [4, 5, 6, 3, 2, 1, 0] (l' := [(0, .ref m0), (1, .int (nI k)), (2, .int (nI mn)), (3, .int (nI (minOf (sAt B k)))), (4, .int (lI (eB (sAt B k) mn 0))), (5, .int (nI (eS (sAt B k) mn 0))), (6, .int (nI 0))]) rfl
  refine lp_W (σ := Nat) (hpc := 15) (fun x => minOf (sAt B k) - x) (fun x => 0) (fun x => 0) (fun x H locs ls => va_P G.1 CL [] H ∧ va_D A [] ∧ va_S A s.heap H locs ∧ lv_has ls 7 [(0, .ref m0), (1, .int (nI k)), (2, .int (nI mn)), (3, .int (nI (minOf (sAt B k)))), (4, .int (lI (eB (sAt B k) mn x))), (5, .int (nI (eS (sAt B k) mn x))), (6, .int (nI x))] ∧ (x ≤ minOf (sAt B k))) ?_ (0) ⟨(show va_P G.1 CL [] H from hP), (show va_D A [] from hD), hS, hl, (show 0 ≤ minOf (sAt B k) from by omega)⟩ (show 0 ≤ 0 from by first | exact Nat.le_refl _ | omega) (show 0 ≤ 0 from by first | exact Nat.le_refl _ | omega)
  intro x H locs ls hI9 ih15
  obtain ⟨q_108, rfl⟩ : ∃ z, z = x := ⟨_, rfl⟩
  obtain ⟨hP, hD, hS, hl, hp_107⟩ := hI9
  have hP : va_P G.1 CL [] H := hP
  have hD : va_D A [] := hD
  have hl : lv_has ls 7 [(0, .ref m0), (1, .int (nI k)), (2, .int (nI mn)), (3, .int (nI (minOf (sAt B k)))), (4, .int (lI (eB (sAt B k) mn q_108))), (5, .int (nI (eS (sAt B k) mn q_108))), (6, .int (nI q_108))] := hl
  have hp_107 : q_108 ≤ minOf (sAt B k) := hp_107
  have he9 := eB_le hI hk mn q_108
  have he8 := eS_le hI hk mn (q_108 + 1)
  refine lv_iload hx hb dX4_effort_15 (lv_at hl 6 rfl) ?_
  refine lv_iload_n hx hb dX4_effort_17 rfl (lv_at hl 3 rfl) ?_
  refine n_icmp_ge (tgt := 81) hx hb (by omega) (by omega) dX4_effort_18 (by decide) (fun c_109 => ?_) (fun c_109 => ?_)
  · refine lv_iload hx hb dX4_effort_81 (lv_at hl 4 rfl) ?_
    have hP9 : va_P G.1 CL [] H := hP.sub [] rfl
    have hD9 : va_D A [] := hD.sub [] (by decide) rfl
    exact end_i hx hb hr hlk (rfl) (qc_of () (v := some (.int (lI (eB (sAt B k) mn q_108)))) (by rw [show q_108 = minOf (sAt B k) from by omega] <;> rfl) (trivial) hP9 hD9 (trivial) hS) hS dX4_effort_83 (show 0 ≤ 0 from by first | exact Nat.le_refl _ | decide | omega) (show 0 ≤ 0 from by first | exact Nat.le_refl _ | decide | omega)
  · refine lv_iload hx hb dX4_effort_21 (lv_at hl 5 rfl) ?_
    refine lv_aload_n hx hb dX4_effort_23 rfl (lv_at hl 0 rfl) ?_
    refine lv_iload_n hx hb dX4_effort_24 rfl (lv_at hl 1 rfl) ?_
    refine lv_iload hx hb dX4_effort_25 (lv_at hl 6 rfl) ?_
    have hF := hF_of (wc := []) hD hS hA [] rfl
    have hro_110 : va_P G.1 CL [(m0, .inr (6, [.ref sa, .ref oa, .ref pa, .ref la, .ref za, .ref na, .int gu, .int gt, .int gw, .int gd, .int gm, .int gr, .int gh, .int gv])), (sa, .inl (G.2 0, 830, .inl f))] H := ((hR0.w hS).sub [0, 1] rfl)
    refine go_ct hS hP hD [] [] hF rfl rfl (by decide) (by decide)
        (va_runV (As := [.int (nI k), .int (nI q_108)]) (rest := [.int (nI (eS (sAt B k) mn q_108))]) cf (mX4_intensity l G m0 sa oa pa la za na gu gt gw gd gm gr gh gv f B k q_108 (show MR f B from by first | assumption | omega) (show Inv B from by first | assumption | omega) (show k < sN B from by first | assumption | omega) (show q_108 < minOf (sAt B k) from by first | assumption | omega) H.size) (cwV 2 hts (lw_V q1888 q1890 qs43 q58 q1891) rfl rfl rfl (by decide +kernel) ⟨Nat.le_of_ble_eq_true rfl, Nat.le_of_ble_eq_true rfl⟩) (preV_of hKB hE hS hF (va_recv hK (hR0.w hS) (ci := 6) (q0 := 0) rfl rfl) (va_P.sub hP [] rfl) ((va_D.sub hD [] (by decide) rfl).weaken (fun _ _ _ _ => trivial)) (roW.nil hro_110)) rfl rfl hl.1 rfl (lv_room (Nat.le_of_ble_eq_true rfl)) dX4_effort_27 ⟨show 0 + 0 ≤ 0 from by first | decide | omega, show 0 + 0 ≤ 0 from by first | decide | omega⟩)
        (fun u_ H locs hq hph (hP : va_P G.1 CL [] H) (hD : va_D A []) hS hfz hfk => ?_)
    refine W.eq (g2 := F0 m 30 ls [.int (nI (iAt (sAt B k) q_108)), .int (nI (eS (sAt B k) mn q_108))]) rfl ?_
    refine lv_iload hx hb dX4_effort_30 (lv_at hl 6 rfl) ?_
    refine lv_iload_n hx hb dX4_effort_32 rfl (lv_at hl 2 rfl) ?_
    refine n_icmp_ge (tgt := 40) hx hb (by omega) (by omega) dX4_effort_33 (by decide) (fun c_111 => ?_) (fun c_111 => ?_)
    · refine lv_aload_n hx hb dX4_effort_40 rfl (lv_at hl 0 rfl) ?_
      refine lv_iload_n hx hb dX4_effort_41 rfl (lv_at hl 1 rfl) ?_
      refine lv_iload hx hb dX4_effort_42 (lv_at hl 6 rfl) ?_
      refine lv_iload_n hx hb dX4_effort_44 rfl (lv_at hl 2 rfl) ?_
      refine lv_isub hx hb dX4_effort_45 ?_
      refine lv_ton (n := (q_108 - mn)) (nsub (by omega)) ?_
      have hF := hF_of (wc := []) hD hS hA [] rfl
      have hro_112 : va_P G.1 CL [(m0, .inr (6, [.ref sa, .ref oa, .ref pa, .ref la, .ref za, .ref na, .int gu, .int gt, .int gw, .int gd, .int gm, .int gr, .int gh, .int gv])), (sa, .inl (G.2 0, 830, .inl f))] H := ((hR0.w hS).sub [0, 1] rfl)
      refine go_ct hS hP hD [] [] hF rfl rfl (by decide) (by decide)
          (va_runV (As := [.int (nI k), .int (nI (q_108 - mn))]) (rest := [.int (nI (iAt (sAt B k) q_108)), .int (nI (eS (sAt B k) mn q_108))]) cf (mX4_intensity l G m0 sa oa pa la za na gu gt gw gd gm gr gh gv f B k (q_108 - mn) (show MR f B from by first | assumption | omega) (show Inv B from by first | assumption | omega) (show k < sN B from by first | assumption | omega) (show (q_108 - mn) < minOf (sAt B k) from by first | assumption | omega) H.size) (cwV 2 hts (lw_V q1888 q1890 qs43 q58 q1891) rfl rfl rfl (by decide +kernel) ⟨Nat.le_of_ble_eq_true rfl, Nat.le_of_ble_eq_true rfl⟩) (preV_of hKB hE hS hF (va_recv hK (hR0.w hS) (ci := 6) (q0 := 0) rfl rfl) (va_P.sub hP [] rfl) ((va_D.sub hD [] (by decide) rfl).weaken (fun _ _ _ _ => trivial)) (roW.nil hro_112)) rfl rfl hl.1 rfl (lv_room (Nat.le_of_ble_eq_true rfl)) dX4_effort_46 ⟨show 0 + 0 ≤ 0 from by first | decide | omega, show 0 + 0 ≤ 0 from by first | decide | omega⟩)
          (fun u_ H locs hq hph (hP : va_P G.1 CL [] H) (hD : va_D A []) hS hfz hfk => ?_)
      refine W.eq (g2 := F0 m 49 ls [.int (nI (iAt (sAt B k) (q_108 - mn))), .int (nI (iAt (sAt B k) q_108)), .int (nI (eS (sAt B k) mn q_108))]) rfl ?_
      refine lv_ton (n := (if q_108 < mn then 0 else iAt (sAt B k) (q_108 - mn))) (congrArg nI (by first | rw [if_pos (by omega)] | rw [if_neg (by omega)])) ?_
      refine lv_isub hx hb dX4_effort_49 ?_
      refine lv_iadd hx hb dX4_effort_50 ?_
      refine lv_ton (n := (eS (sAt B k) mn (q_108 + 1))) (eS_s (sAt B k) hmn.1) ?_
      refine lv_istore (lv' := [(5, .int (nI (eS (sAt B k) mn (q_108 + 1)))), (0, .ref m0), (1, .int (nI k)), (2, .int (nI mn)), (3, .int (nI (minOf (sAt B k)))), (4, .int (lI (eB (sAt B k) mn q_108))), (6, .int (nI q_108))]) hx hb dX4_effort_51 hl (by decide) rfl (fun ls hl => ?_)
      refine lv_iload hx hb dX4_effort_53 (lv_at hl 6 rfl) ?_
      refine lv_iload_n hx hb dX4_effort_55 rfl (lv_at hl 3 rfl) ?_
      refine lv_iconst (v := nI 1) hx hb dX4_effort_56 (by decide) ?_
      refine lv_isub hx hb dX4_effort_57 ?_
      refine lv_ton (n := (mn - 1)) (nsub (by omega)) ?_
      refine n_icmp_lt (tgt := 71) hx hb (by omega) (by omega) dX4_effort_58 (by decide) (fun c_113 => ?_) (fun c_113 => ?_)
      · refine lv_iload hx hb dX4_effort_71 (lv_at hl 5 rfl) ?_
        refine lv_toi (y := lI (eB (sAt B k) mn (q_108 + 1))) (congrArg lI (by simp only [eB]; rw [if_neg (by omega)])) ?_
        refine lv_istore (lv' := [(4, .int (lI (eB (sAt B k) mn (q_108 + 1)))), (5, .int (nI (eS (sAt B k) mn (q_108 + 1)))), (0, .ref m0), (1, .int (nI k)), (2, .int (nI mn)), (3, .int (nI (minOf (sAt B k)))), (6, .int (nI q_108))]) hx hb dX4_effort_73 hl (by decide) rfl (fun ls hl => ?_)
        refine lv_iinc (v := nI (q_108 + 1)) (lv' := [(6, .int (nI (q_108 + 1))), (4, .int (lI (eB (sAt B k) mn (q_108 + 1)))), (5, .int (nI (eS (sAt B k) mn (q_108 + 1)))), (0, .ref m0), (1, .int (nI k)), (2, .int (nI mn)), (3, .int (nI (minOf (sAt B k))))]) hx hb dX4_effort_75 hl (k := 6) rfl (ninc (b := 1) (by decide) (by omega)) (by decide) rfl (fun ls hl => ?_)
        refine lv_goto (tgt := 15) hx hb dX4_effort_78 (by decide) ?_
        have hP : va_P G.1 CL [] H := hP.sub [] rfl
        have hD : va_D A [] := hD.sub [] (by decide) rfl
        have hl := lv_sub hl [3, 4, 5, 6, 1, 2, 0] (l' := [(0, .ref m0), (1, .int (nI k)), (2, .int (nI mn)), (3, .int (nI (minOf (sAt B k)))), (4, .int (lI (eB (sAt B k) mn (q_108 + 1)))), (5, .int (nI (eS (sAt B k) mn (q_108 + 1)))), (6, .int (nI (q_108 + 1)))]) rfl
        exact W.widen (show 0 ≤ 0 from by first | exact Nat.le_refl _ | omega) (show 0 ≤ 0 from by first | exact Nat.le_refl _ | omega) (ih15 ((q_108 + 1)) H locs ls ⟨hP, hD, hS, hl, (show (q_108 + 1) ≤ minOf (sAt B k) from by omega)⟩ (show minOf (sAt B k) - (q_108 + 1) < minOf (sAt B k) - q_108 from by omega))
      · refine lv_iload hx hb dX4_effort_61 (lv_at hl 5 rfl) ?_
        refine lv_iload hx hb dX4_effort_63 (lv_at hl 0 rfl) ?_
        refine va_mmax hx hb (by rw [hml]; exact hl.1.symm) hown (hts _ q1892) (hts _ q505) (hts _ q67) (hts _ q506) (Nat.le_of_ble_eq_true rfl) (Nat.le_of_ble_eq_true rfl) (show 0 ≤ 0 from by first | decide | omega) (show 0 ≤ 0 from by first | decide | omega) dX4_effort_65 ?_
        refine lv_toi (y := imax (lI (eB (sAt B k) mn q_108)) (nI (eS (sAt B k) mn (q_108 + 1)))) (rfl) ?_
        refine W.eq (g2 := F0 m 68 ls [.int (imax (lI (eB (sAt B k) mn q_108)) (nI (eS (sAt B k) mn (q_108 + 1))))]) rfl ?_
        refine lv_goto (tgt := 73) hx hb dX4_effort_68 (by decide) ?_
        refine lv_toi (y := lI (eB (sAt B k) mn (q_108 + 1))) ((imax_l (by omega) (by omega)).trans (congrArg lI (by simp only [eB]; rw [if_pos (by omega)]))) ?_
        refine lv_istore (lv' := [(4, .int (lI (eB (sAt B k) mn (q_108 + 1)))), (5, .int (nI (eS (sAt B k) mn (q_108 + 1)))), (0, .ref m0), (1, .int (nI k)), (2, .int (nI mn)), (3, .int (nI (minOf (sAt B k)))), (6, .int (nI q_108))]) hx hb dX4_effort_73 hl (by decide) rfl (fun ls hl => ?_)
        refine lv_iinc (v := nI (q_108 + 1)) (lv' := [(6, .int (nI (q_108 + 1))), (4, .int (lI (eB (sAt B k) mn (q_108 + 1)))), (5, .int (nI (eS (sAt B k) mn (q_108 + 1)))), (0, .ref m0), (1, .int (nI k)), (2, .int (nI mn)), (3, .int (nI (minOf (sAt B k))))]) hx hb dX4_effort_75 hl (k := 6) rfl (ninc (b := 1) (by decide) (by omega)) (by decide) rfl (fun ls hl => ?_)
        refine lv_goto (tgt := 15) hx hb dX4_effort_78 (by decide) ?_
        have hP : va_P G.1 CL [] H := hP.sub [] rfl
        have hD : va_D A [] := hD.sub [] (by decide) rfl
        have hl := lv_sub hl [3, 4, 5, 6, 1, 2, 0] (l' := [(0, .ref m0), (1, .int (nI k)), (2, .int (nI mn)), (3, .int (nI (minOf (sAt B k)))), (4, .int (lI (eB (sAt B k) mn (q_108 + 1)))), (5, .int (nI (eS (sAt B k) mn (q_108 + 1)))), (6, .int (nI (q_108 + 1)))]) rfl
        exact W.widen (show 0 ≤ 0 from by first | exact Nat.le_refl _ | omega) (show 0 ≤ 0 from by first | exact Nat.le_refl _ | omega) (ih15 ((q_108 + 1)) H locs ls ⟨hP, hD, hS, hl, (show (q_108 + 1) ≤ minOf (sAt B k) from by omega)⟩ (show minOf (sAt B k) - (q_108 + 1) < minOf (sAt B k) - q_108 from by omega))
    · refine lv_iconst (v := nI 0) hx hb dX4_effort_36 (by decide) ?_
      refine lv_goto (tgt := 49) hx hb dX4_effort_37 (by decide) ?_
      refine lv_ton (n := (if q_108 < mn then 0 else iAt (sAt B k) (q_108 - mn))) (congrArg nI (by first | rw [if_pos (by omega)] | rw [if_neg (by omega)])) ?_
      refine lv_isub hx hb dX4_effort_49 ?_
      refine lv_iadd hx hb dX4_effort_50 ?_
      refine lv_ton (n := (eS (sAt B k) mn (q_108 + 1))) (eS_s (sAt B k) hmn.1) ?_
      refine lv_istore (lv' := [(5, .int (nI (eS (sAt B k) mn (q_108 + 1)))), (0, .ref m0), (1, .int (nI k)), (2, .int (nI mn)), (3, .int (nI (minOf (sAt B k)))), (4, .int (lI (eB (sAt B k) mn q_108))), (6, .int (nI q_108))]) hx hb dX4_effort_51 hl (by decide) rfl (fun ls hl => ?_)
      refine lv_iload hx hb dX4_effort_53 (lv_at hl 6 rfl) ?_
      refine lv_iload_n hx hb dX4_effort_55 rfl (lv_at hl 3 rfl) ?_
      refine lv_iconst (v := nI 1) hx hb dX4_effort_56 (by decide) ?_
      refine lv_isub hx hb dX4_effort_57 ?_
      refine lv_ton (n := (mn - 1)) (nsub (by omega)) ?_
      refine n_icmp_lt (tgt := 71) hx hb (by omega) (by omega) dX4_effort_58 (by decide) (fun c_114 => ?_) (fun c_114 => ?_)
      · refine lv_iload hx hb dX4_effort_71 (lv_at hl 5 rfl) ?_
        refine lv_toi (y := lI (eB (sAt B k) mn (q_108 + 1))) (congrArg lI (by simp only [eB]; rw [if_neg (by omega)])) ?_
        refine lv_istore (lv' := [(4, .int (lI (eB (sAt B k) mn (q_108 + 1)))), (5, .int (nI (eS (sAt B k) mn (q_108 + 1)))), (0, .ref m0), (1, .int (nI k)), (2, .int (nI mn)), (3, .int (nI (minOf (sAt B k)))), (6, .int (nI q_108))]) hx hb dX4_effort_73 hl (by decide) rfl (fun ls hl => ?_)
        refine lv_iinc (v := nI (q_108 + 1)) (lv' := [(6, .int (nI (q_108 + 1))), (4, .int (lI (eB (sAt B k) mn (q_108 + 1)))), (5, .int (nI (eS (sAt B k) mn (q_108 + 1)))), (0, .ref m0), (1, .int (nI k)), (2, .int (nI mn)), (3, .int (nI (minOf (sAt B k))))]) hx hb dX4_effort_75 hl (k := 6) rfl (ninc (b := 1) (by decide) (by omega)) (by decide) rfl (fun ls hl => ?_)
        refine lv_goto (tgt := 15) hx hb dX4_effort_78 (by decide) ?_
        have hP : va_P G.1 CL [] H := hP.sub [] rfl
        have hD : va_D A [] := hD.sub [] (by decide) rfl
        have hl := lv_sub hl [3, 4, 5, 6, 1, 2, 0] (l' := [(0, .ref m0), (1, .int (nI k)), (2, .int (nI mn)), (3, .int (nI (minOf (sAt B k)))), (4, .int (lI (eB (sAt B k) mn (q_108 + 1)))), (5, .int (nI (eS (sAt B k) mn (q_108 + 1)))), (6, .int (nI (q_108 + 1)))]) rfl
        exact W.widen (show 0 ≤ 0 from by first | exact Nat.le_refl _ | omega) (show 0 ≤ 0 from by first | exact Nat.le_refl _ | omega) (ih15 ((q_108 + 1)) H locs ls ⟨hP, hD, hS, hl, (show (q_108 + 1) ≤ minOf (sAt B k) from by omega)⟩ (show minOf (sAt B k) - (q_108 + 1) < minOf (sAt B k) - q_108 from by omega))
      · refine lv_iload hx hb dX4_effort_61 (lv_at hl 5 rfl) ?_
        refine lv_iload hx hb dX4_effort_63 (lv_at hl 0 rfl) ?_
        refine va_mmax hx hb (by rw [hml]; exact hl.1.symm) hown (hts _ q1892) (hts _ q505) (hts _ q67) (hts _ q506) (Nat.le_of_ble_eq_true rfl) (Nat.le_of_ble_eq_true rfl) (show 0 ≤ 0 from by first | decide | omega) (show 0 ≤ 0 from by first | decide | omega) dX4_effort_65 ?_
        refine lv_toi (y := imax (lI (eB (sAt B k) mn q_108)) (nI (eS (sAt B k) mn (q_108 + 1)))) (rfl) ?_
        refine W.eq (g2 := F0 m 68 ls [.int (imax (lI (eB (sAt B k) mn q_108)) (nI (eS (sAt B k) mn (q_108 + 1))))]) rfl ?_
        refine lv_goto (tgt := 73) hx hb dX4_effort_68 (by decide) ?_
        refine lv_toi (y := lI (eB (sAt B k) mn (q_108 + 1))) ((imax_l (by omega) (by omega)).trans (congrArg lI (by simp only [eB]; rw [if_pos (by omega)]))) ?_
        refine lv_istore (lv' := [(4, .int (lI (eB (sAt B k) mn (q_108 + 1)))), (5, .int (nI (eS (sAt B k) mn (q_108 + 1)))), (0, .ref m0), (1, .int (nI k)), (2, .int (nI mn)), (3, .int (nI (minOf (sAt B k)))), (6, .int (nI q_108))]) hx hb dX4_effort_73 hl (by decide) rfl (fun ls hl => ?_)
        refine lv_iinc (v := nI (q_108 + 1)) (lv' := [(6, .int (nI (q_108 + 1))), (4, .int (lI (eB (sAt B k) mn (q_108 + 1)))), (5, .int (nI (eS (sAt B k) mn (q_108 + 1)))), (0, .ref m0), (1, .int (nI k)), (2, .int (nI mn)), (3, .int (nI (minOf (sAt B k))))]) hx hb dX4_effort_75 hl (k := 6) rfl (ninc (b := 1) (by decide) (by omega)) (by decide) rfl (fun ls hl => ?_)
        refine lv_goto (tgt := 15) hx hb dX4_effort_78 (by decide) ?_
        have hP : va_P G.1 CL [] H := hP.sub [] rfl
        have hD : va_D A [] := hD.sub [] (by decide) rfl
        have hl := lv_sub hl [3, 4, 5, 6, 1, 2, 0] (l' := [(0, .ref m0), (1, .int (nI k)), (2, .int (nI mn)), (3, .int (nI (minOf (sAt B k)))), (4, .int (lI (eB (sAt B k) mn (q_108 + 1)))), (5, .int (nI (eS (sAt B k) mn (q_108 + 1)))), (6, .int (nI (q_108 + 1)))]) rfl
        exact W.widen (show 0 ≤ 0 from by first | exact Nat.le_refl _ | omega) (show 0 ≤ 0 from by first | exact Nat.le_refl _ | omega) (ih15 ((q_108 + 1)) H locs ls ⟨hP, hD, hS, hl, (show (q_108 + 1) ≤ minOf (sAt B k) from by omega)⟩ (show minOf (sAt B k) - (q_108 + 1) < minOf (sAt B k) - q_108 from by omega))

set_option maxHeartbeats 4000000 in
theorem mX4_strongest (l : Launch) (G : Gt) (m0 : Nat) (sa : Nat) (oa : Nat) (pa : Nat) (la : Nat) (za : Nat) (na : Nat) (gu : Int32) (gt : Int32) (gw : Int32) (gd : Int32) (gm : Int32) (gr : Int32) (gh : Int32) (gv : Int32) (f : Nat → Int32) (B : Bk) (mn : Nat) (hM : MR f B) (hI : Inv B) (hmn : 1 ≤ mn ∧ mn ≤ 240) (hRk : RkOk B) : CT l G yX4_strongest cX4_strongest 6 (some .int) ({ frames := 4, cells := 0, slots := 0, locals := 83 } : Room) [.ref m0, .int (nI mn)] [] (fun (A : Nat → Prop) (H : Heap) => roW G A H [(m0, .inr (6, [.ref sa, .ref oa, .ref pa, .ref la, .ref za, .ref na, .int gu, .int gt, .int gw, .int gd, .int gm, .int gr, .int gh, .int gv])), (sa, .inl (G.2 0, 830, .inl f))]) (S := (Option Nat)) (fun (u_ : (Option Nat)) => some (.int (oI u_))) (fun (u_ : (Option Nat)) => ST B mn (sN B) u_) (fun (u_ : (Option Nat)) => []) (fun (u_ : (Option Nat)) (H : Heap) => True) := by
  refine CT.of (by decide) (Nat.le_of_ble_eq_true rfl) ?_
  intro p e s m below meth c ls A H locs h9 hH0 hP hS
  obtain ⟨cf, hr, hlk, hnm, hKB, hE, -, hD, -, hA, hAw, hR0, hl⟩ := h9
  have hx := cf.1
  have hb := cf.2.1
  have hml := cf.2.2.1
  have hown : s.vm.findClass RX4 = some m.cls := cf.2.2.2.1
  have hts := cf.2.2.2.2
  have hK := hKB.1
  have hl : lv_has ls 6 [(0, .ref m0), (1, .int (nI mn))] := hl
  have iN := iv_sN hI
  have iT := iv_tN hI
  have iD := iv_bD hI
  have iE := iv_bE hI
  have iW := iv_id hI
  refine lv_iconst (v := (-1)) hx hb dX4_strongest_0 (by decide) ?_
  refine lv_istore_n (lv' := [(2, .int (-1)), (0, .ref m0), (1, .int (nI mn))]) hx hb dX4_strongest_1 rfl hl (by decide) rfl (fun ls hl => ?_)
  refine lv_iconst (v := nI 0) hx hb dX4_strongest_2 (by decide) ?_
  refine lv_istore_n (lv' := [(3, .int (nI 0)), (2, .int (-1)), (0, .ref m0), (1, .int (nI mn))]) hx hb dX4_strongest_3 rfl hl (by decide) rfl (fun ls hl => ?_)
  have hl := lv_sub hl [2, 3, 1, 0] (l' := [(0, .ref m0), (1, .int (nI mn)), (2, .int (oI none)), (3, .int (nI 0))]) rfl
  refine lp_W (σ := Nat × (Option Nat)) (hpc := 4) (fun x => sN B - x.1) (fun x => 0) (fun x => 0) (fun x H locs ls => va_P G.1 CL [] H ∧ va_D A [] ∧ va_S A s.heap H locs ∧ lv_has ls 6 [(0, .ref m0), (1, .int (nI mn)), (2, .int (oI x.2)), (3, .int (nI x.1))] ∧ (x.1 ≤ sN B) ∧ (ST B mn x.1 x.2)) ?_ (0, none) ⟨(show va_P G.1 CL [] H from hP), (show va_D A [] from hD), hS, hl, (show 0 ≤ sN B from by omega), (show ST B mn 0 none from fun k hk h9 => absurd h9 (by omega))⟩ (show 0 ≤ 0 from by first | exact Nat.le_refl _ | omega) (show 0 ≤ 0 from by first | exact Nat.le_refl _ | omega)
  intro x H locs ls hI9 ih4
  obtain ⟨q_117, o_118⟩ := x
  obtain ⟨hP, hD, hS, hl, hp_115, hp_116⟩ := hI9
  have hP : va_P G.1 CL [] H := hP
  have hD : va_D A [] := hD
  have hl : lv_has ls 6 [(0, .ref m0), (1, .int (nI mn)), (2, .int (oI o_118)), (3, .int (nI q_117))] := hl
  have hp_115 : q_117 ≤ sN B := hp_115
  have hp_116 : ST B mn q_117 o_118 := hp_116
  refine lv_iload_n hx hb dX4_strongest_4 rfl (lv_at hl 3 rfl) ?_
  refine lv_aload_n hx hb dX4_strongest_5 rfl (lv_at hl 0 rfl) ?_
  refine va_get hx hb hts in_X4 hown hK (hR0.w hS) 0 rfl rfl 0 (by decide) (hts _ q1596) (fun _ h => h) rfl dX4_strongest_6 ?_
  refine lv_iconst (v := nI 2) hx hb dX4_strongest_9 (by decide) ?_
  refine r_iald (v := nI (sN B)) hx hb hK (hR0.w hS) 1 0 rfl rfl (i := 2) (by omega) (by omega) (hM.many) dX4_strongest_10 ?_
  refine n_icmp_ge (tgt := 63) hx hb (by omega) (by omega) dX4_strongest_11 (by decide) (fun c_119 => ?_) (fun c_119 => ?_)
  · refine lv_iload_n hx hb dX4_strongest_63 rfl (lv_at hl 2 rfl) ?_
    have hP9 : va_P G.1 CL [] H := hP.sub [] rfl
    have hD9 : va_D A [] := hD.sub [] (by decide) rfl
    exact end_i hx hb hr hlk (rfl) (qc_of o_118 (v := some (.int (oI o_118))) (by rfl) ((show q_117 = sN B from by omega) ▸ hp_116) hP9 hD9 (trivial) hS) hS dX4_strongest_64 (show 0 ≤ 0 from by first | exact Nat.le_refl _ | decide | omega) (show 0 ≤ 0 from by first | exact Nat.le_refl _ | decide | omega)
  · refine lv_aload_n hx hb dX4_strongest_14 rfl (lv_at hl 0 rfl) ?_
    refine lv_iload_n hx hb dX4_strongest_15 rfl (lv_at hl 3 rfl) ?_
    have hF := hF_of (wc := []) hD hS hA [] rfl
    have hro_120 : va_P G.1 CL [(m0, .inr (6, [.ref sa, .ref oa, .ref pa, .ref la, .ref za, .ref na, .int gu, .int gt, .int gw, .int gd, .int gm, .int gr, .int gh, .int gv])), (sa, .inl (G.2 0, 830, .inl f))] H := ((hR0.w hS).sub [0, 1] rfl)
    refine go_ct hS hP hD [] [] hF rfl rfl (by decide) (by decide)
        (va_runV (As := [.int (nI q_117)]) (rest := []) cf (mX4_ranked l G m0 sa oa pa la za na gu gt gw gd gm gr gh gv f B q_117 (show MR f B from by first | assumption | omega) (show Inv B from by first | assumption | omega) (show q_117 ≤ 1000 from by first | assumption | omega) H.size) (cwV 1 hts (lw_V q1771 q1773 qs33 q58 q1774) rfl rfl rfl (by decide +kernel) ⟨Nat.le_of_ble_eq_true rfl, Nat.le_of_ble_eq_true rfl⟩) (preV_of hKB hE hS hF (va_recv hK (hR0.w hS) (ci := 6) (q0 := 0) rfl rfl) (va_P.sub hP [] rfl) ((va_D.sub hD [] (by decide) rfl).weaken (fun _ _ _ _ => trivial)) (roW.nil hro_120)) rfl rfl hl.1 rfl (lv_room (Nat.le_of_ble_eq_true rfl)) dX4_strongest_16 ⟨show 0 + 0 ≤ 0 from by first | decide | omega, show 0 + 0 ≤ 0 from by first | decide | omega⟩)
        (fun u_ H locs hq hph (hP : va_P G.1 CL [] H) (hD : va_D A []) hS hfz hfk => ?_)
    obtain ⟨fo_121, rfl⟩ : ∃ z, z = u_ := ⟨_, rfl⟩
    have hP : va_P G.1 CL [] H := hP
    have hD : va_D A [] := hD
    have hq_122 : PR B q_117 (sN B) fo_121 := hq
    refine W.eq (g2 := F0 m 19 ls [.int (oI fo_121)]) rfl ?_
    rcases fo_121 with _ | k_123
    · refine lv_toi (y := (-1)) rfl ?_
      exfalso
      obtain ⟨k9, hk9, hr9⟩ := hRk q_117 (by omega)
      exact hq_122 k9 hk9 hr9
    · refine lv_ton (n := k_123) rfl ?_
      obtain ⟨hkk, hrk⟩ : k_123 < sN B ∧ rk B k_123 (sN B) = q_117 := hq_122
      refine lv_istore (lv' := [(4, .int (nI k_123)), (0, .ref m0), (1, .int (nI mn)), (2, .int (oI o_118)), (3, .int (nI q_117))]) hx hb dX4_strongest_19 hl (by decide) rfl (fun ls hl => ?_)
      have heb := effS_le hI (k := k_123) hkk mn
      refine lv_aload_n hx hb dX4_strongest_21 rfl (lv_at hl 1 rfl) ?_
      refine lv_iload hx hb dX4_strongest_22 (lv_at hl 0 rfl) ?_
      refine lv_iload_n hx hb dX4_strongest_24 rfl (lv_at hl 2 rfl) ?_
      have hF := hF_of (wc := []) hD hS hA [] rfl
      have hro_124 : va_P G.1 CL [(m0, .inr (6, [.ref sa, .ref oa, .ref pa, .ref la, .ref za, .ref na, .int gu, .int gt, .int gw, .int gd, .int gm, .int gr, .int gh, .int gv])), (sa, .inl (G.2 0, 830, .inl f))] H := ((hR0.w hS).sub [0, 1] rfl)
      refine go_ct hS hP hD [] [] hF rfl rfl (by decide) (by decide)
          (va_runV (As := [.int (nI k_123), .int (nI mn)]) (rest := []) cf (mX4_effort l G m0 sa oa pa la za na gu gt gw gd gm gr gh gv f B k_123 mn (show MR f B from by first | assumption | omega) (show Inv B from by first | assumption | omega) (show k_123 < sN B from by first | assumption | omega) (show 1 ≤ mn ∧ mn ≤ 240 from by first | assumption | omega) H.size) (cwV 2 hts (lw_V q1884 q1886 qs42 q58 q1887) rfl rfl rfl (by decide +kernel) ⟨Nat.le_of_ble_eq_true rfl, Nat.le_of_ble_eq_true rfl⟩) (preV_of hKB hE hS hF (va_recv hK (hR0.w hS) (ci := 6) (q0 := 0) rfl rfl) (va_P.sub hP [] rfl) ((va_D.sub hD [] (by decide) rfl).weaken (fun _ _ _ _ => trivial)) (roW.nil hro_124)) rfl rfl hl.1 rfl (lv_room (Nat.le_of_ble_eq_true rfl)) dX4_strongest_25 ⟨show 0 + 0 ≤ 0 from by first | decide | omega, show 0 + 0 ≤ 0 from by first | decide | omega⟩)
          (fun u_ H locs hq hph (hP : va_P G.1 CL [] H) (hD : va_D A []) hS hfz hfk => ?_)
      refine W.eq (g2 := F0 m 28 ls [.int (lI (effS (sAt B k_123) mn))]) rfl ?_
      refine lv_istore (lv' := [(5, .int (lI (effS (sAt B k_123) mn))), (4, .int (nI k_123)), (0, .ref m0), (1, .int (nI mn)), (2, .int (oI o_118)), (3, .int (nI q_117))]) hx hb dX4_strongest_28 hl (by decide) rfl (fun ls hl => ?_)
      refine lv_iload hx hb dX4_strongest_30 (lv_at hl 0 rfl) ?_
      refine lv_if_lt (tgt := 55) hx hb dX4_strongest_32 (by decide) (fun c_126 => ?_) (fun c_126 => ?_)
      · have hz9 : effS (sAt B k_123) mn = 0 := by have h8 := Int32.lt_iff_toInt_lt.mp c_126; rw [lI_toInt (by omega), (by decide : (0 : Int32).toInt = 0)] at h8; omega
        have hst9 : ST B mn (q_117 + 1) o_118 := ST_keep hI hkk hrk (by assumption) (by cases o_118 <;> (dsimp only; omega))
        refine lv_iload_n hx hb dX4_strongest_55 rfl (lv_at hl 4 rfl) ?_
        refine lv_istore_n (lv' := [(2, .int (oI o_118)), (5, .int (lI (effS (sAt B k_123) mn))), (4, .int (nI k_123)), (0, .ref m0), (1, .int (nI mn)), (3, .int (nI q_117))]) hx hb dX4_strongest_56 rfl hl (by decide) rfl (fun ls hl => ?_)
        refine lv_iinc (v := nI (q_117 + 1)) (lv' := [(3, .int (nI (q_117 + 1))), (2, .int (oI o_118)), (5, .int (lI (effS (sAt B k_123) mn))), (4, .int (nI k_123)), (0, .ref m0), (1, .int (nI mn))]) hx hb dX4_strongest_57 hl (k := 5) rfl (ninc (b := 1) (by decide) (by omega)) (by decide) rfl (fun ls hl => ?_)
        refine lv_goto (tgt := 4) hx hb dX4_strongest_60 (by decide) ?_
        have hP : va_P G.1 CL [] H := hP.sub [] rfl
        have hD : va_D A [] := hD.sub [] (by decide) rfl
        have hl := lv_sub hl [4, 5, 1, 0] (l' := [(0, .ref m0), (1, .int (nI mn)), (2, .int (oI o_118)), (3, .int (nI (q_117 + 1)))]) rfl
        exact W.widen (show 0 ≤ 0 from by first | exact Nat.le_refl _ | omega) (show 0 ≤ 0 from by first | exact Nat.le_refl _ | omega) (ih4 ((q_117 + 1), o_118) H locs ls ⟨hP, hD, hS, hl, (show (q_117 + 1) ≤ sN B from by omega), (show ST B mn (q_117 + 1) o_118 from hst9)⟩ (show sN B - (q_117 + 1) < sN B - q_117 from by omega))
      · have hz9 : 0 < effS (sAt B k_123) mn := by
          rcases Nat.eq_zero_or_pos (effS (sAt B k_123) mn) with z | z
          · exfalso; apply c_126; rw [z]; decide
          · exact z
        rcases o_118 with _ | b_127
        · have hP : va_P G.1 CL [] H := hP
          have hD : va_D A [] := hD
          have hl : lv_has ls 6 [(5, .int (lI (effS (sAt B k_123) mn))), (4, .int (nI k_123)), (0, .ref m0), (1, .int (nI mn)), (2, .int (-1)), (3, .int (nI q_117))] := hl
          refine W.eq (g2 := F0 m 35 ls []) rfl ?_
          have hst9 : ST B mn (q_117 + 1) (some k_123) := ST_new (o := none) hI hkk hrk (by assumption) hz9 trivial
          refine lv_iload_n hx hb dX4_strongest_35 rfl (lv_at hl 4 rfl) ?_
          refine lv_if_lt (tgt := 50) hx hb dX4_strongest_36 (by decide) (fun c_128 => ?_) (fun c_128 => absurd c_128 (by decide))
          refine lv_iload hx hb dX4_strongest_50 (lv_at hl 1 rfl) ?_
          refine lv_goto (tgt := 56) hx hb dX4_strongest_52 (by decide) ?_
          refine lv_toi (y := oI (some k_123)) (rfl) ?_
          refine lv_istore_n (lv' := [(2, .int (oI (some k_123))), (5, .int (lI (effS (sAt B k_123) mn))), (4, .int (nI k_123)), (0, .ref m0), (1, .int (nI mn)), (3, .int (nI q_117))]) hx hb dX4_strongest_56 rfl hl (by decide) rfl (fun ls hl => ?_)
          refine lv_iinc (v := nI (q_117 + 1)) (lv' := [(3, .int (nI (q_117 + 1))), (2, .int (oI (some k_123))), (5, .int (lI (effS (sAt B k_123) mn))), (4, .int (nI k_123)), (0, .ref m0), (1, .int (nI mn))]) hx hb dX4_strongest_57 hl (k := 5) rfl (ninc (b := 1) (by decide) (by omega)) (by decide) rfl (fun ls hl => ?_)
          refine lv_goto (tgt := 4) hx hb dX4_strongest_60 (by decide) ?_
          have hP : va_P G.1 CL [] H := hP.sub [] rfl
          have hD : va_D A [] := hD.sub [] (by decide) rfl
          have hl := lv_sub hl [4, 5, 1, 0] (l' := [(0, .ref m0), (1, .int (nI mn)), (2, .int (oI (some k_123))), (3, .int (nI (q_117 + 1)))]) rfl
          exact W.widen (show 0 ≤ 0 from by first | exact Nat.le_refl _ | omega) (show 0 ≤ 0 from by first | exact Nat.le_refl _ | omega) (ih4 ((q_117 + 1), (some k_123)) H locs ls ⟨hP, hD, hS, hl, (show (q_117 + 1) ≤ sN B from by omega), (show ST B mn (q_117 + 1) (some k_123) from hst9)⟩ (show sN B - (q_117 + 1) < sN B - q_117 from by omega))
        · have hP : va_P G.1 CL [] H := hP
          have hD : va_D A [] := hD
          have hl : lv_has ls 6 [(5, .int (lI (effS (sAt B k_123) mn))), (4, .int (nI k_123)), (0, .ref m0), (1, .int (nI mn)), (2, .int (nI b_127)), (3, .int (nI q_117))] := hl
          refine W.eq (g2 := F0 m 35 ls []) rfl ?_
          have hb1 : b_127 < sN B := (hp_116).1
          refine lv_iload_n hx hb dX4_strongest_35 rfl (lv_at hl 4 rfl) ?_
          refine n_if_lt (tgt := 50) hx hb (by omega) dX4_strongest_36 (by decide) ?_
          refine lv_iload hx hb dX4_strongest_39 (lv_at hl 0 rfl) ?_
          refine lv_aload_n hx hb dX4_strongest_41 rfl (lv_at hl 2 rfl) ?_
          refine lv_iload_n hx hb dX4_strongest_42 rfl (lv_at hl 4 rfl) ?_
          refine lv_iload_n hx hb dX4_strongest_43 rfl (lv_at hl 3 rfl) ?_
          have hF := hF_of (wc := []) hD hS hA [] rfl
          have hro_129 : va_P G.1 CL [(m0, .inr (6, [.ref sa, .ref oa, .ref pa, .ref la, .ref za, .ref na, .int gu, .int gt, .int gw, .int gd, .int gm, .int gr, .int gh, .int gv])), (sa, .inl (G.2 0, 830, .inl f))] H := ((hR0.w hS).sub [0, 1] rfl)
          refine go_ct hS hP hD [] [] hF rfl rfl (by decide) (by decide)
              (va_runV (As := [.int (nI b_127), .int (nI mn)]) (rest := [.int (lI (effS (sAt B k_123) mn))]) cf (mX4_effort l G m0 sa oa pa la za na gu gt gw gd gm gr gh gv f B b_127 mn (show MR f B from by first | assumption | omega) (show Inv B from by first | assumption | omega) (show b_127 < sN B from by first | assumption | omega) (show 1 ≤ mn ∧ mn ≤ 240 from by first | assumption | omega) H.size) (cwV 2 hts (lw_V q1884 q1886 qs42 q58 q1887) rfl rfl rfl (by decide +kernel) ⟨Nat.le_of_ble_eq_true rfl, Nat.le_of_ble_eq_true rfl⟩) (preV_of hKB hE hS hF (va_recv hK (hR0.w hS) (ci := 6) (q0 := 0) rfl rfl) (va_P.sub hP [] rfl) ((va_D.sub hD [] (by decide) rfl).weaken (fun _ _ _ _ => trivial)) (roW.nil hro_129)) rfl rfl hl.1 rfl (lv_room (Nat.le_of_ble_eq_true rfl)) dX4_strongest_44 ⟨show 0 + 0 ≤ 0 from by first | decide | omega, show 0 + 0 ≤ 0 from by first | decide | omega⟩)
              (fun u_ H locs hq hph (hP : va_P G.1 CL [] H) (hD : va_D A []) hS hfz hfk => ?_)
          refine W.eq (g2 := F0 m 47 ls [.int (lI (effS (sAt B b_127) mn)), .int (lI (effS (sAt B k_123) mn))]) rfl ?_
          have heb2 := effS_le hI (k := b_127) hb1 mn
          refine lv_icmp_le (tgt := 55) hx hb dX4_strongest_47 (by decide) (fun c_130 => ?_) (fun c_130 => ?_)
          · have hz8 : effS (sAt B k_123) mn ≤ effS (sAt B b_127) mn := by have h8 := Int32.le_iff_toInt_le.mp c_130; rw [lI_toInt (by omega), lI_toInt (by omega)] at h8; omega
            have hst9 : ST B mn (q_117 + 1) (some b_127) := ST_keep hI hkk hrk (by assumption) hz8
            refine lv_iload_n hx hb dX4_strongest_55 rfl (lv_at hl 4 rfl) ?_
            refine lv_toi (y := oI (some b_127)) (rfl) ?_
            refine lv_istore_n (lv' := [(2, .int (oI (some b_127))), (5, .int (lI (effS (sAt B k_123) mn))), (4, .int (nI k_123)), (0, .ref m0), (1, .int (nI mn)), (3, .int (nI q_117))]) hx hb dX4_strongest_56 rfl hl (by decide) rfl (fun ls hl => ?_)
            refine lv_iinc (v := nI (q_117 + 1)) (lv' := [(3, .int (nI (q_117 + 1))), (2, .int (oI (some b_127))), (5, .int (lI (effS (sAt B k_123) mn))), (4, .int (nI k_123)), (0, .ref m0), (1, .int (nI mn))]) hx hb dX4_strongest_57 hl (k := 5) rfl (ninc (b := 1) (by decide) (by omega)) (by decide) rfl (fun ls hl => ?_)
            refine lv_goto (tgt := 4) hx hb dX4_strongest_60 (by decide) ?_
            have hP : va_P G.1 CL [] H := hP.sub [] rfl
            have hD : va_D A [] := hD.sub [] (by decide) rfl
            have hl := lv_sub hl [4, 5, 1, 0] (l' := [(0, .ref m0), (1, .int (nI mn)), (2, .int (oI (some b_127))), (3, .int (nI (q_117 + 1)))]) rfl
            exact W.widen (show 0 ≤ 0 from by first | exact Nat.le_refl _ | omega) (show 0 ≤ 0 from by first | exact Nat.le_refl _ | omega) (ih4 ((q_117 + 1), (some b_127)) H locs ls ⟨hP, hD, hS, hl, (show (q_117 + 1) ≤ sN B from by omega), (show ST B mn (q_117 + 1) (some b_127) from hst9)⟩ (show sN B - (q_117 + 1) < sN B - q_117 from by omega))
          · have hz8 : effS (sAt B b_127) mn < effS (sAt B k_123) mn := by have h8 := Int32.lt_iff_toInt_lt.mp (Int32.not_le.mp c_130); rw [lI_toInt (by omega), lI_toInt (by omega)] at h8; omega
            have hst9 : ST B mn (q_117 + 1) (some k_123) := ST_new (o := some b_127) hI hkk hrk (by assumption) hz9 hz8
            refine lv_iload hx hb dX4_strongest_50 (lv_at hl 1 rfl) ?_
            refine lv_goto (tgt := 56) hx hb dX4_strongest_52 (by decide) ?_
            refine lv_toi (y := oI (some k_123)) (rfl) ?_
            refine lv_istore_n (lv' := [(2, .int (oI (some k_123))), (5, .int (lI (effS (sAt B k_123) mn))), (4, .int (nI k_123)), (0, .ref m0), (1, .int (nI mn)), (3, .int (nI q_117))]) hx hb dX4_strongest_56 rfl hl (by decide) rfl (fun ls hl => ?_)
            refine lv_iinc (v := nI (q_117 + 1)) (lv' := [(3, .int (nI (q_117 + 1))), (2, .int (oI (some k_123))), (5, .int (lI (effS (sAt B k_123) mn))), (4, .int (nI k_123)), (0, .ref m0), (1, .int (nI mn))]) hx hb dX4_strongest_57 hl (k := 5) rfl (ninc (b := 1) (by decide) (by omega)) (by decide) rfl (fun ls hl => ?_)
            refine lv_goto (tgt := 4) hx hb dX4_strongest_60 (by decide) ?_
            have hP : va_P G.1 CL [] H := hP.sub [] rfl
            have hD : va_D A [] := hD.sub [] (by decide) rfl
            have hl := lv_sub hl [4, 5, 1, 0] (l' := [(0, .ref m0), (1, .int (nI mn)), (2, .int (oI (some k_123))), (3, .int (nI (q_117 + 1)))]) rfl
            exact W.widen (show 0 ≤ 0 from by first | exact Nat.le_refl _ | omega) (show 0 ≤ 0 from by first | exact Nat.le_refl _ | omega) (ih4 ((q_117 + 1), (some k_123)) H locs ls ⟨hP, hD, hS, hl, (show (q_117 + 1) ≤ sN B from by omega), (show ST B mn (q_117 + 1) (some k_123) from hst9)⟩ (show sN B - (q_117 + 1) < sN B - q_117 from by omega))
