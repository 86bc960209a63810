/-! the model: week, undo, snapshot -/
set_option maxRecDepth 100000
set_option maxHeartbeats 4000000 in
theorem mX4_writeWeek (l : Launch) (G : Gt) (m0 : Nat) (sa : Nat) (oa : Nat) (pa : Nat) (la : Nat) (za : Nat) (na : Nat) (gu : Int32) (gt : Int32) (gd : Int32) (gm : Int32) (gr : Int32) (gh : Int32) (gv : Int32) (f : Nat → Int32) (B : Bk) (zf : Nat → Int32) (nc : Nat → Nat) (w9 : Nat) (v : Int32) (hM : MR f B) (hI : Inv B) : CT l G yX4_writeWeek cX4_writeWeek 3 (some .int) ({ frames := 5, cells := 0, slots := 0, locals := 108 } : Room) [.ref m0, .int v] [(m0, .inr (6, [.ref sa, .ref oa, .ref pa, .ref la, .ref za, .ref na, .int gu, .int gt, .int (nI w9), .int gd, .int gm, .int gr, .int gh, .int gv])), (za, .inl (G.2 0, 6, .inl zf)), (na, .inl (G.2 2, 13, .inl (fun j9 => nI (nc j9))))] (fun (A : Nat → Prop) (H : Heap) => roW G A H [(sa, .inl (G.2 0, 830, .inl f))]) (S := Nat × Int32 × (Nat → Nat) × Nat × (Nat → Int32)) (fun (u_ : Nat × Int32 × (Nat → Nat) × Nat × (Nat → Int32)) => some (.int u_.2.1)) (fun (u_ : Nat × Int32 × (Nat → Nat) × Nat × (Nat → Int32)) => WeekP B v nc w9 u_.1 u_.2.1 u_.2.2.1 u_.2.2.2.1) (fun (u_ : Nat × Int32 × (Nat → Nat) × Nat × (Nat → Int32)) => [(m0, .inr (6, [.ref sa, .ref oa, .ref pa, .ref la, .ref za, .ref na, .int gu, .int gt, .int (nI u_.2.2.2.1), .int gd, .int gm, .int gr, .int (nI u_.1), .int gv])), (za, .inl (G.2 0, 6, .inl u_.2.2.2.2)), (na, .inl (G.2 2, 13, .inl (fun j9 => nI (u_.2.2.1 j9))))]) (fun (u_ : Nat × Int32 × (Nat → Nat) × Nat × (Nat → Int32)) (H : Heap) => True) := by
  refine CT.of (by decide) (Nat.le_of_ble_eq_true rfl) ?_
  intro p e s m below meth c ls A H locs h9 hH0 hP hS
  obtain ⟨cf, hr, hlk, hnm, hKB, hE, -, hD, -, hA, hAw, hR0, hl⟩ := h9
  have hx := cf.1
  have hb := cf.2.1
  have hml := cf.2.2.1
  have hown : s.vm.findClass RX4 = some m.cls := cf.2.2.2.1
  have hts := cf.2.2.2.2
  have hK := hKB.1
  have hl : lv_has ls 3 [(0, .ref m0), (1, .int v)] := hl
  have iN := iv_sN hI
  have iT := iv_tN hI
  have iD := iv_bD hI
  have iE := iv_bE hI
  have iW := iv_id hI
  refine lv_aload_n hx hb dX4_writeWeek_0 rfl (lv_at hl 0 rfl) ?_
  refine lv_aload_n hx hb dX4_writeWeek_1 rfl (lv_at hl 0 rfl) ?_
  refine lv_iload_n hx hb dX4_writeWeek_2 rfl (lv_at hl 1 rfl) ?_
  have hF := hF_of (wc := []) hD hS hA [] rfl
  have hro_887 : va_P G.1 CL [(m0, .inr (6, [.ref sa, .ref oa, .ref pa, .ref la, .ref za, .ref na, .int gu, .int gt, .int (nI w9), .int gd, .int gm, .int gr, .int gh, .int gv])), (sa, .inl (G.2 0, 830, .inl f))] H := ((va_P.sub hP [0] rfl).app ((hR0.w hS).sub [0] rfl))
  refine go_ct hS hP hD [] [0, 1, 2] hF rfl rfl (by decide) (by decide)
      (va_runV (As := [.int v]) (rest := [.ref m0]) cf (mX4_isNoDay l G m0 sa oa pa la za na gu gt (nI w9) gd gm gr gh gv f B v (show MR f B from by first | assumption | omega) (show Inv B from by first | assumption | omega) H.size) (cwV 1 hts (lw_V q1667 q1669 qs22 q58 q1670) rfl rfl rfl (by decide +kernel) ⟨Nat.le_of_ble_eq_true rfl, Nat.le_of_ble_eq_true rfl⟩) (preV_of hKB hE hS hF (va_recv hK hP (ci := 6) (q0 := 0) rfl rfl) (va_P.sub hP [] rfl) ((va_D.sub hD [] (by decide) rfl).weaken (fun _ _ _ _ => trivial)) (roW.nil hro_887)) rfl rfl hl.1 rfl (lv_room (Nat.le_of_ble_eq_true rfl)) dX4_writeWeek_3 ⟨show 0 + 0 ≤ 0 from by first | decide | omega, show 0 + 0 ≤ 0 from by first | decide | omega⟩)
      (fun u_ H locs hq hph (hP : va_P G.1 CL [(m0, .inr (6, [.ref sa, .ref oa, .ref pa, .ref la, .ref za, .ref na, .int gu, .int gt, .int (nI w9), .int gd, .int gm, .int gr, .int gh, .int gv])), (za, .inl (G.2 0, 6, .inl zf)), (na, .inl (G.2 2, 13, .inl (fun j9 => nI (nc j9))))] H) (hD : va_D A [(m0, .inr (6, [.ref sa, .ref oa, .ref pa, .ref la, .ref za, .ref na, .int gu, .int gt, .int (nI w9), .int gd, .int gm, .int gr, .int gh, .int gv])), (za, .inl (G.2 0, 6, .inl zf)), (na, .inl (G.2 2, 13, .inl (fun j9 => nI (nc j9))))]) hS hfz hfk => ?_)
  obtain ⟨b_888, rfl⟩ : ∃ z, z = u_ := ⟨_, rfl⟩
  have hP : va_P G.1 CL [(m0, .inr (6, [.ref sa, .ref oa, .ref pa, .ref la, .ref za, .ref na, .int gu, .int gt, .int (nI w9), .int gd, .int gm, .int gr, .int gh, .int gv])), (za, .inl (G.2 0, 6, .inl zf)), (na, .inl (G.2 2, 13, .inl (fun j9 => nI (nc j9))))] H := hP
  have hD : va_D A [(m0, .inr (6, [.ref sa, .ref oa, .ref pa, .ref la, .ref za, .ref na, .int gu, .int gt, .int (nI w9), .int gd, .int gm, .int gr, .int gh, .int gv])), (za, .inl (G.2 0, 6, .inl zf)), (na, .inl (G.2 2, 13, .inl (fun j9 => nI (nc j9))))] := hD
  have hq_889 : (b_888 = true ↔ ¬ (nI 0 ≤ v ∧ v ≤ nI (bD B))) := hq
  refine W.eq (g2 := F0 m 6 ls [.int (bI b_888), .ref m0]) rfl ?_
  cases b_888
  · refine lv_ton (n := 0) rfl ?_
    have hin_890 : nI 0 ≤ v ∧ v ≤ nI (bD B) := Classical.not_not.mp (fun z => absurd (hq_889.mpr z) (by decide))
    obtain ⟨d_891, hv_892, h_893, h_894⟩ := in_nat (lo := 0) (hi := bD B) (by omega) (by omega) hin_890.1 hin_890.2
    have hir_895 : inR v 0 (bD B) = some d_891 := inR_some hv_892 h_893 h_894 (by omega)
    have hl : lv_has ls 3 [(0, .ref m0), (1, .int (nI d_891))] := by
      have e9 : ((.int (nI d_891)) : Value) = .int v := by rw [hv_892]
      rw [e9]; exact hl
    refine lv_iconst (v := nI 1) hx hb dX4_writeWeek_6 (by decide) ?_
    have hF := hF_of (wc := [(m0, .inr (6, [.ref sa, .ref oa, .ref pa, .ref la, .ref za, .ref na, .int gu, .int gt, .int (nI w9), .int gd, .int gm, .int gr, .int gh, .int gv]))]) hD hS hA [0] rfl
    refine go_ct hS hP hD [0] [1, 2] hF rfl rfl (by decide) (by decide)
        (va_runV (As := [.int (nI 0), .int (nI 1)]) (rest := []) cf (mX4_isThrown_f l G m0 sa oa pa la za na gu gt (nI w9) gd gm gr gh gv 1  H.size) (cwV 2 hts (lw_V q1650 q1652 qs20 q58 q1653) rfl rfl rfl (by decide +kernel) ⟨Nat.le_of_ble_eq_true rfl, Nat.le_of_ble_eq_true rfl⟩) (preV_of hKB hE hS hF (va_recv hK hP (ci := 6) (q0 := 0) rfl rfl) (va_P.sub hP [0] rfl) ((va_D.sub hD [0] (by decide) rfl).weaken (fun _ _ _ _ => trivial)) trivial) rfl rfl hl.1 rfl (lv_room (Nat.le_of_ble_eq_true rfl)) dX4_writeWeek_7 ⟨show 0 + 0 ≤ 0 from by first | decide | omega, show 0 + 0 ≤ 0 from by first | decide | omega⟩)
        (fun u_ H locs hq hph (hP : va_P G.1 CL [(za, .inl (G.2 0, 6, .inl zf)), (na, .inl (G.2 2, 13, .inl (fun j9 => nI (nc j9)))), (m0, .inr (6, [.ref sa, .ref oa, .ref pa, .ref la, .ref za, .ref na, .int gu, .int gt, .int (nI w9), .int gd, .int gm, .int gr, .int (nI 0), .int gv]))] H) (hD : va_D A [(za, .inl (G.2 0, 6, .inl zf)), (na, .inl (G.2 2, 13, .inl (fun j9 => nI (nc j9)))), (m0, .inr (6, [.ref sa, .ref oa, .ref pa, .ref la, .ref za, .ref na, .int gu, .int gt, .int (nI w9), .int gd, .int gm, .int gr, .int (nI 0), .int gv]))]) hS hfz hfk => ?_)
    refine W.eq (g2 := F0 m 10 ls [.int (nI 0)]) rfl ?_
    refine n_if_eq (tgt := 15) hx hb (by omega) dX4_writeWeek_10 (by decide) (fun c_896 => ?_) (fun c_896 => absurd c_896 (by omega))
    refine lv_iconst (v := nI 0) hx hb dX4_writeWeek_15 (by decide) ?_
    refine lv_istore_n (lv' := [(2, .int (nI 0)), (0, .ref m0), (1, .int (nI d_891))]) hx hb dX4_writeWeek_16 rfl hl (by decide) rfl (fun ls hl => ?_)
    have hl := lv_sub hl [1, 2, 0] (l' := [(0, .ref m0), (1, .int (nI d_891)), (2, .int (nI 0))]) rfl
    refine lp_W (σ := Nat × (Nat → Int32) × (Nat → Int32)) (hpc := 17) (fun x => 13 - x.1) (fun x => 0) (fun x => 0) (fun x H locs ls => va_P G.1 CL [(za, .inl (G.2 0, 6, .inl x.2.2)), (na, .inl (G.2 2, 13, .inl x.2.1)), (m0, .inr (6, [.ref sa, .ref oa, .ref pa, .ref la, .ref za, .ref na, .int gu, .int gt, .int (nI w9), .int gd, .int gm, .int gr, .int (nI 0), .int gv]))] H ∧ va_D A [(za, .inl (G.2 0, 6, .inl x.2.2)), (na, .inl (G.2 2, 13, .inl x.2.1)), (m0, .inr (6, [.ref sa, .ref oa, .ref pa, .ref la, .ref za, .ref na, .int gu, .int gt, .int (nI w9), .int gd, .int gm, .int gr, .int (nI 0), .int gv]))] ∧ va_S A s.heap H locs ∧ lv_has ls 3 [(0, .ref m0), (1, .int (nI d_891)), (2, .int (nI x.1))] ∧ (x.1 ≤ 13) ∧ (∀ z9, z9 < x.1 → x.2.1 z9 = nI (wkF B d_891 z9))) ?_ (0, fun j9 => nI (nc j9), zf) ⟨(show va_P G.1 CL [(za, .inl (G.2 0, 6, .inl zf)), (na, .inl (G.2 2, 13, .inl (fun j9 => nI (nc j9)))), (m0, .inr (6, [.ref sa, .ref oa, .ref pa, .ref la, .ref za, .ref na, .int gu, .int gt, .int (nI w9), .int gd, .int gm, .int gr, .int (nI 0), .int gv]))] H from hP), (show va_D A [(za, .inl (G.2 0, 6, .inl zf)), (na, .inl (G.2 2, 13, .inl (fun j9 => nI (nc j9)))), (m0, .inr (6, [.ref sa, .ref oa, .ref pa, .ref la, .ref za, .ref na, .int gu, .int gt, .int (nI w9), .int gd, .int gm, .int gr, .int (nI 0), .int gv]))] from hD), hS, hl, (show 0 ≤ 13 from by omega), (show ∀ z9, z9 < 0 → (fun j9 => nI (nc j9)) z9 = nI (wkF B d_891 z9) from fun z hz => absurd hz (by omega))⟩ (show 0 ≤ 0 from by first | exact Nat.le_refl _ | omega) (show 0 ≤ 0 from by first | exact Nat.le_refl _ | omega)
    intro x H locs ls hI9 ih17
    obtain ⟨k_899, g_900, zg_901⟩ := x
    obtain ⟨hP, hD, hS, hl, hp_897, hp_898⟩ := hI9
    have hP : va_P G.1 CL [(za, .inl (G.2 0, 6, .inl zg_901)), (na, .inl (G.2 2, 13, .inl g_900)), (m0, .inr (6, [.ref sa, .ref oa, .ref pa, .ref la, .ref za, .ref na, .int gu, .int gt, .int (nI w9), .int gd, .int gm, .int gr, .int (nI 0), .int gv]))] H := hP
    have hD : va_D A [(za, .inl (G.2 0, 6, .inl zg_901)), (na, .inl (G.2 2, 13, .inl g_900)), (m0, .inr (6, [.ref sa, .ref oa, .ref pa, .ref la, .ref za, .ref na, .int gu, .int gt, .int (nI w9), .int gd, .int gm, .int gr, .int (nI 0), .int gv]))] := hD
    have hl : lv_has ls 3 [(0, .ref m0), (1, .int (nI d_891)), (2, .int (nI k_899))] := hl
    have hp_897 : k_899 ≤ 13 := hp_897
    have hp_898 : ∀ z9, z9 < k_899 → g_900 z9 = nI (wkF B d_891 z9) := hp_898
    refine lv_iload_n hx hb dX4_writeWeek_17 rfl (lv_at hl 2 rfl) ?_
    refine lv_bipush (v := nI 13) hx hb dX4_writeWeek_18 (by decide) ?_
    refine n_icmp_ge (tgt := 56) hx hb (by omega) (by omega) dX4_writeWeek_20 (by decide) (fun c_902 => ?_) (fun c_902 => ?_)
    · have he_903 : ∀ j9, j9 < 13 → g_900 j9 = (fun j9 => nI (wkF B d_891 j9)) j9 := fun z hz => hp_898 z (by omega)
      have hP : va_P G.1 CL [(za, .inl (G.2 0, 6, .inl zg_901)), (na, .inl (G.2 2, 13, .inl (fun j9 => nI (wkF B d_891 j9)))), (m0, .inr (6, [.ref sa, .ref oa, .ref pa, .ref la, .ref za, .ref na, .int gu, .int gt, .int (nI w9), .int gd, .int gm, .int gr, .int (nI 0), .int gv]))] H := va_P.extI hP 1 rfl he_903
      have hD : va_D A [(za, .inl (G.2 0, 6, .inl zg_901)), (na, .inl (G.2 2, 13, .inl (fun j9 => nI (wkF B d_891 j9)))), (m0, .inr (6, [.ref sa, .ref oa, .ref pa, .ref la, .ref za, .ref na, .int gu, .int gt, .int (nI w9), .int gd, .int gm, .int gr, .int (nI 0), .int gv]))] := hD.set (p := 1) rfl
      refine lv_aload_n hx hb dX4_writeWeek_56 rfl (lv_at hl 0 rfl) ?_
      refine lv_bipush (v := nI 13) hx hb dX4_writeWeek_57 (by decide) ?_
      refine va_put (v := .int (nI 13)) (ty := .int) hx hb hts in_X4 tyX4 tyX4_ok nmX4 hown hK hP hD hS 2 rfl rfl 8 (by decide) (hts _ q1604) (fun _ h => h) rfl (by decide +kernel) rfl rfl (Nat.le_of_ble_eq_true rfl) dX4_writeWeek_59 (fun H locs (hP : va_P G.1 CL [(za, .inl (G.2 0, 6, .inl zg_901)), (na, .inl (G.2 2, 13, .inl (fun j9 => nI (wkF B d_891 j9)))), (m0, .inr (6, [.ref sa, .ref oa, .ref pa, .ref la, .ref za, .ref na, .int gu, .int gt, .int (nI 13), .int gd, .int gm, .int gr, .int (nI 0), .int gv]))] H) (hD : va_D A [(za, .inl (G.2 0, 6, .inl zg_901)), (na, .inl (G.2 2, 13, .inl (fun j9 => nI (wkF B d_891 j9)))), (m0, .inr (6, [.ref sa, .ref oa, .ref pa, .ref la, .ref za, .ref na, .int gu, .int gt, .int (nI 13), .int gd, .int gm, .int gr, .int (nI 0), .int gv]))]) hS => ?_)
      refine lv_bipush (v := nI 13) hx hb dX4_writeWeek_62 (by decide) ?_
      have hP9 : va_P G.1 CL [(m0, .inr (6, [.ref sa, .ref oa, .ref pa, .ref la, .ref za, .ref na, .int gu, .int gt, .int (nI 13), .int gd, .int gm, .int gr, .int (nI 0), .int gv])), (za, .inl (G.2 0, 6, .inl zg_901)), (na, .inl (G.2 2, 13, .inl (fun j9 => nI (wkF B d_891 j9))))] H := hP.sub [2, 0, 1] rfl
      have hD9 : va_D A [(m0, .inr (6, [.ref sa, .ref oa, .ref pa, .ref la, .ref za, .ref na, .int gu, .int gt, .int (nI 13), .int gd, .int gm, .int gr, .int (nI 0), .int gv])), (za, .inl (G.2 0, 6, .inl zg_901)), (na, .inl (G.2 2, 13, .inl (fun j9 => nI (wkF B d_891 j9))))] := hD.sub [2, 0, 1] (by decide) rfl
      exact end_i hx hb hr hlk (rfl) (qc_of ⟨0, nI 13, wkF B d_891, 13, zg_901⟩ (v := some (.int (nI 13))) (by rfl) (by unfold WeekP; rw [hir_895]; exact ⟨rfl, rfl, rfl, rfl⟩) hP9 hD9 (trivial) hS) hS dX4_writeWeek_64 (show 0 ≤ 0 from by first | exact Nat.le_refl _ | decide | omega) (show 0 ≤ 0 from by first | exact Nat.le_refl _ | decide | omega)
    · refine lv_aload_n hx hb dX4_writeWeek_23 rfl (lv_at hl 0 rfl) ?_
      refine va_get hx hb hts in_X4 hown hK hP 2 rfl rfl 5 (by decide) (hts _ q1601) (fun _ h => h) rfl dX4_writeWeek_24 ?_
      refine lv_iload_n hx hb dX4_writeWeek_27 rfl (lv_at hl 2 rfl) ?_
      refine lv_iload_n hx hb dX4_writeWeek_28 rfl (lv_at hl 2 rfl) ?_
      refine lv_iconst (v := nI 2) hx hb dX4_writeWeek_29 (by decide) ?_
      refine lv_irem hx hb dX4_writeWeek_30 (by decide) ?_
      refine lv_ton (n := (k_899 % 2)) (nrem (by omega) (by omega) (by omega) rfl) ?_
      refine lv_iconst (v := nI 1) hx hb dX4_writeWeek_31 (by decide) ?_
      refine n_icmp_ne (tgt := 40) hx hb (by omega) (by omega) dX4_writeWeek_32 (by decide) (fun c_904 => ?_) (fun c_904 => ?_)
      · refine lv_aload_n hx hb dX4_writeWeek_40 rfl (lv_at hl 0 rfl) ?_
        refine lv_iload_n hx hb dX4_writeWeek_41 rfl (lv_at hl 1 rfl) ?_
        refine lv_iload_n hx hb dX4_writeWeek_42 rfl (lv_at hl 2 rfl) ?_
        refine lv_iconst (v := nI 2) hx hb dX4_writeWeek_43 (by decide) ?_
        refine lv_idiv hx hb dX4_writeWeek_44 (by decide) ?_
        refine lv_ton (n := (k_899 / 2)) (ndiv (by omega) (by omega) (by omega) rfl) ?_
        refine lv_iadd hx hb dX4_writeWeek_45 ?_
        refine lv_ton (n := d_891 + (k_899 / 2)) (nadd (by omega)) ?_
        have hF := hF_of (wc := [(za, .inl (G.2 0, 6, .inl zg_901))]) hD hS hA [0] rfl
        have hro_905 : roW G (va_A [(za, .inl (G.2 0, 6, .inl zg_901))] H.size) H [(m0, .inr (6, [.ref sa, .ref oa, .ref pa, .ref la, .ref za, .ref na, .int gu, .int gt, .int (nI w9), .int gd, .int gm, .int gr, .int (nI 0), .int gv])), (sa, .inl (G.2 0, 830, .inl f))] := ((roW.of (w' := [(m0, .inr (6, [.ref sa, .ref oa, .ref pa, .ref la, .ref za, .ref na, .int gu, .int gt, .int (nI w9), .int gd, .int gm, .int gr, .int (nI 0), .int gv]))]) hP hD [0] [2] rfl rfl (by decide)).app ((hR0.kp hF hS.2.1).sub (ws' := [(sa, .inl (G.2 0, 830, .inl f))]) [0] rfl))
        refine go_ct hS hP hD [0] [1, 2] hF rfl rfl (by decide) (by decide)
            (va_runV (As := [.int (nI (d_891 + (k_899 / 2)))]) (rest := [.int (nI k_899), .ref na]) cf (mX4_told l G m0 sa oa pa la za na gu gt (nI w9) gd gm gr (nI 0) gv f B zg_901 (d_891 + (k_899 / 2)) (show MR f B from by first | assumption | omega) (show Inv B from by first | assumption | omega) (show (d_891 + (k_899 / 2)) ≤ 1000 from by first | assumption | omega) H.size) (cwV 1 hts (lw_V q1942 q1944 qs45 q58 q1945) rfl rfl rfl (by decide +kernel) ⟨Nat.le_of_ble_eq_true rfl, Nat.le_of_ble_eq_true rfl⟩) (preV_of hKB hE hS hF (va_recv hK hP (ci := 6) (q0 := 2) rfl rfl) (va_P.sub hP [0] rfl) ((va_D.sub hD [0] (by decide) rfl).weaken (fun _ _ _ _ => trivial)) hro_905) rfl rfl hl.1 rfl (lv_room (Nat.le_of_ble_eq_true rfl)) dX4_writeWeek_46 ⟨show 0 + 0 ≤ 0 from by first | decide | omega, show 0 + 0 ≤ 0 from by first | decide | omega⟩)
            (fun u_ H locs hq hph (hP : va_P G.1 CL [(na, .inl (G.2 2, 13, .inl g_900)), (m0, .inr (6, [.ref sa, .ref oa, .ref pa, .ref la, .ref za, .ref na, .int gu, .int gt, .int (nI w9), .int gd, .int gm, .int gr, .int (nI 0), .int gv])), (za, .inl (G.2 0, 6, .inl u_))] H) (hD : va_D A [(na, .inl (G.2 2, 13, .inl g_900)), (m0, .inr (6, [.ref sa, .ref oa, .ref pa, .ref la, .ref za, .ref na, .int gu, .int gt, .int (nI w9), .int gd, .int gm, .int gr, .int (nI 0), .int gv])), (za, .inl (G.2 0, 6, .inl u_))]) hS hfz hfk => ?_)
        obtain ⟨zg_906, rfl⟩ : ∃ z, z = u_ := ⟨_, rfl⟩
        have hP : va_P G.1 CL [(na, .inl (G.2 2, 13, .inl g_900)), (m0, .inr (6, [.ref sa, .ref oa, .ref pa, .ref la, .ref za, .ref na, .int gu, .int gt, .int (nI w9), .int gd, .int gm, .int gr, .int (nI 0), .int gv])), (za, .inl (G.2 0, 6, .inl zg_906))] H := hP
        have hD : va_D A [(na, .inl (G.2 2, 13, .inl g_900)), (m0, .inr (6, [.ref sa, .ref oa, .ref pa, .ref la, .ref za, .ref na, .int gu, .int gt, .int (nI w9), .int gd, .int gm, .int gr, .int (nI 0), .int gv])), (za, .inl (G.2 0, 6, .inl zg_906))] := hD
        refine W.eq (g2 := F0 m 49 ls [.int (nI (signS B (d_891 + (k_899 / 2)))), .int (nI k_899), .ref na]) rfl ?_
        have hw9 := wkF_lt B d_891 k_899
        refine lv_ton (n := (wkF B d_891 k_899)) (congrArg nI (by unfold wkF; first | rw [if_pos (by omega)] | rw [if_neg (by omega)])) ?_
        refine r_cast (v := nI (wkF B d_891 k_899)) hx hb hK hP hD hS 0 2 rfl rfl (i := k_899) (by omega) (by omega) (nar_c (by omega)) dX4_writeWeek_49 (fun H locs (hP : va_P G.1 CL [(na, .inl (G.2 2, 13, .inl (upd g_900 k_899 (nI (wkF B d_891 k_899))))), (m0, .inr (6, [.ref sa, .ref oa, .ref pa, .ref la, .ref za, .ref na, .int gu, .int gt, .int (nI w9), .int gd, .int gm, .int gr, .int (nI 0), .int gv])), (za, .inl (G.2 0, 6, .inl zg_906))] H) (hD : va_D A [(na, .inl (G.2 2, 13, .inl (upd g_900 k_899 (nI (wkF B d_891 k_899))))), (m0, .inr (6, [.ref sa, .ref oa, .ref pa, .ref la, .ref za, .ref na, .int gu, .int gt, .int (nI w9), .int gd, .int gm, .int gr, .int (nI 0), .int gv])), (za, .inl (G.2 0, 6, .inl zg_906))]) hS => ?_)
        refine lv_iinc (v := nI (k_899 + 1)) (lv' := [(2, .int (nI (k_899 + 1))), (0, .ref m0), (1, .int (nI d_891))]) hx hb dX4_writeWeek_50 hl (k := 2) rfl (ninc (b := 1) (by decide) (by omega)) (by decide) rfl (fun ls hl => ?_)
        refine lv_goto (tgt := 17) hx hb dX4_writeWeek_53 (by decide) ?_
        have hP : va_P G.1 CL [(za, .inl (G.2 0, 6, .inl zg_906)), (na, .inl (G.2 2, 13, .inl (upd g_900 k_899 (nI (wkF B d_891 k_899))))), (m0, .inr (6, [.ref sa, .ref oa, .ref pa, .ref la, .ref za, .ref na, .int gu, .int gt, .int (nI w9), .int gd, .int gm, .int gr, .int (nI 0), .int gv]))] H := hP.sub [2, 0, 1] rfl
        have hD : va_D A [(za, .inl (G.2 0, 6, .inl zg_906)), (na, .inl (G.2 2, 13, .inl (upd g_900 k_899 (nI (wkF B d_891 k_899))))), (m0, .inr (6, [.ref sa, .ref oa, .ref pa, .ref la, .ref za, .ref na, .int gu, .int gt, .int (nI w9), .int gd, .int gm, .int gr, .int (nI 0), .int gv]))] := hD.sub [2, 0, 1] (by decide) rfl
        have hl := lv_sub hl [1, 2, 0] (l' := [(0, .ref m0), (1, .int (nI d_891)), (2, .int (nI (k_899 + 1)))]) rfl
        exact W.widen (show 0 ≤ 0 from by first | exact Nat.le_refl _ | omega) (show 0 ≤ 0 from by first | exact Nat.le_refl _ | omega) (ih17 ((k_899 + 1), upd g_900 k_899 (nI (wkF B d_891 k_899)), zg_906) H locs ls ⟨hP, hD, hS, hl, (show (k_899 + 1) ≤ 13 from by omega), (show ∀ z9, z9 < (k_899 + 1) → (upd g_900 k_899 (nI (wkF B d_891 k_899))) z9 = nI (wkF B d_891 z9) from fun z hz => by by_cases e : z = k_899; rw [e, pk_us]; rw [pk_un e]; exact hp_898 z (by omega))⟩ (show 13 - (k_899 + 1) < 13 - k_899 from by omega))
      · refine lv_bipush (v := nI 32) hx hb dX4_writeWeek_35 (by decide) ?_
        refine lv_goto (tgt := 49) hx hb dX4_writeWeek_37 (by decide) ?_
        have hw9 := wkF_lt B d_891 k_899
        refine lv_ton (n := (wkF B d_891 k_899)) (congrArg nI (by unfold wkF; first | rw [if_pos (by omega)] | rw [if_neg (by omega)])) ?_
        refine r_cast (v := nI (wkF B d_891 k_899)) hx hb hK hP hD hS 1 2 rfl rfl (i := k_899) (by omega) (by omega) (nar_c (by omega)) dX4_writeWeek_49 (fun H locs (hP : va_P G.1 CL [(za, .inl (G.2 0, 6, .inl zg_901)), (na, .inl (G.2 2, 13, .inl (upd g_900 k_899 (nI (wkF B d_891 k_899))))), (m0, .inr (6, [.ref sa, .ref oa, .ref pa, .ref la, .ref za, .ref na, .int gu, .int gt, .int (nI w9), .int gd, .int gm, .int gr, .int (nI 0), .int gv]))] H) (hD : va_D A [(za, .inl (G.2 0, 6, .inl zg_901)), (na, .inl (G.2 2, 13, .inl (upd g_900 k_899 (nI (wkF B d_891 k_899))))), (m0, .inr (6, [.ref sa, .ref oa, .ref pa, .ref la, .ref za, .ref na, .int gu, .int gt, .int (nI w9), .int gd, .int gm, .int gr, .int (nI 0), .int gv]))]) hS => ?_)
        refine lv_iinc (v := nI (k_899 + 1)) (lv' := [(2, .int (nI (k_899 + 1))), (0, .ref m0), (1, .int (nI d_891))]) hx hb dX4_writeWeek_50 hl (k := 2) rfl (ninc (b := 1) (by decide) (by omega)) (by decide) rfl (fun ls hl => ?_)
        refine lv_goto (tgt := 17) hx hb dX4_writeWeek_53 (by decide) ?_
        have hP : va_P G.1 CL [(za, .inl (G.2 0, 6, .inl zg_901)), (na, .inl (G.2 2, 13, .inl (upd g_900 k_899 (nI (wkF B d_891 k_899))))), (m0, .inr (6, [.ref sa, .ref oa, .ref pa, .ref la, .ref za, .ref na, .int gu, .int gt, .int (nI w9), .int gd, .int gm, .int gr, .int (nI 0), .int gv]))] H := hP.sub [0, 1, 2] rfl
        have hD : va_D A [(za, .inl (G.2 0, 6, .inl zg_901)), (na, .inl (G.2 2, 13, .inl (upd g_900 k_899 (nI (wkF B d_891 k_899))))), (m0, .inr (6, [.ref sa, .ref oa, .ref pa, .ref la, .ref za, .ref na, .int gu, .int gt, .int (nI w9), .int gd, .int gm, .int gr, .int (nI 0), .int gv]))] := hD.sub [0, 1, 2] (by decide) rfl
        have hl := lv_sub hl [1, 2, 0] (l' := [(0, .ref m0), (1, .int (nI d_891)), (2, .int (nI (k_899 + 1)))]) rfl
        exact W.widen (show 0 ≤ 0 from by first | exact Nat.le_refl _ | omega) (show 0 ≤ 0 from by first | exact Nat.le_refl _ | omega) (ih17 ((k_899 + 1), upd g_900 k_899 (nI (wkF B d_891 k_899)), zg_901) H locs ls ⟨hP, hD, hS, hl, (show (k_899 + 1) ≤ 13 from by omega), (show ∀ z9, z9 < (k_899 + 1) → (upd g_900 k_899 (nI (wkF B d_891 k_899))) z9 = nI (wkF B d_891 z9) from fun z hz => by by_cases e : z = k_899; rw [e, pk_us]; rw [pk_un e]; exact hp_898 z (by omega))⟩ (show 13 - (k_899 + 1) < 13 - k_899 from by omega))
  · refine lv_ton (n := 1) rfl ?_
    have hir_907 : inR v 0 (bD B) = none := inR_none (fun z => absurd z (hq_889.mp rfl))
    refine lv_iconst (v := nI 1) hx hb dX4_writeWeek_6 (by decide) ?_
    have hF := hF_of (wc := [(m0, .inr (6, [.ref sa, .ref oa, .ref pa, .ref la, .ref za, .ref na, .int gu, .int gt, .int (nI w9), .int gd, .int gm, .int gr, .int gh, .int gv]))]) hD hS hA [0] rfl
    refine go_ct hS hP hD [0] [1, 2] hF rfl rfl (by decide) (by decide)
        (va_runV (As := [.int (nI 1), .int (nI 1)]) (rest := []) cf (mX4_isThrown_t l G m0 sa oa pa la za na gu gt (nI w9) gd gm gr gh gv 1  H.size) (cwV 2 hts (lw_V q1650 q1652 qs20 q58 q1653) rfl rfl rfl (by decide +kernel) ⟨Nat.le_of_ble_eq_true rfl, Nat.le_of_ble_eq_true rfl⟩) (preV_of hKB hE hS hF (va_recv hK hP (ci := 6) (q0 := 0) rfl rfl) (va_P.sub hP [0] rfl) ((va_D.sub hD [0] (by decide) rfl).weaken (fun _ _ _ _ => trivial)) trivial) rfl rfl hl.1 rfl (lv_room (Nat.le_of_ble_eq_true rfl)) dX4_writeWeek_7 ⟨show 0 + 0 ≤ 0 from by first | decide | omega, show 0 + 0 ≤ 0 from by first | decide | omega⟩)
        (fun u_ H locs hq hph (hP : va_P G.1 CL [(za, .inl (G.2 0, 6, .inl zf)), (na, .inl (G.2 2, 13, .inl (fun j9 => nI (nc j9)))), (m0, .inr (6, [.ref sa, .ref oa, .ref pa, .ref la, .ref za, .ref na, .int gu, .int gt, .int (nI w9), .int gd, .int gm, .int gr, .int (nI 1), .int gv]))] H) (hD : va_D A [(za, .inl (G.2 0, 6, .inl zf)), (na, .inl (G.2 2, 13, .inl (fun j9 => nI (nc j9)))), (m0, .inr (6, [.ref sa, .ref oa, .ref pa, .ref la, .ref za, .ref na, .int gu, .int gt, .int (nI w9), .int gd, .int gm, .int gr, .int (nI 1), .int gv]))]) hS hfz hfk => ?_)
    refine W.eq (g2 := F0 m 10 ls [.int (nI 1)]) rfl ?_
    refine n_if_eq (tgt := 15) hx hb (by omega) dX4_writeWeek_10 (by decide) (fun c_908 => absurd c_908 (by omega)) (fun c_908 => ?_)
    refine lv_iconst (v := nI 0) hx hb dX4_writeWeek_13 (by decide) ?_
    have hP9 : va_P G.1 CL [(m0, .inr (6, [.ref sa, .ref oa, .ref pa, .ref la, .ref za, .ref na, .int gu, .int gt, .int (nI w9), .int gd, .int gm, .int gr, .int (nI 1), .int gv])), (za, .inl (G.2 0, 6, .inl zf)), (na, .inl (G.2 2, 13, .inl (fun j9 => nI (nc j9))))] H := hP.sub [2, 0, 1] rfl
    have hD9 : va_D A [(m0, .inr (6, [.ref sa, .ref oa, .ref pa, .ref la, .ref za, .ref na, .int gu, .int gt, .int (nI w9), .int gd, .int gm, .int gr, .int (nI 1), .int gv])), (za, .inl (G.2 0, 6, .inl zf)), (na, .inl (G.2 2, 13, .inl (fun j9 => nI (nc j9))))] := hD.sub [2, 0, 1] (by decide) rfl
    exact end_i hx hb hr hlk (rfl) (qc_of ⟨1, nI 0, nc, w9, zf⟩ (v := some (.int (nI 0))) (by rfl) (by unfold WeekP; rw [hir_907]; exact ⟨rfl, rfl, rfl⟩) hP9 hD9 (trivial) hS) hS dX4_writeWeek_14 (show 0 ≤ 0 from by first | exact Nat.le_refl _ | decide | omega) (show 0 ≤ 0 from by first | exact Nat.le_refl _ | decide | omega)

set_option maxHeartbeats 4000000 in
theorem mX4_undo (l : Launch) (G : Gt) (m0 : Nat) (sa : Nat) (oa : Nat) (pa : Nat) (la : Nat) (za : Nat) (na : Nat) (gw : Int32) (gd : Int32) (gm : Int32) (gr : Int32) (gh : Int32) (gv : Int32) (f : Nat → Int32) (t : Nat) (u : Nat) (ta : Nat) (h : Nat → Int32) (og : Nat → Option Nat) (ht : t < 6) (hu : u ≤ 6) (hog : og t = some ta) : CT l G yX4_undo cX4_undo 2 (some .int) ({ frames := 2, cells := 0, slots := 0, locals := 34 } : Room) [.ref m0] [(m0, .inr (6, [.ref sa, .ref oa, .ref pa, .ref la, .ref za, .ref na, .int (nI u), .int (nI t), .int gw, .int gd, .int gm, .int gr, .int gh, .int gv])), (sa, .inl (G.2 0, 830, .inl f))] (fun (A : Nat → Prop) (H : Heap) => roW G A H [(oa, .inl (G.2 7, 6, .inr (.inr (.inr (.inr og))))), (ta, .inl (G.2 0, 830, .inl h))]) (S := Nat × Int32 × (Nat → Int32) × Nat × Nat) (fun (u_ : Nat × Int32 × (Nat → Int32) × Nat × Nat) => some (.int u_.2.1)) (fun (u_ : Nat × Int32 × (Nat → Int32) × Nat × Nat) => ((u = 0 ∧ u_.1 = 1 ∧ u_.2.2.1 = f ∧ u_.2.2.2.1 = t ∧ u_.2.2.2.2 = u) ∨ (0 < u ∧ u_.1 = 0 ∧ u_.2.2.1 = h ∧ u_.2.2.2.1 = (t + 5) % 6 ∧ u_.2.2.2.2 = u - 1 ∧ u_.2.1 = nI (u - 1)))) (fun (u_ : Nat × Int32 × (Nat → Int32) × Nat × Nat) => [(m0, .inr (6, [.ref sa, .ref oa, .ref pa, .ref la, .ref za, .ref na, .int (nI u_.2.2.2.2), .int (nI u_.2.2.2.1), .int gw, .int gd, .int gm, .int gr, .int (nI u_.1), .int gv])), (sa, .inl (G.2 0, 830, .inl u_.2.2.1))]) (fun (u_ : Nat × Int32 × (Nat → Int32) × Nat × Nat) (H : Heap) => True) := by
  refine CT.of (by decide) (Nat.le_of_ble_eq_true rfl) ?_
  intro p e s m below meth c ls A H locs h9 hH0 hP hS
  obtain ⟨cf, hr, hlk, hnm, hKB, hE, -, hD, -, hA, hAw, hR0, hl⟩ := h9
  have hx := cf.1
  have hb := cf.2.1
  have hml := cf.2.2.1
  have hown : s.vm.findClass RX4 = some m.cls := cf.2.2.2.1
  have hts := cf.2.2.2.2
  have hK := hKB.1
  have hl : lv_has ls 2 [(0, .ref m0)] := hl
  refine lv_aload_n hx hb dX4_undo_0 rfl (lv_at hl 0 rfl) ?_
  refine lv_aload_n hx hb dX4_undo_1 rfl (lv_at hl 0 rfl) ?_
  refine va_get hx hb hts in_X4 hown hK hP 0 rfl rfl 6 (by decide) (hts _ q1602) (fun _ h => h) rfl dX4_undo_2 ?_
  refine n_if_ne (tgt := 12) hx hb (by omega) dX4_undo_5 (by decide) (fun c_909 => ?_) (fun c_909 => ?_)
  · refine lv_iconst (v := nI 0) hx hb dX4_undo_12 (by decide) ?_
    refine lv_iconst (v := nI 1) hx hb dX4_undo_13 (by decide) ?_
    have hF := hF_of (wc := [(m0, .inr (6, [.ref sa, .ref oa, .ref pa, .ref la, .ref za, .ref na, .int (nI u), .int (nI t), .int gw, .int gd, .int gm, .int gr, .int gh, .int gv]))]) hD hS hA [0] rfl
    refine go_ct hS hP hD [0] [1] hF rfl rfl (by decide) (by decide)
        (va_runV (As := [.int (nI 0), .int (nI 1)]) (rest := []) cf (mX4_isThrown_f l G m0 sa oa pa la za na (nI u) (nI t) gw gd gm gr gh gv 1  H.size) (cwV 2 hts (lw_V q1650 q1652 qs20 q58 q1653) rfl rfl rfl (by decide +kernel) ⟨Nat.le_of_ble_eq_true rfl, Nat.le_of_ble_eq_true rfl⟩) (preV_of hKB hE hS hF (va_recv hK hP (ci := 6) (q0 := 0) rfl rfl) (va_P.sub hP [0] rfl) ((va_D.sub hD [0] (by decide) rfl).weaken (fun _ _ _ _ => trivial)) trivial) rfl rfl hl.1 rfl (lv_room (Nat.le_of_ble_eq_true rfl)) dX4_undo_14 ⟨show 0 + 0 ≤ 0 from by first | decide | omega, show 0 + 0 ≤ 0 from by first | decide | omega⟩)
        (fun u_ H locs hq hph (hP : va_P G.1 CL [(sa, .inl (G.2 0, 830, .inl f)), (m0, .inr (6, [.ref sa, .ref oa, .ref pa, .ref la, .ref za, .ref na, .int (nI u), .int (nI t), .int gw, .int gd, .int gm, .int gr, .int (nI 0), .int gv]))] H) (hD : va_D A [(sa, .inl (G.2 0, 830, .inl f)), (m0, .inr (6, [.ref sa, .ref oa, .ref pa, .ref la, .ref za, .ref na, .int (nI u), .int (nI t), .int gw, .int gd, .int gm, .int gr, .int (nI 0), .int gv]))]) hS hfz hfk => ?_)
    refine W.eq (g2 := F0 m 17 ls [.int (nI 0)]) rfl ?_
    refine n_if_eq (tgt := 22) hx hb (by omega) dX4_undo_17 (by decide) (fun c_910 => ?_) (fun c_910 => absurd c_910 (by omega))
    refine lv_iconst (v := nI 0) hx hb dX4_undo_22 (by decide) ?_
    refine lv_istore_n (lv' := [(1, .int (nI 0)), (0, .ref m0)]) hx hb dX4_undo_23 rfl hl (by decide) rfl (fun ls hl => ?_)
    have hl := lv_sub hl [1, 0] (l' := [(0, .ref m0), (1, .int (nI 0))]) rfl
    refine lp_W (σ := Nat × (Nat → Int32)) (hpc := 24) (fun x => 830 - x.1) (fun x => 0) (fun x => 0) (fun x H locs ls => va_P G.1 CL [(sa, .inl (G.2 0, 830, .inl x.2)), (m0, .inr (6, [.ref sa, .ref oa, .ref pa, .ref la, .ref za, .ref na, .int (nI u), .int (nI t), .int gw, .int gd, .int gm, .int gr, .int (nI 0), .int gv]))] H ∧ va_D A [(sa, .inl (G.2 0, 830, .inl x.2)), (m0, .inr (6, [.ref sa, .ref oa, .ref pa, .ref la, .ref za, .ref na, .int (nI u), .int (nI t), .int gw, .int gd, .int gm, .int gr, .int (nI 0), .int gv]))] ∧ va_S A s.heap H locs ∧ lv_has ls 2 [(0, .ref m0), (1, .int (nI x.1))] ∧ (x.1 ≤ 830) ∧ (∀ z, z < x.1 → x.2 z = h z)) ?_ (0, f) ⟨(show va_P G.1 CL [(sa, .inl (G.2 0, 830, .inl f)), (m0, .inr (6, [.ref sa, .ref oa, .ref pa, .ref la, .ref za, .ref na, .int (nI u), .int (nI t), .int gw, .int gd, .int gm, .int gr, .int (nI 0), .int gv]))] H from hP), (show va_D A [(sa, .inl (G.2 0, 830, .inl f)), (m0, .inr (6, [.ref sa, .ref oa, .ref pa, .ref la, .ref za, .ref na, .int (nI u), .int (nI t), .int gw, .int gd, .int gm, .int gr, .int (nI 0), .int gv]))] from hD), hS, hl, (show 0 ≤ 830 from by omega), (show ∀ z, z < 0 → f z = h z from (fun z hz => absurd hz (by omega)))⟩ (show 0 ≤ 0 from by first | exact Nat.le_refl _ | omega) (show 0 ≤ 0 from by first | exact Nat.le_refl _ | omega)
    intro x H locs ls hI9 ih24
    obtain ⟨k_913, g_914⟩ := x
    obtain ⟨hP, hD, hS, hl, hp_911, hp_912⟩ := hI9
    have hP : va_P G.1 CL [(sa, .inl (G.2 0, 830, .inl g_914)), (m0, .inr (6, [.ref sa, .ref oa, .ref pa, .ref la, .ref za, .ref na, .int (nI u), .int (nI t), .int gw, .int gd, .int gm, .int gr, .int (nI 0), .int gv]))] H := hP
    have hD : va_D A [(sa, .inl (G.2 0, 830, .inl g_914)), (m0, .inr (6, [.ref sa, .ref oa, .ref pa, .ref la, .ref za, .ref na, .int (nI u), .int (nI t), .int gw, .int gd, .int gm, .int gr, .int (nI 0), .int gv]))] := hD
    have hl : lv_has ls 2 [(0, .ref m0), (1, .int (nI k_913))] := hl
    have hp_911 : k_913 ≤ 830 := hp_911
    have hp_912 : ∀ z, z < k_913 → g_914 z = h z := hp_912
    refine lv_iload_n hx hb dX4_undo_24 rfl (lv_at hl 1 rfl) ?_
    refine lv_sipush (v := nI 830) hx hb dX4_undo_25 (by decide) ?_
    refine n_icmp_ge (tgt := 54) hx hb (by omega) (by omega) dX4_undo_28 (by decide) (fun c_915 => ?_) (fun c_915 => ?_)
    · have he_916 : ∀ j9, j9 < 830 → g_914 j9 = h j9 := fun z hz => hp_912 z (by omega)
      have hP : va_P G.1 CL [(sa, .inl (G.2 0, 830, .inl h)), (m0, .inr (6, [.ref sa, .ref oa, .ref pa, .ref la, .ref za, .ref na, .int (nI u), .int (nI t), .int gw, .int gd, .int gm, .int gr, .int (nI 0), .int gv]))] H := va_P.extI hP 0 rfl he_916
      have hD : va_D A [(sa, .inl (G.2 0, 830, .inl h)), (m0, .inr (6, [.ref sa, .ref oa, .ref pa, .ref la, .ref za, .ref na, .int (nI u), .int (nI t), .int gw, .int gd, .int gm, .int gr, .int (nI 0), .int gv]))] := hD.set (p := 0) rfl
      refine lv_aload_n hx hb dX4_undo_54 rfl (lv_at hl 0 rfl) ?_
      refine lv_aload_n hx hb dX4_undo_55 rfl (lv_at hl 0 rfl) ?_
      refine va_get hx hb hts in_X4 hown hK hP 1 rfl rfl 7 (by decide) (hts _ q1603) (fun _ h => h) rfl dX4_undo_56 ?_
      refine lv_bipush (v := nI 6) hx hb dX4_undo_59 (by decide) ?_
      refine lv_iadd hx hb dX4_undo_61 ?_
      refine lv_ton (n := t + 6) (nadd (by omega)) ?_
      refine lv_iconst (v := nI 1) hx hb dX4_undo_62 (by decide) ?_
      refine lv_isub hx hb dX4_undo_63 ?_
      refine lv_ton (n := t + 5) (nsub (by omega)) ?_
      refine lv_bipush (v := nI 6) hx hb dX4_undo_64 (by decide) ?_
      refine lv_irem hx hb dX4_undo_66 (by decide) ?_
      refine lv_ton (n := ((t + 5) % 6)) (nrem (by omega) (by omega) (by omega) rfl) ?_
      refine va_put (v := .int (nI ((t + 5) % 6))) (ty := .int) hx hb hts in_X4 tyX4 tyX4_ok nmX4 hown hK hP hD hS 1 rfl rfl 7 (by decide) (hts _ q1603) (fun _ h => h) rfl (by decide +kernel) rfl rfl (Nat.le_of_ble_eq_true rfl) dX4_undo_67 (fun H locs (hP : va_P G.1 CL [(sa, .inl (G.2 0, 830, .inl h)), (m0, .inr (6, [.ref sa, .ref oa, .ref pa, .ref la, .ref za, .ref na, .int (nI u), .int (nI ((t + 5) % 6)), .int gw, .int gd, .int gm, .int gr, .int (nI 0), .int gv]))] H) (hD : va_D A [(sa, .inl (G.2 0, 830, .inl h)), (m0, .inr (6, [.ref sa, .ref oa, .ref pa, .ref la, .ref za, .ref na, .int (nI u), .int (nI ((t + 5) % 6)), .int gw, .int gd, .int gm, .int gr, .int (nI 0), .int gv]))]) hS => ?_)
      refine lv_aload_n hx hb dX4_undo_70 rfl (lv_at hl 0 rfl) ?_
      refine lv_dup hx hb dX4_undo_71 rfl ?_
      refine va_get hx hb hts in_X4 hown hK hP 1 rfl rfl 6 (by decide) (hts _ q1602) (fun _ h => h) rfl dX4_undo_72 ?_
      refine lv_iconst (v := nI 1) hx hb dX4_undo_75 (by decide) ?_
      refine lv_isub hx hb dX4_undo_76 ?_
      refine lv_ton (n := (u - 1)) (nsub (by omega)) ?_
      refine va_put (v := .int (nI (u - 1))) (ty := .int) hx hb hts in_X4 tyX4 tyX4_ok nmX4 hown hK hP hD hS 1 rfl rfl 6 (by decide) (hts _ q1602) (fun _ h => h) rfl (by decide +kernel) rfl rfl (Nat.le_of_ble_eq_true rfl) dX4_undo_77 (fun H locs (hP : va_P G.1 CL [(sa, .inl (G.2 0, 830, .inl h)), (m0, .inr (6, [.ref sa, .ref oa, .ref pa, .ref la, .ref za, .ref na, .int (nI (u - 1)), .int (nI ((t + 5) % 6)), .int gw, .int gd, .int gm, .int gr, .int (nI 0), .int gv]))] H) (hD : va_D A [(sa, .inl (G.2 0, 830, .inl h)), (m0, .inr (6, [.ref sa, .ref oa, .ref pa, .ref la, .ref za, .ref na, .int (nI (u - 1)), .int (nI ((t + 5) % 6)), .int gw, .int gd, .int gm, .int gr, .int (nI 0), .int gv]))]) hS => ?_)
      refine lv_aload_n hx hb dX4_undo_80 rfl (lv_at hl 0 rfl) ?_
      refine va_get hx hb hts in_X4 hown hK hP 1 rfl rfl 6 (by decide) (hts _ q1602) (fun _ h => h) rfl dX4_undo_81 ?_
      have hP9 : va_P G.1 CL [(m0, .inr (6, [.ref sa, .ref oa, .ref pa, .ref la, .ref za, .ref na, .int (nI (u - 1)), .int (nI ((t + 5) % 6)), .int gw, .int gd, .int gm, .int gr, .int (nI 0), .int gv])), (sa, .inl (G.2 0, 830, .inl h))] H := hP.sub [1, 0] rfl
      have hD9 : va_D A [(m0, .inr (6, [.ref sa, .ref oa, .ref pa, .ref la, .ref za, .ref na, .int (nI (u - 1)), .int (nI ((t + 5) % 6)), .int gw, .int gd, .int gm, .int gr, .int (nI 0), .int gv])), (sa, .inl (G.2 0, 830, .inl h))] := hD.sub [1, 0] (by decide) rfl
      exact end_i hx hb hr hlk (rfl) (qc_of ⟨0, nI (u - 1), h, (t + 5) % 6, u - 1⟩ (v := some (.int (nI (u - 1)))) (by rfl) (Or.inr ⟨by omega, rfl, rfl, rfl, rfl, rfl⟩) hP9 hD9 (trivial) hS) hS dX4_undo_84 (show 0 ≤ 0 from by first | exact Nat.le_refl _ | decide | omega) (show 0 ≤ 0 from by first | exact Nat.le_refl _ | decide | omega)
    · refine lv_aload_n hx hb dX4_undo_31 rfl (lv_at hl 0 rfl) ?_
      refine va_get hx hb hts in_X4 hown hK hP 1 rfl rfl 0 (by decide) (hts _ q1596) (fun _ h => h) rfl dX4_undo_32 ?_
      refine lv_iload_n hx hb dX4_undo_35 rfl (lv_at hl 1 rfl) ?_
      refine lv_aload_n hx hb dX4_undo_36 rfl (lv_at hl 0 rfl) ?_
      refine va_get hx hb hts in_X4 hown hK hP 1 rfl rfl 1 (by decide) (hts _ q1597) (fun _ h => h) rfl dX4_undo_37 ?_
      refine lv_aload_n hx hb dX4_undo_40 rfl (lv_at hl 0 rfl) ?_
      refine va_get hx hb hts in_X4 hown hK hP 1 rfl rfl 7 (by decide) (hts _ q1603) (fun _ h => h) rfl dX4_undo_41 ?_
      refine r_aaldI (v := ta) hx hb hK (hR0.w hS) 0 7 rfl rfl (i := t) (by omega) (by omega) (hog) dX4_undo_44 ?_
      refine lv_iload_n hx hb dX4_undo_45 rfl (lv_at hl 1 rfl) ?_
      refine r_iald (v := h k_913) hx hb hK (hR0.w hS) 1 0 rfl rfl (i := k_913) (by omega) (by omega) (rfl) dX4_undo_46 ?_
      refine r_iast hx hb hK hP hD hS 0 0 rfl rfl (i := k_913) (by omega) (by omega) dX4_undo_47 (fun H locs (hP : va_P G.1 CL [(sa, .inl (G.2 0, 830, .inl (upd g_914 k_913 (h k_913)))), (m0, .inr (6, [.ref sa, .ref oa, .ref pa, .ref la, .ref za, .ref na, .int (nI u), .int (nI t), .int gw, .int gd, .int gm, .int gr, .int (nI 0), .int gv]))] H) (hD : va_D A [(sa, .inl (G.2 0, 830, .inl (upd g_914 k_913 (h k_913)))), (m0, .inr (6, [.ref sa, .ref oa, .ref pa, .ref la, .ref za, .ref na, .int (nI u), .int (nI t), .int gw, .int gd, .int gm, .int gr, .int (nI 0), .int gv]))]) hS => ?_)
      refine lv_iinc (v := nI (k_913 + 1)) (lv' := [(1, .int (nI (k_913 + 1))), (0, .ref m0)]) hx hb dX4_undo_48 hl (k := 1) rfl (ninc (b := 1) (by decide) (by omega)) (by decide) rfl (fun ls hl => ?_)
      refine lv_goto (tgt := 24) hx hb dX4_undo_51 (by decide) ?_
      have hP : va_P G.1 CL [(sa, .inl (G.2 0, 830, .inl (upd g_914 k_913 (h k_913)))), (m0, .inr (6, [.ref sa, .ref oa, .ref pa, .ref la, .ref za, .ref na, .int (nI u), .int (nI t), .int gw, .int gd, .int gm, .int gr, .int (nI 0), .int gv]))] H := hP.sub [0, 1] rfl
      have hD : va_D A [(sa, .inl (G.2 0, 830, .inl (upd g_914 k_913 (h k_913)))), (m0, .inr (6, [.ref sa, .ref oa, .ref pa, .ref la, .ref za, .ref na, .int (nI u), .int (nI t), .int gw, .int gd, .int gm, .int gr, .int (nI 0), .int gv]))] := hD.sub [0, 1] (by decide) rfl
      have hl := lv_sub hl [1, 0] (l' := [(0, .ref m0), (1, .int (nI (k_913 + 1)))]) rfl
      exact W.widen (show 0 ≤ 0 from by first | exact Nat.le_refl _ | omega) (show 0 ≤ 0 from by first | exact Nat.le_refl _ | omega) (ih24 ((k_913 + 1), upd g_914 k_913 (h k_913)) H locs ls ⟨hP, hD, hS, hl, (show (k_913 + 1) ≤ 830 from by omega), (show ∀ z, z < (k_913 + 1) → (upd g_914 k_913 (h k_913)) z = h z from (fun z hz => by by_cases e : z = k_913; rw [e, pk_us]; rw [pk_un e]; exact hp_912 z (by omega)))⟩ (show 830 - (k_913 + 1) < 830 - k_913 from by omega))
  · refine lv_iconst (v := nI 1) hx hb dX4_undo_8 (by decide) ?_
    refine lv_goto (tgt := 13) hx hb dX4_undo_9 (by decide) ?_
    refine lv_iconst (v := nI 1) hx hb dX4_undo_13 (by decide) ?_
    have hF := hF_of (wc := [(m0, .inr (6, [.ref sa, .ref oa, .ref pa, .ref la, .ref za, .ref na, .int (nI u), .int (nI t), .int gw, .int gd, .int gm, .int gr, .int gh, .int gv]))]) hD hS hA [0] rfl
    refine go_ct hS hP hD [0] [1] hF rfl rfl (by decide) (by decide)
        (va_runV (As := [.int (nI 1), .int (nI 1)]) (rest := []) cf (mX4_isThrown_t l G m0 sa oa pa la za na (nI u) (nI t) gw gd gm gr gh gv 1  H.size) (cwV 2 hts (lw_V q1650 q1652 qs20 q58 q1653) rfl rfl rfl (by decide +kernel) ⟨Nat.le_of_ble_eq_true rfl, Nat.le_of_ble_eq_true rfl⟩) (preV_of hKB hE hS hF (va_recv hK hP (ci := 6) (q0 := 0) rfl rfl) (va_P.sub hP [0] rfl) ((va_D.sub hD [0] (by decide) rfl).weaken (fun _ _ _ _ => trivial)) trivial) rfl rfl hl.1 rfl (lv_room (Nat.le_of_ble_eq_true rfl)) dX4_undo_14 ⟨show 0 + 0 ≤ 0 from by first | decide | omega, show 0 + 0 ≤ 0 from by first | decide | omega⟩)
        (fun u_ H locs hq hph (hP : va_P G.1 CL [(sa, .inl (G.2 0, 830, .inl f)), (m0, .inr (6, [.ref sa, .ref oa, .ref pa, .ref la, .ref za, .ref na, .int (nI u), .int (nI t), .int gw, .int gd, .int gm, .int gr, .int (nI 1), .int gv]))] H) (hD : va_D A [(sa, .inl (G.2 0, 830, .inl f)), (m0, .inr (6, [.ref sa, .ref oa, .ref pa, .ref la, .ref za, .ref na, .int (nI u), .int (nI t), .int gw, .int gd, .int gm, .int gr, .int (nI 1), .int gv]))]) hS hfz hfk => ?_)
    refine W.eq (g2 := F0 m 17 ls [.int (nI 1)]) rfl ?_
    refine n_if_eq (tgt := 22) hx hb (by omega) dX4_undo_17 (by decide) (fun c_917 => absurd c_917 (by omega)) (fun c_917 => ?_)
    refine lv_iconst (v := nI 0) hx hb dX4_undo_20 (by decide) ?_
    have hP9 : va_P G.1 CL [(m0, .inr (6, [.ref sa, .ref oa, .ref pa, .ref la, .ref za, .ref na, .int (nI u), .int (nI t), .int gw, .int gd, .int gm, .int gr, .int (nI 1), .int gv])), (sa, .inl (G.2 0, 830, .inl f))] H := hP.sub [1, 0] rfl
    have hD9 : va_D A [(m0, .inr (6, [.ref sa, .ref oa, .ref pa, .ref la, .ref za, .ref na, .int (nI u), .int (nI t), .int gw, .int gd, .int gm, .int gr, .int (nI 1), .int gv])), (sa, .inl (G.2 0, 830, .inl f))] := hD.sub [1, 0] (by decide) rfl
    exact end_i hx hb hr hlk (rfl) (qc_of ⟨1, nI 0, f, t, u⟩ (v := some (.int (nI 0))) (by rfl) (Or.inl ⟨by omega, rfl, rfl, rfl, rfl⟩) hP9 hD9 (trivial) hS) hS dX4_undo_21 (show 0 ≤ 0 from by first | exact Nat.le_refl _ | decide | omega) (show 0 ≤ 0 from by first | exact Nat.le_refl _ | decide | omega)

set_option maxHeartbeats 4000000 in
theorem mX4_save (l : Launch) (G : Gt) (m0 : Nat) (sa : Nat) (oa : Nat) (pa : Nat) (la : Nat) (za : Nat) (na : Nat) (gu : Int32) (gt : Int32) (gw : Int32) (gd : Int32) (gm : Int32) (gr : Int32) (gh : Int32) (gv : Int32) (f : Nat → Int32) (B : Bk) (h : Nat → Int32) (hM : MR f B) (hI : Inv B) : CT l G yX4_save cX4_save 2 (some .int) ({ frames := 1, cells := 0, slots := 0, locals := 12 } : Room) [.ref m0] [(m0, .inr (6, [.ref sa, .ref oa, .ref pa, .ref la, .ref za, .ref na, .int gu, .int gt, .int gw, .int gd, .int gm, .int gr, .int gh, .int gv])), (pa, .inl (G.2 0, 830, .inl h))] (fun (A : Nat → Prop) (H : Heap) => roW G A H [(sa, .inl (G.2 0, 830, .inl f))]) (S := Unit) (fun (u_ : Unit) => some (.int (nI (sN B)))) (fun (u_ : Unit) => True) (fun (u_ : Unit) => [(m0, .inr (6, [.ref sa, .ref oa, .ref pa, .ref la, .ref za, .ref na, .int gu, .int gt, .int gw, .int gd, .int gm, .int gr, .int (nI 0), .int (nI 1)])), (pa, .inl (G.2 0, 830, .inl f))]) (fun (u_ : Unit) (H : Heap) => True) := by
  refine CT.of (by decide) (Nat.le_of_ble_eq_true rfl) ?_
  intro p e s m below meth c ls A H locs h9 hH0 hP hS
  obtain ⟨cf, hr, hlk, hnm, hKB, hE, -, hD, -, hA, hAw, hR0, hl⟩ := h9
  have hx := cf.1
  have hb := cf.2.1
  have hml := cf.2.2.1
  have hown : s.vm.findClass RX4 = some m.cls := cf.2.2.2.1
  have hts := cf.2.2.2.2
  have hK := hKB.1
  have hl : lv_has ls 2 [(0, .ref m0)] := hl
  have iN := iv_sN hI
  have iT := iv_tN hI
  have iD := iv_bD hI
  have iE := iv_bE hI
  have iW := iv_id hI
  refine lv_aload_n hx hb dX4_save_0 rfl (lv_at hl 0 rfl) ?_
  refine lv_iconst (v := nI 0) hx hb dX4_save_1 (by decide) ?_
  refine va_put (v := .int (nI 0)) (ty := .int) hx hb hts in_X4 tyX4 tyX4_ok nmX4 hown hK hP hD hS 0 rfl rfl 12 (by decide) (hts _ q1608) (fun _ h => h) rfl (by decide +kernel) rfl rfl (Nat.le_of_ble_eq_true rfl) dX4_save_2 (fun H locs (hP : va_P G.1 CL [(m0, .inr (6, [.ref sa, .ref oa, .ref pa, .ref la, .ref za, .ref na, .int gu, .int gt, .int gw, .int gd, .int gm, .int gr, .int (nI 0), .int gv])), (pa, .inl (G.2 0, 830, .inl h))] H) (hD : va_D A [(m0, .inr (6, [.ref sa, .ref oa, .ref pa, .ref la, .ref za, .ref na, .int gu, .int gt, .int gw, .int gd, .int gm, .int gr, .int (nI 0), .int gv])), (pa, .inl (G.2 0, 830, .inl h))]) hS => ?_)
  refine lv_iconst (v := nI 0) hx hb dX4_save_5 (by decide) ?_
  refine lv_istore_n (lv' := [(1, .int (nI 0)), (0, .ref m0)]) hx hb dX4_save_6 rfl hl (by decide) rfl (fun ls hl => ?_)
  have hl := lv_sub hl [1, 0] (l' := [(0, .ref m0), (1, .int (nI 0))]) rfl
  refine lp_W (σ := Nat × (Nat → Int32)) (hpc := 7) (fun x => 830 - x.1) (fun x => 0) (fun x => 0) (fun x H locs ls => va_P G.1 CL [(m0, .inr (6, [.ref sa, .ref oa, .ref pa, .ref la, .ref za, .ref na, .int gu, .int gt, .int gw, .int gd, .int gm, .int gr, .int (nI 0), .int gv])), (pa, .inl (G.2 0, 830, .inl x.2))] H ∧ va_D A [(m0, .inr (6, [.ref sa, .ref oa, .ref pa, .ref la, .ref za, .ref na, .int gu, .int gt, .int gw, .int gd, .int gm, .int gr, .int (nI 0), .int gv])), (pa, .inl (G.2 0, 830, .inl x.2))] ∧ va_S A s.heap H locs ∧ lv_has ls 2 [(0, .ref m0), (1, .int (nI x.1))] ∧ (x.1 ≤ 830) ∧ (∀ z, z < x.1 → x.2 z = f z)) ?_ (0, h) ⟨(show va_P G.1 CL [(m0, .inr (6, [.ref sa, .ref oa, .ref pa, .ref la, .ref za, .ref na, .int gu, .int gt, .int gw, .int gd, .int gm, .int gr, .int (nI 0), .int gv])), (pa, .inl (G.2 0, 830, .inl h))] H from hP), (show va_D A [(m0, .inr (6, [.ref sa, .ref oa, .ref pa, .ref la, .ref za, .ref na, .int gu, .int gt, .int gw, .int gd, .int gm, .int gr, .int (nI 0), .int gv])), (pa, .inl (G.2 0, 830, .inl h))] from hD), hS, hl, (show 0 ≤ 830 from by omega), (show ∀ z, z < 0 → h z = f z from (fun z hz => absurd hz (by omega)))⟩ (show 0 ≤ 0 from by first | exact Nat.le_refl _ | omega) (show 0 ≤ 0 from by first | exact Nat.le_refl _ | omega)
  intro x H locs ls hI9 ih7
  obtain ⟨k_920, g_921⟩ := x
  obtain ⟨hP, hD, hS, hl, hp_918, hp_919⟩ := hI9
  have hP : va_P G.1 CL [(m0, .inr (6, [.ref sa, .ref oa, .ref pa, .ref la, .ref za, .ref na, .int gu, .int gt, .int gw, .int gd, .int gm, .int gr, .int (nI 0), .int gv])), (pa, .inl (G.2 0, 830, .inl g_921))] H := hP
  have hD : va_D A [(m0, .inr (6, [.ref sa, .ref oa, .ref pa, .ref la, .ref za, .ref na, .int gu, .int gt, .int gw, .int gd, .int gm, .int gr, .int (nI 0), .int gv])), (pa, .inl (G.2 0, 830, .inl g_921))] := hD
  have hl : lv_has ls 2 [(0, .ref m0), (1, .int (nI k_920))] := hl
  have hp_918 : k_920 ≤ 830 := hp_918
  have hp_919 : ∀ z, z < k_920 → g_921 z = f z := hp_919
  refine lv_iload_n hx hb dX4_save_7 rfl (lv_at hl 1 rfl) ?_
  refine lv_sipush (v := nI 830) hx hb dX4_save_8 (by decide) ?_
  refine n_icmp_ge (tgt := 32) hx hb (by omega) (by omega) dX4_save_11 (by decide) (fun c_922 => ?_) (fun c_922 => ?_)
  · have he_923 : ∀ j9, j9 < 830 → g_921 j9 = f j9 := fun z hz => hp_919 z (by omega)
    have hP : va_P G.1 CL [(m0, .inr (6, [.ref sa, .ref oa, .ref pa, .ref la, .ref za, .ref na, .int gu, .int gt, .int gw, .int gd, .int gm, .int gr, .int (nI 0), .int gv])), (pa, .inl (G.2 0, 830, .inl f))] H := va_P.extI hP 1 rfl he_923
    have hD : va_D A [(m0, .inr (6, [.ref sa, .ref oa, .ref pa, .ref la, .ref za, .ref na, .int gu, .int gt, .int gw, .int gd, .int gm, .int gr, .int (nI 0), .int gv])), (pa, .inl (G.2 0, 830, .inl f))] := hD.set (p := 1) rfl
    refine lv_aload_n hx hb dX4_save_32 rfl (lv_at hl 0 rfl) ?_
    refine lv_iconst (v := nI 1) hx hb dX4_save_33 (by decide) ?_
    refine va_put (v := .int (nI 1)) (ty := .boolean) hx hb hts in_X4 tyX4 tyX4_ok nmX4 hown hK hP hD hS 0 rfl rfl 13 (by decide) (hts _ q1609) (fun _ h => h) rfl (by decide +kernel) (by decide) (by decide) (Nat.le_of_ble_eq_true rfl) dX4_save_34 (fun H locs (hP : va_P G.1 CL [(m0, .inr (6, [.ref sa, .ref oa, .ref pa, .ref la, .ref za, .ref na, .int gu, .int gt, .int gw, .int gd, .int gm, .int gr, .int (nI 0), .int (nI 1)])), (pa, .inl (G.2 0, 830, .inl f))] H) (hD : va_D A [(m0, .inr (6, [.ref sa, .ref oa, .ref pa, .ref la, .ref za, .ref na, .int gu, .int gt, .int gw, .int gd, .int gm, .int gr, .int (nI 0), .int (nI 1)])), (pa, .inl (G.2 0, 830, .inl f))]) hS => ?_)
    refine lv_aload_n hx hb dX4_save_37 rfl (lv_at hl 0 rfl) ?_
    refine va_get hx hb hts in_X4 hown hK hP 0 rfl rfl 0 (by decide) (hts _ q1596) (fun _ h => h) rfl dX4_save_38 ?_
    refine lv_iconst (v := nI 2) hx hb dX4_save_41 (by decide) ?_
    refine r_iald (v := nI (sN B)) hx hb hK (hR0.w hS) 0 0 rfl rfl (i := 2) (by omega) (by omega) (hM.many) dX4_save_42 ?_
    have hP9 : va_P G.1 CL [(m0, .inr (6, [.ref sa, .ref oa, .ref pa, .ref la, .ref za, .ref na, .int gu, .int gt, .int gw, .int gd, .int gm, .int gr, .int (nI 0), .int (nI 1)])), (pa, .inl (G.2 0, 830, .inl f))] H := hP.sub [0, 1] rfl
    have hD9 : va_D A [(m0, .inr (6, [.ref sa, .ref oa, .ref pa, .ref la, .ref za, .ref na, .int gu, .int gt, .int gw, .int gd, .int gm, .int gr, .int (nI 0), .int (nI 1)])), (pa, .inl (G.2 0, 830, .inl f))] := hD.sub [0, 1] (by decide) rfl
    exact end_i hx hb hr hlk (rfl) (qc_of () (v := some (.int (nI (sN B)))) (by rfl) (trivial) hP9 hD9 (trivial) hS) hS dX4_save_43 (show 0 ≤ 0 from by first | exact Nat.le_refl _ | decide | omega) (show 0 ≤ 0 from by first | exact Nat.le_refl _ | decide | omega)
  · refine lv_aload_n hx hb dX4_save_14 rfl (lv_at hl 0 rfl) ?_
    refine va_get hx hb hts in_X4 hown hK hP 0 rfl rfl 2 (by decide) (hts _ q1598) (fun _ h => h) rfl dX4_save_15 ?_
    refine lv_iload_n hx hb dX4_save_18 rfl (lv_at hl 1 rfl) ?_
    refine lv_aload_n hx hb dX4_save_19 rfl (lv_at hl 0 rfl) ?_
    refine va_get hx hb hts in_X4 hown hK hP 0 rfl rfl 0 (by decide) (hts _ q1596) (fun _ h => h) rfl dX4_save_20 ?_
    refine lv_iload_n hx hb dX4_save_23 rfl (lv_at hl 1 rfl) ?_
    refine r_iald (v := f k_920) hx hb hK (hR0.w hS) 0 0 rfl rfl (i := k_920) (by omega) (by omega) (rfl) dX4_save_24 ?_
    refine r_iast hx hb hK hP hD hS 1 0 rfl rfl (i := k_920) (by omega) (by omega) dX4_save_25 (fun H locs (hP : va_P G.1 CL [(m0, .inr (6, [.ref sa, .ref oa, .ref pa, .ref la, .ref za, .ref na, .int gu, .int gt, .int gw, .int gd, .int gm, .int gr, .int (nI 0), .int gv])), (pa, .inl (G.2 0, 830, .inl (upd g_921 k_920 (f k_920))))] H) (hD : va_D A [(m0, .inr (6, [.ref sa, .ref oa, .ref pa, .ref la, .ref za, .ref na, .int gu, .int gt, .int gw, .int gd, .int gm, .int gr, .int (nI 0), .int gv])), (pa, .inl (G.2 0, 830, .inl (upd g_921 k_920 (f k_920))))]) hS => ?_)
    refine lv_iinc (v := nI (k_920 + 1)) (lv' := [(1, .int (nI (k_920 + 1))), (0, .ref m0)]) hx hb dX4_save_26 hl (k := 1) rfl (ninc (b := 1) (by decide) (by omega)) (by decide) rfl (fun ls hl => ?_)
    refine lv_goto (tgt := 7) hx hb dX4_save_29 (by decide) ?_
    have hP : va_P G.1 CL [(m0, .inr (6, [.ref sa, .ref oa, .ref pa, .ref la, .ref za, .ref na, .int gu, .int gt, .int gw, .int gd, .int gm, .int gr, .int (nI 0), .int gv])), (pa, .inl (G.2 0, 830, .inl (upd g_921 k_920 (f k_920))))] H := hP.sub [0, 1] rfl
    have hD : va_D A [(m0, .inr (6, [.ref sa, .ref oa, .ref pa, .ref la, .ref za, .ref na, .int gu, .int gt, .int gw, .int gd, .int gm, .int gr, .int (nI 0), .int gv])), (pa, .inl (G.2 0, 830, .inl (upd g_921 k_920 (f k_920))))] := hD.sub [0, 1] (by decide) rfl
    have hl := lv_sub hl [1, 0] (l' := [(0, .ref m0), (1, .int (nI (k_920 + 1)))]) rfl
    exact W.widen (show 0 ≤ 0 from by first | exact Nat.le_refl _ | omega) (show 0 ≤ 0 from by first | exact Nat.le_refl _ | omega) (ih7 ((k_920 + 1), upd g_921 k_920 (f k_920)) H locs ls ⟨hP, hD, hS, hl, (show (k_920 + 1) ≤ 830 from by omega), (show ∀ z, z < (k_920 + 1) → (upd g_921 k_920 (f k_920)) z = f z from (fun z hz => by by_cases e : z = k_920; rw [e, pk_us]; rw [pk_un e]; exact hp_919 z (by omega)))⟩ (show 830 - (k_920 + 1) < 830 - k_920 from by omega))

set_option maxHeartbeats 4000000 in
theorem mX4_restore (l : Launch) (G : Gt) (m0 : Nat) (sa : Nat) (oa : Nat) (pa : Nat) (la : Nat) (za : Nat) (na : Nat) (gu : Int32) (gt : Int32) (gw : Int32) (gd : Int32) (gm : Int32) (gr : Int32) (gh : Int32) (f : Nat → Int32) (h : Nat → Int32) (sv : Nat) (B2 : Bk) (hsv : sv ≤ 1) (hM2 : sv = 1 → MR h B2) : CT l G yX4_restore cX4_restore 2 (some .int) ({ frames := 2, cells := 0, slots := 0, locals := 34 } : Room) [.ref m0] [(m0, .inr (6, [.ref sa, .ref oa, .ref pa, .ref la, .ref za, .ref na, .int gu, .int gt, .int gw, .int gd, .int gm, .int gr, .int gh, .int (nI sv)])), (sa, .inl (G.2 0, 830, .inl f))] (fun (A : Nat → Prop) (H : Heap) => roW G A H [(pa, .inl (G.2 0, 830, .inl h))]) (S := Nat × Int32 × (Nat → Int32) × Int32) (fun (u_ : Nat × Int32 × (Nat → Int32) × Int32) => some (.int u_.2.1)) (fun (u_ : Nat × Int32 × (Nat → Int32) × Int32) => ((sv = 0 ∧ u_.1 = 1 ∧ u_.2.2.1 = f ∧ u_.2.2.2 = gu) ∨ (sv = 1 ∧ u_.1 = 0 ∧ u_.2.2.1 = h ∧ u_.2.2.2 = nI 0 ∧ u_.2.1 = nI (sN B2)))) (fun (u_ : Nat × Int32 × (Nat → Int32) × Int32) => [(m0, .inr (6, [.ref sa, .ref oa, .ref pa, .ref la, .ref za, .ref na, .int u_.2.2.2, .int gt, .int gw, .int gd, .int gm, .int gr, .int (nI u_.1), .int (nI sv)])), (sa, .inl (G.2 0, 830, .inl u_.2.2.1))]) (fun (u_ : Nat × Int32 × (Nat → Int32) × Int32) (H : Heap) => True) := by
  refine CT.of (by decide) (Nat.le_of_ble_eq_true rfl) ?_
  intro p e s m below meth c ls A H locs h9 hH0 hP hS
  obtain ⟨cf, hr, hlk, hnm, hKB, hE, -, hD, -, hA, hAw, hR0, hl⟩ := h9
  have hx := cf.1
  have hb := cf.2.1
  have hml := cf.2.2.1
  have hown : s.vm.findClass RX4 = some m.cls := cf.2.2.2.1
  have hts := cf.2.2.2.2
  have hK := hKB.1
  have hl : lv_has ls 2 [(0, .ref m0)] := hl
  refine lv_aload_n hx hb dX4_restore_0 rfl (lv_at hl 0 rfl) ?_
  refine lv_aload_n hx hb dX4_restore_1 rfl (lv_at hl 0 rfl) ?_
  refine va_get hx hb hts in_X4 hown hK hP 0 rfl rfl 13 (by decide) (hts _ q1609) (fun _ h => h) rfl dX4_restore_2 ?_
  refine n_if_ne (tgt := 12) hx hb (by omega) dX4_restore_5 (by decide) (fun c_924 => ?_) (fun c_924 => ?_)
  · refine lv_iconst (v := nI 0) hx hb dX4_restore_12 (by decide) ?_
    refine lv_iconst (v := nI 1) hx hb dX4_restore_13 (by decide) ?_
    have hF := hF_of (wc := [(m0, .inr (6, [.ref sa, .ref oa, .ref pa, .ref la, .ref za, .ref na, .int gu, .int gt, .int gw, .int gd, .int gm, .int gr, .int gh, .int (nI sv)]))]) hD hS hA [0] rfl
    refine go_ct hS hP hD [0] [1] hF rfl rfl (by decide) (by decide)
        (va_runV (As := [.int (nI 0), .int (nI 1)]) (rest := []) cf (mX4_isThrown_f l G m0 sa oa pa la za na gu gt gw gd gm gr gh (nI sv) 1  H.size) (cwV 2 hts (lw_V q1650 q1652 qs20 q58 q1653) rfl rfl rfl (by decide +kernel) ⟨Nat.le_of_ble_eq_true rfl, Nat.le_of_ble_eq_true rfl⟩) (preV_of hKB hE hS hF (va_recv hK hP (ci := 6) (q0 := 0) rfl rfl) (va_P.sub hP [0] rfl) ((va_D.sub hD [0] (by decide) rfl).weaken (fun _ _ _ _ => trivial)) trivial) rfl rfl hl.1 rfl (lv_room (Nat.le_of_ble_eq_true rfl)) dX4_restore_14 ⟨show 0 + 0 ≤ 0 from by first | decide | omega, show 0 + 0 ≤ 0 from by first | decide | omega⟩)
        (fun u_ H locs hq hph (hP : va_P G.1 CL [(sa, .inl (G.2 0, 830, .inl f)), (m0, .inr (6, [.ref sa, .ref oa, .ref pa, .ref la, .ref za, .ref na, .int gu, .int gt, .int gw, .int gd, .int gm, .int gr, .int (nI 0), .int (nI sv)]))] H) (hD : va_D A [(sa, .inl (G.2 0, 830, .inl f)), (m0, .inr (6, [.ref sa, .ref oa, .ref pa, .ref la, .ref za, .ref na, .int gu, .int gt, .int gw, .int gd, .int gm, .int gr, .int (nI 0), .int (nI sv)]))]) hS hfz hfk => ?_)
    refine W.eq (g2 := F0 m 17 ls [.int (nI 0)]) rfl ?_
    refine n_if_eq (tgt := 22) hx hb (by omega) dX4_restore_17 (by decide) (fun c_925 => ?_) (fun c_925 => absurd c_925 (by omega))
    refine lv_iconst (v := nI 0) hx hb dX4_restore_22 (by decide) ?_
    refine lv_istore_n (lv' := [(1, .int (nI 0)), (0, .ref m0)]) hx hb dX4_restore_23 rfl hl (by decide) rfl (fun ls hl => ?_)
    have hl := lv_sub hl [1, 0] (l' := [(0, .ref m0), (1, .int (nI 0))]) rfl
    refine lp_W (σ := Nat × (Nat → Int32)) (hpc := 24) (fun x => 830 - x.1) (fun x => 0) (fun x => 0) (fun x H locs ls => va_P G.1 CL [(sa, .inl (G.2 0, 830, .inl x.2)), (m0, .inr (6, [.ref sa, .ref oa, .ref pa, .ref la, .ref za, .ref na, .int gu, .int gt, .int gw, .int gd, .int gm, .int gr, .int (nI 0), .int (nI sv)]))] H ∧ va_D A [(sa, .inl (G.2 0, 830, .inl x.2)), (m0, .inr (6, [.ref sa, .ref oa, .ref pa, .ref la, .ref za, .ref na, .int gu, .int gt, .int gw, .int gd, .int gm, .int gr, .int (nI 0), .int (nI sv)]))] ∧ va_S A s.heap H locs ∧ lv_has ls 2 [(0, .ref m0), (1, .int (nI x.1))] ∧ (x.1 ≤ 830) ∧ (∀ z, z < x.1 → x.2 z = h z)) ?_ (0, f) ⟨(show va_P G.1 CL [(sa, .inl (G.2 0, 830, .inl f)), (m0, .inr (6, [.ref sa, .ref oa, .ref pa, .ref la, .ref za, .ref na, .int gu, .int gt, .int gw, .int gd, .int gm, .int gr, .int (nI 0), .int (nI sv)]))] H from hP), (show va_D A [(sa, .inl (G.2 0, 830, .inl f)), (m0, .inr (6, [.ref sa, .ref oa, .ref pa, .ref la, .ref za, .ref na, .int gu, .int gt, .int gw, .int gd, .int gm, .int gr, .int (nI 0), .int (nI sv)]))] from hD), hS, hl, (show 0 ≤ 830 from by omega), (show ∀ z, z < 0 → f z = h z from (fun z hz => absurd hz (by omega)))⟩ (show 0 ≤ 0 from by first | exact Nat.le_refl _ | omega) (show 0 ≤ 0 from by first | exact Nat.le_refl _ | omega)
    intro x H locs ls hI9 ih24
    obtain ⟨k_928, g_929⟩ := x
    obtain ⟨hP, hD, hS, hl, hp_926, hp_927⟩ := hI9
    have hP : va_P G.1 CL [(sa, .inl (G.2 0, 830, .inl g_929)), (m0, .inr (6, [.ref sa, .ref oa, .ref pa, .ref la, .ref za, .ref na, .int gu, .int gt, .int gw, .int gd, .int gm, .int gr, .int (nI 0), .int (nI sv)]))] H := hP
    have hD : va_D A [(sa, .inl (G.2 0, 830, .inl g_929)), (m0, .inr (6, [.ref sa, .ref oa, .ref pa, .ref la, .ref za, .ref na, .int gu, .int gt, .int gw, .int gd, .int gm, .int gr, .int (nI 0), .int (nI sv)]))] := hD
    have hl : lv_has ls 2 [(0, .ref m0), (1, .int (nI k_928))] := hl
    have hp_926 : k_928 ≤ 830 := hp_926
    have hp_927 : ∀ z, z < k_928 → g_929 z = h z := hp_927
    refine lv_iload_n hx hb dX4_restore_24 rfl (lv_at hl 1 rfl) ?_
    refine lv_sipush (v := nI 830) hx hb dX4_restore_25 (by decide) ?_
    refine n_icmp_ge (tgt := 49) hx hb (by omega) (by omega) dX4_restore_28 (by decide) (fun c_930 => ?_) (fun c_930 => ?_)
    · have he_931 : ∀ j9, j9 < 830 → g_929 j9 = h j9 := fun z hz => hp_927 z (by omega)
      have hP : va_P G.1 CL [(sa, .inl (G.2 0, 830, .inl h)), (m0, .inr (6, [.ref sa, .ref oa, .ref pa, .ref la, .ref za, .ref na, .int gu, .int gt, .int gw, .int gd, .int gm, .int gr, .int (nI 0), .int (nI sv)]))] H := va_P.extI hP 0 rfl he_931
      have hD : va_D A [(sa, .inl (G.2 0, 830, .inl h)), (m0, .inr (6, [.ref sa, .ref oa, .ref pa, .ref la, .ref za, .ref na, .int gu, .int gt, .int gw, .int gd, .int gm, .int gr, .int (nI 0), .int (nI sv)]))] := hD.set (p := 0) rfl
      refine lv_aload_n hx hb dX4_restore_49 rfl (lv_at hl 0 rfl) ?_
      refine lv_iconst (v := nI 0) hx hb dX4_restore_50 (by decide) ?_
      refine va_put (v := .int (nI 0)) (ty := .int) hx hb hts in_X4 tyX4 tyX4_ok nmX4 hown hK hP hD hS 1 rfl rfl 6 (by decide) (hts _ q1602) (fun _ h => h) rfl (by decide +kernel) rfl rfl (Nat.le_of_ble_eq_true rfl) dX4_restore_51 (fun H locs (hP : va_P G.1 CL [(sa, .inl (G.2 0, 830, .inl h)), (m0, .inr (6, [.ref sa, .ref oa, .ref pa, .ref la, .ref za, .ref na, .int (nI 0), .int gt, .int gw, .int gd, .int gm, .int gr, .int (nI 0), .int (nI sv)]))] H) (hD : va_D A [(sa, .inl (G.2 0, 830, .inl h)), (m0, .inr (6, [.ref sa, .ref oa, .ref pa, .ref la, .ref za, .ref na, .int (nI 0), .int gt, .int gw, .int gd, .int gm, .int gr, .int (nI 0), .int (nI sv)]))]) hS => ?_)
      refine lv_aload_n hx hb dX4_restore_54 rfl (lv_at hl 0 rfl) ?_
      refine va_get hx hb hts in_X4 hown hK hP 1 rfl rfl 0 (by decide) (hts _ q1596) (fun _ h => h) rfl dX4_restore_55 ?_
      refine lv_iconst (v := nI 2) hx hb dX4_restore_58 (by decide) ?_
      refine r_iald (v := nI (sN B2)) hx hb hK hP 0 0 rfl rfl (i := 2) (by omega) (by omega) ((hM2 (by omega)).many) dX4_restore_59 ?_
      have hP9 : va_P G.1 CL [(m0, .inr (6, [.ref sa, .ref oa, .ref pa, .ref la, .ref za, .ref na, .int (nI 0), .int gt, .int gw, .int gd, .int gm, .int gr, .int (nI 0), .int (nI sv)])), (sa, .inl (G.2 0, 830, .inl h))] H := hP.sub [1, 0] rfl
      have hD9 : va_D A [(m0, .inr (6, [.ref sa, .ref oa, .ref pa, .ref la, .ref za, .ref na, .int (nI 0), .int gt, .int gw, .int gd, .int gm, .int gr, .int (nI 0), .int (nI sv)])), (sa, .inl (G.2 0, 830, .inl h))] := hD.sub [1, 0] (by decide) rfl
      exact end_i hx hb hr hlk (rfl) (qc_of ⟨0, nI (sN B2), h, nI 0⟩ (v := some (.int (nI (sN B2)))) (by rfl) (Or.inr ⟨by omega, rfl, rfl, rfl, rfl⟩) hP9 hD9 (trivial) hS) hS dX4_restore_60 (show 0 ≤ 0 from by first | exact Nat.le_refl _ | decide | omega) (show 0 ≤ 0 from by first | exact Nat.le_refl _ | decide | omega)
    · refine lv_aload_n hx hb dX4_restore_31 rfl (lv_at hl 0 rfl) ?_
      refine va_get hx hb hts in_X4 hown hK hP 1 rfl rfl 0 (by decide) (hts _ q1596) (fun _ h => h) rfl dX4_restore_32 ?_
      refine lv_iload_n hx hb dX4_restore_35 rfl (lv_at hl 1 rfl) ?_
      refine lv_aload_n hx hb dX4_restore_36 rfl (lv_at hl 0 rfl) ?_
      refine va_get hx hb hts in_X4 hown hK hP 1 rfl rfl 2 (by decide) (hts _ q1598) (fun _ h => h) rfl dX4_restore_37 ?_
      refine lv_iload_n hx hb dX4_restore_40 rfl (lv_at hl 1 rfl) ?_
      refine r_iald (v := h k_928) hx hb hK (hR0.w hS) 0 0 rfl rfl (i := k_928) (by omega) (by omega) (rfl) dX4_restore_41 ?_
      refine r_iast hx hb hK hP hD hS 0 0 rfl rfl (i := k_928) (by omega) (by omega) dX4_restore_42 (fun H locs (hP : va_P G.1 CL [(sa, .inl (G.2 0, 830, .inl (upd g_929 k_928 (h k_928)))), (m0, .inr (6, [.ref sa, .ref oa, .ref pa, .ref la, .ref za, .ref na, .int gu, .int gt, .int gw, .int gd, .int gm, .int gr, .int (nI 0), .int (nI sv)]))] H) (hD : va_D A [(sa, .inl (G.2 0, 830, .inl (upd g_929 k_928 (h k_928)))), (m0, .inr (6, [.ref sa, .ref oa, .ref pa, .ref la, .ref za, .ref na, .int gu, .int gt, .int gw, .int gd, .int gm, .int gr, .int (nI 0), .int (nI sv)]))]) hS => ?_)
      refine lv_iinc (v := nI (k_928 + 1)) (lv' := [(1, .int (nI (k_928 + 1))), (0, .ref m0)]) hx hb dX4_restore_43 hl (k := 1) rfl (ninc (b := 1) (by decide) (by omega)) (by decide) rfl (fun ls hl => ?_)
      refine lv_goto (tgt := 24) hx hb dX4_restore_46 (by decide) ?_
      have hP : va_P G.1 CL [(sa, .inl (G.2 0, 830, .inl (upd g_929 k_928 (h k_928)))), (m0, .inr (6, [.ref sa, .ref oa, .ref pa, .ref la, .ref za, .ref na, .int gu, .int gt, .int gw, .int gd, .int gm, .int gr, .int (nI 0), .int (nI sv)]))] H := hP.sub [0, 1] rfl
      have hD : va_D A [(sa, .inl (G.2 0, 830, .inl (upd g_929 k_928 (h k_928)))), (m0, .inr (6, [.ref sa, .ref oa, .ref pa, .ref la, .ref za, .ref na, .int gu, .int gt, .int gw, .int gd, .int gm, .int gr, .int (nI 0), .int (nI sv)]))] := hD.sub [0, 1] (by decide) rfl
      have hl := lv_sub hl [1, 0] (l' := [(0, .ref m0), (1, .int (nI (k_928 + 1)))]) rfl
      exact W.widen (show 0 ≤ 0 from by first | exact Nat.le_refl _ | omega) (show 0 ≤ 0 from by first | exact Nat.le_refl _ | omega) (ih24 ((k_928 + 1), upd g_929 k_928 (h k_928)) H locs ls ⟨hP, hD, hS, hl, (show (k_928 + 1) ≤ 830 from by omega), (show ∀ z, z < (k_928 + 1) → (upd g_929 k_928 (h k_928)) z = h z from (fun z hz => by by_cases e : z = k_928; rw [e, pk_us]; rw [pk_un e]; exact hp_927 z (by omega)))⟩ (show 830 - (k_928 + 1) < 830 - k_928 from by omega))
  · refine lv_iconst (v := nI 1) hx hb dX4_restore_8 (by decide) ?_
    refine lv_goto (tgt := 13) hx hb dX4_restore_9 (by decide) ?_
    refine lv_iconst (v := nI 1) hx hb dX4_restore_13 (by decide) ?_
    have hF := hF_of (wc := [(m0, .inr (6, [.ref sa, .ref oa, .ref pa, .ref la, .ref za, .ref na, .int gu, .int gt, .int gw, .int gd, .int gm, .int gr, .int gh, .int (nI sv)]))]) hD hS hA [0] rfl
    refine go_ct hS hP hD [0] [1] hF rfl rfl (by decide) (by decide)
        (va_runV (As := [.int (nI 1), .int (nI 1)]) (rest := []) cf (mX4_isThrown_t l G m0 sa oa pa la za na gu gt gw gd gm gr gh (nI sv) 1  H.size) (cwV 2 hts (lw_V q1650 q1652 qs20 q58 q1653) rfl rfl rfl (by decide +kernel) ⟨Nat.le_of_ble_eq_true rfl, Nat.le_of_ble_eq_true rfl⟩) (preV_of hKB hE hS hF (va_recv hK hP (ci := 6) (q0 := 0) rfl rfl) (va_P.sub hP [0] rfl) ((va_D.sub hD [0] (by decide) rfl).weaken (fun _ _ _ _ => trivial)) trivial) rfl rfl hl.1 rfl (lv_room (Nat.le_of_ble_eq_true rfl)) dX4_restore_14 ⟨show 0 + 0 ≤ 0 from by first | decide | omega, show 0 + 0 ≤ 0 from by first | decide | omega⟩)
        (fun u_ H locs hq hph (hP : va_P G.1 CL [(sa, .inl (G.2 0, 830, .inl f)), (m0, .inr (6, [.ref sa, .ref oa, .ref pa, .ref la, .ref za, .ref na, .int gu, .int gt, .int gw, .int gd, .int gm, .int gr, .int (nI 1), .int (nI sv)]))] H) (hD : va_D A [(sa, .inl (G.2 0, 830, .inl f)), (m0, .inr (6, [.ref sa, .ref oa, .ref pa, .ref la, .ref za, .ref na, .int gu, .int gt, .int gw, .int gd, .int gm, .int gr, .int (nI 1), .int (nI sv)]))]) hS hfz hfk => ?_)
    refine W.eq (g2 := F0 m 17 ls [.int (nI 1)]) rfl ?_
    refine n_if_eq (tgt := 22) hx hb (by omega) dX4_restore_17 (by decide) (fun c_932 => absurd c_932 (by omega)) (fun c_932 => ?_)
    refine lv_iconst (v := nI 0) hx hb dX4_restore_20 (by decide) ?_
    have hP9 : va_P G.1 CL [(m0, .inr (6, [.ref sa, .ref oa, .ref pa, .ref la, .ref za, .ref na, .int gu, .int gt, .int gw, .int gd, .int gm, .int gr, .int (nI 1), .int (nI sv)])), (sa, .inl (G.2 0, 830, .inl f))] H := hP.sub [1, 0] rfl
    have hD9 : va_D A [(m0, .inr (6, [.ref sa, .ref oa, .ref pa, .ref la, .ref za, .ref na, .int gu, .int gt, .int gw, .int gd, .int gm, .int gr, .int (nI 1), .int (nI sv)])), (sa, .inl (G.2 0, 830, .inl f))] := hD.sub [1, 0] (by decide) rfl
    exact end_i hx hb hr hlk (rfl) (qc_of ⟨1, nI 0, f, gu⟩ (v := some (.int (nI 0))) (by rfl) (Or.inl ⟨by omega, rfl, rfl, rfl⟩) hP9 hD9 (trivial) hS) hS dX4_restore_21 (show 0 ≤ 0 from by first | exact Nat.le_refl _ | decide | omega) (show 0 ≤ 0 from by first | exact Nat.le_refl _ | decide | omega)
