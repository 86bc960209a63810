/-! the model: what changes its row -/
set_option maxRecDepth 100000
set_option maxHeartbeats 4000000 in
theorem mX4_pass (l : Launch) (G : Gt) (m0 : Nat) (sa : Nat) (oa : Nat) (pa : Nat) (la : Nat) (za : Nat) (na : Nat) (gw : Int32) (gd : Int32) (gm : Int32) (gr : Int32) (gh : Int32) (gv : Int32) (f : Nat → Int32) (B : Bk) (t : Nat) (u : Nat) (ta : Nat) (h : Nat → Int32) (og : Nat → Option Nat) (zf : Nat → Int32) (v : Int32) (hM : MR f B) (hI : Inv B) (ht : t < 6) (hu : u ≤ 6) (hog : og ((t + 1) % 6) = some ta) : CT l G yX4_pass cX4_pass 2 (some .int) ({ frames := 2, cells := 0, slots := 0, locals := 41 } : Room) [.ref m0, .int v] [(m0, .inr (6, [.ref sa, .ref oa, .ref pa, .ref la, .ref za, .ref na, .int (nI u), .int (nI t), .int gw, .int gd, .int gm, .int gr, .int gh, .int gv])), (sa, .inl (G.2 0, 830, .inl f)), (ta, .inl (G.2 0, 830, .inl h)), (za, .inl (G.2 0, 6, .inl zf))] (fun (A : Nat → Prop) (H : Heap) => roW G A H [(oa, .inl (G.2 7, 6, .inr (.inr (.inr (.inr og)))))]) (S := Int32 × (Nat → Int32) × Nat × Nat × (Nat → Int32) × (Nat → Int32)) (fun (u_ : Int32 × (Nat → Int32) × Nat × Nat × (Nat → Int32) × (Nat → Int32)) => some (.int u_.1)) (fun (u_ : Int32 × (Nat → Int32) × Nat × Nat × (Nat → Int32) × (Nat → Int32)) => MutP (o_pass B v) f t u h u_.1 u_.2.1 u_.2.2.1 u_.2.2.2.1 u_.2.2.2.2.1) (fun (u_ : Int32 × (Nat → Int32) × Nat × Nat × (Nat → Int32) × (Nat → Int32)) => [(m0, .inr (6, [.ref sa, .ref oa, .ref pa, .ref la, .ref za, .ref na, .int (nI u_.2.2.2.1), .int (nI u_.2.2.1), .int gw, .int gd, .int gm, .int gr, .int (nI ((o_pass B v).1)), .int gv])), (sa, .inl (G.2 0, 830, .inl u_.2.1)), (ta, .inl (G.2 0, 830, .inl u_.2.2.2.2.1)), (za, .inl (G.2 0, 6, .inl u_.2.2.2.2.2))]) (fun (u_ : Int32 × (Nat → Int32) × Nat × Nat × (Nat → Int32) × (Nat → Int32)) (H : Heap) => True) := by
  refine CT.of (by decide) (Nat.le_of_ble_eq_true rfl) ?_
  intro p e s m below meth c ls A H locs h9 hH0 hP hS
  obtain ⟨cf, hr, hlk, hnm, hKB, hE, -, hD, -, hA, hAw, hR0, hl⟩ := h9
  have hx := cf.1
  have hb := cf.2.1
  have hml := cf.2.2.1
  have hown : s.vm.findClass RX4 = some m.cls := cf.2.2.2.1
  have hts := cf.2.2.2.2
  have hK := hKB.1
  have hl : lv_has ls 2 [(0, .ref m0), (1, .int v)] := hl
  have iN := iv_sN hI
  have iT := iv_tN hI
  have iD := iv_bD hI
  have iE := iv_bE hI
  have iW := iv_id hI
  refine lv_aload_n hx hb dX4_pass_0 rfl (lv_at hl 0 rfl) ?_
  refine lv_iload_n hx hb dX4_pass_1 rfl (lv_at hl 1 rfl) ?_
  refine lv_iconst (v := nI 1) hx hb dX4_pass_2 (by decide) ?_
  refine lv_bipush (v := nI 30) hx hb dX4_pass_3 (by decide) ?_
  have hF := hF_of (wc := []) hD hS hA [] rfl
  refine go_ct hS hP hD [] [0, 1, 2, 3] hF rfl rfl (by decide) (by decide)
      (va_runS (As := [.int v, .int (nI 1), .int (nI 30)]) (rest := [.ref m0]) cf (mX4_isIn l G v (nI 1) (nI 30)  H.size) (va_cwS 3 hts (lw_S q1647 q1648 q58 q1649) rfl rfl rfl (by decide +kernel) ⟨Nat.le_of_ble_eq_true rfl, Nat.le_of_ble_eq_true rfl⟩) (preS_of hKB hE hS hF (va_P.sub hP [] rfl) ((va_D.sub hD [] (by decide) rfl).weaken (fun _ _ _ _ => trivial)) trivial) rfl rfl hl.1 rfl (lv_room (Nat.le_of_ble_eq_true rfl)) dX4_pass_5 ⟨show 0 + 0 ≤ 0 from by first | decide | omega, show 0 + 0 ≤ 0 from by first | decide | omega⟩)
      (fun u_ H locs hq hph (hP : va_P G.1 CL [(m0, .inr (6, [.ref sa, .ref oa, .ref pa, .ref la, .ref za, .ref na, .int (nI u), .int (nI t), .int gw, .int gd, .int gm, .int gr, .int gh, .int gv])), (sa, .inl (G.2 0, 830, .inl f)), (ta, .inl (G.2 0, 830, .inl h)), (za, .inl (G.2 0, 6, .inl zf))] H) (hD : va_D A [(m0, .inr (6, [.ref sa, .ref oa, .ref pa, .ref la, .ref za, .ref na, .int (nI u), .int (nI t), .int gw, .int gd, .int gm, .int gr, .int gh, .int gv])), (sa, .inl (G.2 0, 830, .inl f)), (ta, .inl (G.2 0, 830, .inl h)), (za, .inl (G.2 0, 6, .inl zf))]) hS hfz hfk => ?_)
  obtain ⟨b_597, rfl⟩ : ∃ z, z = u_ := ⟨_, rfl⟩
  have hP : va_P G.1 CL [(m0, .inr (6, [.ref sa, .ref oa, .ref pa, .ref la, .ref za, .ref na, .int (nI u), .int (nI t), .int gw, .int gd, .int gm, .int gr, .int gh, .int gv])), (sa, .inl (G.2 0, 830, .inl f)), (ta, .inl (G.2 0, 830, .inl h)), (za, .inl (G.2 0, 6, .inl zf))] H := hP
  have hD : va_D A [(m0, .inr (6, [.ref sa, .ref oa, .ref pa, .ref la, .ref za, .ref na, .int (nI u), .int (nI t), .int gw, .int gd, .int gm, .int gr, .int gh, .int gv])), (sa, .inl (G.2 0, 830, .inl f)), (ta, .inl (G.2 0, 830, .inl h)), (za, .inl (G.2 0, 6, .inl zf))] := hD
  have hq_598 : (b_597 = true ↔ (nI 1) ≤ v ∧ v ≤ (nI 30)) := hq
  refine W.eq (g2 := F0 m 8 ls [.int (bI b_597), .ref m0]) rfl ?_
  cases b_597
  · refine lv_ton (n := 0) rfl ?_
    have hir_599 : inR v 1 30 = none := inR_none (fun z => absurd (hq_598.mpr z) (by decide))
    refine n_if_ne (tgt := 15) hx hb (by omega) dX4_pass_8 (by decide) (fun c_600 => absurd c_600 (by omega)) (fun c_600 => ?_)
    refine lv_iconst (v := nI 1) hx hb dX4_pass_11 (by decide) ?_
    refine lv_goto (tgt := 16) hx hb dX4_pass_12 (by decide) ?_
    refine lv_iconst (v := nI 1) hx hb dX4_pass_16 (by decide) ?_
    have hF := hF_of (wc := [(m0, .inr (6, [.ref sa, .ref oa, .ref pa, .ref la, .ref za, .ref na, .int (nI u), .int (nI t), .int gw, .int gd, .int gm, .int gr, .int gh, .int gv]))]) hD hS hA [0] rfl
    refine go_ct hS hP hD [0] [1, 2, 3] hF rfl rfl (by decide) (by decide)
        (va_runV (As := [.int (nI 1), .int (nI 1)]) (rest := []) cf (mX4_isThrown_t l G m0 sa oa pa la za na (nI u) (nI t) gw gd gm gr gh gv 1  H.size) (cwV 2 hts (lw_V q1650 q1652 qs20 q58 q1653) rfl rfl rfl (by decide +kernel) ⟨Nat.le_of_ble_eq_true rfl, Nat.le_of_ble_eq_true rfl⟩) (preV_of hKB hE hS hF (va_recv hK hP (ci := 6) (q0 := 0) rfl rfl) (va_P.sub hP [0] rfl) ((va_D.sub hD [0] (by decide) rfl).weaken (fun _ _ _ _ => trivial)) trivial) rfl rfl hl.1 rfl (lv_room (Nat.le_of_ble_eq_true rfl)) dX4_pass_17 ⟨show 0 + 0 ≤ 0 from by first | decide | omega, show 0 + 0 ≤ 0 from by first | decide | omega⟩)
        (fun u_ H locs hq hph (hP : va_P G.1 CL [(sa, .inl (G.2 0, 830, .inl f)), (ta, .inl (G.2 0, 830, .inl h)), (za, .inl (G.2 0, 6, .inl zf)), (m0, .inr (6, [.ref sa, .ref oa, .ref pa, .ref la, .ref za, .ref na, .int (nI u), .int (nI t), .int gw, .int gd, .int gm, .int gr, .int (nI 1), .int gv]))] H) (hD : va_D A [(sa, .inl (G.2 0, 830, .inl f)), (ta, .inl (G.2 0, 830, .inl h)), (za, .inl (G.2 0, 6, .inl zf)), (m0, .inr (6, [.ref sa, .ref oa, .ref pa, .ref la, .ref za, .ref na, .int (nI u), .int (nI t), .int gw, .int gd, .int gm, .int gr, .int (nI 1), .int gv]))]) hS hfz hfk => ?_)
    refine W.eq (g2 := F0 m 20 ls [.int (nI 1)]) rfl ?_
    refine n_if_ne (tgt := 50) hx hb (by omega) dX4_pass_20 (by decide) (fun c_601 => ?_) (fun c_601 => absurd c_601 (by omega))
    refine lv_iconst (v := nI 0) hx hb dX4_pass_50 (by decide) ?_
    have hq9 : o_pass B v = (1, 0, B) := by unfold o_pass; rw [hir_599] <;> rfl
    have hP : va_P G.1 CL [(sa, .inl (G.2 0, 830, .inl f)), (ta, .inl (G.2 0, 830, .inl h)), (za, .inl (G.2 0, 6, .inl zf)), (m0, .inr (6, [.ref sa, .ref oa, .ref pa, .ref la, .ref za, .ref na, .int (nI u), .int (nI t), .int gw, .int gd, .int gm, .int gr, .int (nI ((o_pass B v).1)), .int gv]))] H := by rw [hq9]; exact hP
    have hD : va_D A [(sa, .inl (G.2 0, 830, .inl f)), (ta, .inl (G.2 0, 830, .inl h)), (za, .inl (G.2 0, 6, .inl zf)), (m0, .inr (6, [.ref sa, .ref oa, .ref pa, .ref la, .ref za, .ref na, .int (nI u), .int (nI t), .int gw, .int gd, .int gm, .int gr, .int (nI ((o_pass B v).1)), .int gv]))] := by rw [hq9]; exact hD
    have hP9 : va_P G.1 CL [(m0, .inr (6, [.ref sa, .ref oa, .ref pa, .ref la, .ref za, .ref na, .int (nI u), .int (nI t), .int gw, .int gd, .int gm, .int gr, .int (nI ((o_pass B v).1)), .int gv])), (sa, .inl (G.2 0, 830, .inl f)), (ta, .inl (G.2 0, 830, .inl h)), (za, .inl (G.2 0, 6, .inl zf))] H := hP.sub [3, 0, 1, 2] rfl
    have hD9 : va_D A [(m0, .inr (6, [.ref sa, .ref oa, .ref pa, .ref la, .ref za, .ref na, .int (nI u), .int (nI t), .int gw, .int gd, .int gm, .int gr, .int (nI ((o_pass B v).1)), .int gv])), (sa, .inl (G.2 0, 830, .inl f)), (ta, .inl (G.2 0, 830, .inl h)), (za, .inl (G.2 0, 6, .inl zf))] := hD.sub [3, 0, 1, 2] (by decide) rfl
    exact end_i hx hb hr hlk (rfl) (qc_of ⟨nI 0, f, t, u, h, zf⟩ (v := some (.int (nI 0))) (by rfl) (by rw [hq9]; exact ⟨fun _ => ⟨rfl, rfl, rfl, rfl⟩, fun z => absurd (show (1 : Nat) = 0 from z) (by decide)⟩) hP9 hD9 (trivial) hS) hS dX4_pass_51 (show 0 ≤ 0 from by first | exact Nat.le_refl _ | decide | omega) (show 0 ≤ 0 from by first | exact Nat.le_refl _ | decide | omega)
  · refine lv_ton (n := 1) rfl ?_
    have hin_602 : nI 1 ≤ v ∧ v ≤ nI 30 := hq_598.mp rfl
    obtain ⟨d_603, hv_604, h_605, h_606⟩ := in_nat (lo := 1) (hi := 30) (by omega) (by omega) hin_602.1 hin_602.2
    have hir_607 : inR v 1 30 = some d_603 := inR_some hv_604 h_605 h_606 (by omega)
    have hl : lv_has ls 2 [(0, .ref m0), (1, .int (nI d_603))] := by
      have e9 : ((.int (nI d_603)) : Value) = .int v := by rw [hv_604]
      rw [e9]; exact hl
    refine n_if_ne (tgt := 15) hx hb (by omega) dX4_pass_8 (by decide) (fun c_608 => ?_) (fun c_608 => absurd c_608 (by omega))
    refine lv_iconst (v := nI 0) hx hb dX4_pass_15 (by decide) ?_
    refine lv_iconst (v := nI 1) hx hb dX4_pass_16 (by decide) ?_
    have hF := hF_of (wc := [(m0, .inr (6, [.ref sa, .ref oa, .ref pa, .ref la, .ref za, .ref na, .int (nI u), .int (nI t), .int gw, .int gd, .int gm, .int gr, .int gh, .int gv]))]) hD hS hA [0] rfl
    refine go_ct hS hP hD [0] [1, 2, 3] hF rfl rfl (by decide) (by decide)
        (va_runV (As := [.int (nI 0), .int (nI 1)]) (rest := []) cf (mX4_isThrown_f l G m0 sa oa pa la za na (nI u) (nI t) gw gd gm gr gh gv 1  H.size) (cwV 2 hts (lw_V q1650 q1652 qs20 q58 q1653) rfl rfl rfl (by decide +kernel) ⟨Nat.le_of_ble_eq_true rfl, Nat.le_of_ble_eq_true rfl⟩) (preV_of hKB hE hS hF (va_recv hK hP (ci := 6) (q0 := 0) rfl rfl) (va_P.sub hP [0] rfl) ((va_D.sub hD [0] (by decide) rfl).weaken (fun _ _ _ _ => trivial)) trivial) rfl rfl hl.1 rfl (lv_room (Nat.le_of_ble_eq_true rfl)) dX4_pass_17 ⟨show 0 + 0 ≤ 0 from by first | decide | omega, show 0 + 0 ≤ 0 from by first | decide | omega⟩)
        (fun u_ H locs hq hph (hP : va_P G.1 CL [(sa, .inl (G.2 0, 830, .inl f)), (ta, .inl (G.2 0, 830, .inl h)), (za, .inl (G.2 0, 6, .inl zf)), (m0, .inr (6, [.ref sa, .ref oa, .ref pa, .ref la, .ref za, .ref na, .int (nI u), .int (nI t), .int gw, .int gd, .int gm, .int gr, .int (nI 0), .int gv]))] H) (hD : va_D A [(sa, .inl (G.2 0, 830, .inl f)), (ta, .inl (G.2 0, 830, .inl h)), (za, .inl (G.2 0, 6, .inl zf)), (m0, .inr (6, [.ref sa, .ref oa, .ref pa, .ref la, .ref za, .ref na, .int (nI u), .int (nI t), .int gw, .int gd, .int gm, .int gr, .int (nI 0), .int gv]))]) hS hfz hfk => ?_)
    refine W.eq (g2 := F0 m 20 ls [.int (nI 0)]) rfl ?_
    refine n_if_ne (tgt := 50) hx hb (by omega) dX4_pass_20 (by decide) (fun c_609 => absurd c_609 (by omega)) (fun c_609 => ?_)
    refine lv_aload_n hx hb dX4_pass_23 rfl (lv_at hl 0 rfl) ?_
    refine lv_aload_n hx hb dX4_pass_24 rfl (lv_at hl 0 rfl) ?_
    refine va_get hx hb hts in_X4 hown hK hP 3 rfl rfl 0 (by decide) (hts _ q1596) (fun _ h => h) rfl dX4_pass_25 ?_
    refine lv_iconst (v := nI 0) hx hb dX4_pass_28 (by decide) ?_
    refine r_iald (v := nI (bD B)) hx hb hK hP 0 0 rfl rfl (i := 0) (by omega) (by omega) (hM.today) dX4_pass_29 ?_
    refine lv_iload_n hx hb dX4_pass_30 rfl (lv_at hl 1 rfl) ?_
    refine lv_iadd hx hb dX4_pass_31 ?_
    refine lv_ton (n := (bD B) + d_603) (nadd (by omega)) ?_
    refine lv_sipush (v := nI 199) hx hb dX4_pass_32 (by decide) ?_
    refine n_icmp_le (tgt := 42) hx hb (by omega) (by omega) dX4_pass_35 (by decide) (fun c_610 => ?_) (fun c_610 => ?_)
    · refine lv_iconst (v := nI 0) hx hb dX4_pass_42 (by decide) ?_
      refine lv_iconst (v := nI 2) hx hb dX4_pass_43 (by decide) ?_
      have hF := hF_of (wc := [(m0, .inr (6, [.ref sa, .ref oa, .ref pa, .ref la, .ref za, .ref na, .int (nI u), .int (nI t), .int gw, .int gd, .int gm, .int gr, .int (nI 0), .int gv]))]) hD hS hA [3] rfl
      refine go_ct hS hP hD [3] [0, 1, 2] hF rfl rfl (by decide) (by decide)
          (va_runV (As := [.int (nI 0), .int (nI 2)]) (rest := []) cf (mX4_isThrown_f l G m0 sa oa pa la za na (nI u) (nI t) gw gd gm gr (nI 0) gv 2  H.size) (cwV 2 hts (lw_V q1650 q1652 qs20 q58 q1653) rfl rfl rfl (by decide +kernel) ⟨Nat.le_of_ble_eq_true rfl, Nat.le_of_ble_eq_true rfl⟩) (preV_of hKB hE hS hF (va_recv hK hP (ci := 6) (q0 := 3) rfl rfl) (va_P.sub hP [3] rfl) ((va_D.sub hD [3] (by decide) rfl).weaken (fun _ _ _ _ => trivial)) trivial) rfl rfl hl.1 rfl (lv_room (Nat.le_of_ble_eq_true rfl)) dX4_pass_44 ⟨show 0 + 0 ≤ 0 from by first | decide | omega, show 0 + 0 ≤ 0 from by first | decide | omega⟩)
          (fun u_ H locs hq hph (hP : va_P G.1 CL [(sa, .inl (G.2 0, 830, .inl f)), (ta, .inl (G.2 0, 830, .inl h)), (za, .inl (G.2 0, 6, .inl zf)), (m0, .inr (6, [.ref sa, .ref oa, .ref pa, .ref la, .ref za, .ref na, .int (nI u), .int (nI t), .int gw, .int gd, .int gm, .int gr, .int (nI 0), .int gv]))] H) (hD : va_D A [(sa, .inl (G.2 0, 830, .inl f)), (ta, .inl (G.2 0, 830, .inl h)), (za, .inl (G.2 0, 6, .inl zf)), (m0, .inr (6, [.ref sa, .ref oa, .ref pa, .ref la, .ref za, .ref na, .int (nI u), .int (nI t), .int gw, .int gd, .int gm, .int gr, .int (nI 0), .int gv]))]) hS hfz hfk => ?_)
      refine W.eq (g2 := F0 m 47 ls [.int (nI 0)]) rfl ?_
      refine n_if_eq (tgt := 52) hx hb (by omega) dX4_pass_47 (by decide) (fun c_611 => ?_) (fun c_611 => absurd c_611 (by omega))
      refine lv_aload_n hx hb dX4_pass_52 rfl (lv_at hl 0 rfl) ?_
      have hF := hF_of (wc := [(m0, .inr (6, [.ref sa, .ref oa, .ref pa, .ref la, .ref za, .ref na, .int (nI u), .int (nI t), .int gw, .int gd, .int gm, .int gr, .int (nI 0), .int gv])), (ta, .inl (G.2 0, 830, .inl h))]) hD hS hA [3, 1] rfl
      have hro_612 : roW G (va_A [(m0, .inr (6, [.ref sa, .ref oa, .ref pa, .ref la, .ref za, .ref na, .int (nI u), .int (nI t), .int gw, .int gd, .int gm, .int gr, .int (nI 0), .int gv])), (ta, .inl (G.2 0, 830, .inl h))] H.size) H [(oa, .inl (G.2 7, 6, .inr (.inr (.inr (.inr og))))), (sa, .inl (G.2 0, 830, .inl f))] := (((hR0.kp hF hS.2.1).sub (ws' := [(oa, .inl (G.2 7, 6, .inr (.inr (.inr (.inr og)))))]) [0] rfl).app (roW.of (w' := [(sa, .inl (G.2 0, 830, .inl f))]) hP hD [3, 1] [0] rfl rfl (by decide)))
      refine go_ct hS hP hD [3, 1] [0, 2] hF rfl rfl (by decide) (by decide)
          (va_runV (As := []) (rest := []) cf (mX4_keeps l G m0 sa oa pa la za na gw gd gm gr (nI 0) gv f t u ta h og (show t < 6 from by first | assumption | omega) (show u ≤ 6 from by first | assumption | omega) (show og ((t + 1) % 6) = some ta from by first | assumption | omega) H.size) (cwV 0 hts (lw_V q1654 q1656 qs21 q58 q1657) rfl rfl rfl (by decide +kernel) ⟨Nat.le_of_ble_eq_true rfl, Nat.le_of_ble_eq_true rfl⟩) (preV_of hKB hE hS hF (va_recv hK hP (ci := 6) (q0 := 3) rfl rfl) (va_P.sub hP [3, 1] rfl) ((va_D.sub hD [3, 1] (by decide) rfl).weaken (fun _ _ _ _ => trivial)) hro_612) rfl rfl hl.1 rfl (lv_room (Nat.le_of_ble_eq_true rfl)) dX4_pass_53 ⟨show 0 + 0 ≤ 0 from by first | decide | omega, show 0 + 0 ≤ 0 from by first | decide | omega⟩)
          (fun u_ H locs hq hph (hP : va_P G.1 CL [(sa, .inl (G.2 0, 830, .inl f)), (za, .inl (G.2 0, 6, .inl zf)), (m0, .inr (6, [.ref sa, .ref oa, .ref pa, .ref la, .ref za, .ref na, .int (nI (min 6 (u + 1))), .int (nI ((t + 1) % 6)), .int gw, .int gd, .int gm, .int gr, .int (nI 0), .int gv])), (ta, .inl (G.2 0, 830, .inl f))] H) (hD : va_D A [(sa, .inl (G.2 0, 830, .inl f)), (za, .inl (G.2 0, 6, .inl zf)), (m0, .inr (6, [.ref sa, .ref oa, .ref pa, .ref la, .ref za, .ref na, .int (nI (min 6 (u + 1))), .int (nI ((t + 1) % 6)), .int gw, .int gd, .int gm, .int gr, .int (nI 0), .int gv])), (ta, .inl (G.2 0, 830, .inl f))]) hS hfz hfk => ?_)
      refine W.eq (g2 := F0 m 56 ls []) rfl ?_
      refine lv_aload_n hx hb dX4_pass_56 rfl (lv_at hl 0 rfl) ?_
      refine va_get hx hb hts in_X4 hown hK hP 2 rfl rfl 0 (by decide) (hts _ q1596) (fun _ h => h) rfl dX4_pass_57 ?_
      refine lv_iconst (v := nI 0) hx hb dX4_pass_60 (by decide) ?_
      refine lv_dup2_11 hx hb dX4_pass_61 rfl rfl ?_
      refine r_iald (v := nI (bD B)) hx hb hK hP 0 0 rfl rfl (i := 0) (by omega) (by omega) (hM.today) dX4_pass_62 ?_
      refine lv_iload_n hx hb dX4_pass_63 rfl (lv_at hl 1 rfl) ?_
      refine lv_iadd hx hb dX4_pass_64 ?_
      refine lv_ton (n := (bD B) + d_603) (nadd (by omega)) ?_
      refine r_iast hx hb hK hP hD hS 0 0 rfl rfl (i := 0) (by omega) (by omega) dX4_pass_65 (fun H locs (hP : va_P G.1 CL [(sa, .inl (G.2 0, 830, .inl (upd f 0 (nI ((bD B) + d_603))))), (za, .inl (G.2 0, 6, .inl zf)), (m0, .inr (6, [.ref sa, .ref oa, .ref pa, .ref la, .ref za, .ref na, .int (nI (min 6 (u + 1))), .int (nI ((t + 1) % 6)), .int gw, .int gd, .int gm, .int gr, .int (nI 0), .int gv])), (ta, .inl (G.2 0, 830, .inl f))] H) (hD : va_D A [(sa, .inl (G.2 0, 830, .inl (upd f 0 (nI ((bD B) + d_603))))), (za, .inl (G.2 0, 6, .inl zf)), (m0, .inr (6, [.ref sa, .ref oa, .ref pa, .ref la, .ref za, .ref na, .int (nI (min 6 (u + 1))), .int (nI ((t + 1) % 6)), .int gw, .int gd, .int gm, .int gr, .int (nI 0), .int gv])), (ta, .inl (G.2 0, 830, .inl f))]) hS => ?_)
      refine lv_aload_n hx hb dX4_pass_66 rfl (lv_at hl 0 rfl) ?_
      refine va_get hx hb hts in_X4 hown hK hP 2 rfl rfl 0 (by decide) (hts _ q1596) (fun _ h => h) rfl dX4_pass_67 ?_
      refine lv_iconst (v := nI 0) hx hb dX4_pass_70 (by decide) ?_
      refine r_iald (v := nI ((bD B) + d_603)) hx hb hK hP 0 0 rfl rfl (i := 0) (by omega) (by omega) (pk_us) dX4_pass_71 ?_
      have hq9 : o_pass B v = (0, nI ((bD B) + d_603), wD B (bD B + d_603)) := by unfold o_pass; rw [hir_607] <;> first | rfl | rw [if_neg (by omega)] | (rw [if_neg (by omega)]; rfl) | (dsimp only; rw [if_neg (by omega)]) | (dsimp only; rw [if_neg (by omega)]; rfl)
      have hP : va_P G.1 CL [(sa, .inl (G.2 0, 830, .inl (upd f 0 (nI ((bD B) + d_603))))), (za, .inl (G.2 0, 6, .inl zf)), (m0, .inr (6, [.ref sa, .ref oa, .ref pa, .ref la, .ref za, .ref na, .int (nI (min 6 (u + 1))), .int (nI ((t + 1) % 6)), .int gw, .int gd, .int gm, .int gr, .int (nI ((o_pass B v).1)), .int gv])), (ta, .inl (G.2 0, 830, .inl f))] H := by rw [hq9]; exact hP
      have hD : va_D A [(sa, .inl (G.2 0, 830, .inl (upd f 0 (nI ((bD B) + d_603))))), (za, .inl (G.2 0, 6, .inl zf)), (m0, .inr (6, [.ref sa, .ref oa, .ref pa, .ref la, .ref za, .ref na, .int (nI (min 6 (u + 1))), .int (nI ((t + 1) % 6)), .int gw, .int gd, .int gm, .int gr, .int (nI ((o_pass B v).1)), .int gv])), (ta, .inl (G.2 0, 830, .inl f))] := by rw [hq9]; exact hD
      have hP9 : va_P G.1 CL [(m0, .inr (6, [.ref sa, .ref oa, .ref pa, .ref la, .ref za, .ref na, .int (nI (min 6 (u + 1))), .int (nI ((t + 1) % 6)), .int gw, .int gd, .int gm, .int gr, .int (nI ((o_pass B v).1)), .int gv])), (sa, .inl (G.2 0, 830, .inl (upd f 0 (nI ((bD B) + d_603))))), (ta, .inl (G.2 0, 830, .inl f)), (za, .inl (G.2 0, 6, .inl zf))] H := hP.sub [2, 0, 3, 1] rfl
      have hD9 : va_D A [(m0, .inr (6, [.ref sa, .ref oa, .ref pa, .ref la, .ref za, .ref na, .int (nI (min 6 (u + 1))), .int (nI ((t + 1) % 6)), .int gw, .int gd, .int gm, .int gr, .int (nI ((o_pass B v).1)), .int gv])), (sa, .inl (G.2 0, 830, .inl (upd f 0 (nI ((bD B) + d_603))))), (ta, .inl (G.2 0, 830, .inl f)), (za, .inl (G.2 0, 6, .inl zf))] := hD.sub [2, 0, 3, 1] (by decide) rfl
      exact end_i hx hb hr hlk (rfl) (qc_of ⟨nI ((bD B) + d_603), upd f 0 (nI ((bD B) + d_603)), ((t + 1) % 6), (min 6 (u + 1)), f, zf⟩ (v := some (.int (nI ((bD B) + d_603)))) (by rfl) (by rw [hq9]; exact ⟨fun z => absurd rfl z, fun _ => ⟨rfl, MR_pass hI hM, rfl, rfl, rfl⟩⟩) hP9 hD9 (trivial) hS) hS dX4_pass_72 (show 0 ≤ 0 from by first | exact Nat.le_refl _ | decide | omega) (show 0 ≤ 0 from by first | exact Nat.le_refl _ | decide | omega)
    · refine lv_iconst (v := nI 1) hx hb dX4_pass_38 (by decide) ?_
      refine lv_goto (tgt := 43) hx hb dX4_pass_39 (by decide) ?_
      refine lv_iconst (v := nI 2) hx hb dX4_pass_43 (by decide) ?_
      have hF := hF_of (wc := [(m0, .inr (6, [.ref sa, .ref oa, .ref pa, .ref la, .ref za, .ref na, .int (nI u), .int (nI t), .int gw, .int gd, .int gm, .int gr, .int (nI 0), .int gv]))]) hD hS hA [3] rfl
      refine go_ct hS hP hD [3] [0, 1, 2] hF rfl rfl (by decide) (by decide)
          (va_runV (As := [.int (nI 1), .int (nI 2)]) (rest := []) cf (mX4_isThrown_t l G m0 sa oa pa la za na (nI u) (nI t) gw gd gm gr (nI 0) gv 2  H.size) (cwV 2 hts (lw_V q1650 q1652 qs20 q58 q1653) rfl rfl rfl (by decide +kernel) ⟨Nat.le_of_ble_eq_true rfl, Nat.le_of_ble_eq_true rfl⟩) (preV_of hKB hE hS hF (va_recv hK hP (ci := 6) (q0 := 3) rfl rfl) (va_P.sub hP [3] rfl) ((va_D.sub hD [3] (by decide) rfl).weaken (fun _ _ _ _ => trivial)) trivial) rfl rfl hl.1 rfl (lv_room (Nat.le_of_ble_eq_true rfl)) dX4_pass_44 ⟨show 0 + 0 ≤ 0 from by first | decide | omega, show 0 + 0 ≤ 0 from by first | decide | omega⟩)
          (fun u_ H locs hq hph (hP : va_P G.1 CL [(sa, .inl (G.2 0, 830, .inl f)), (ta, .inl (G.2 0, 830, .inl h)), (za, .inl (G.2 0, 6, .inl zf)), (m0, .inr (6, [.ref sa, .ref oa, .ref pa, .ref la, .ref za, .ref na, .int (nI u), .int (nI t), .int gw, .int gd, .int gm, .int gr, .int (nI 2), .int gv]))] H) (hD : va_D A [(sa, .inl (G.2 0, 830, .inl f)), (ta, .inl (G.2 0, 830, .inl h)), (za, .inl (G.2 0, 6, .inl zf)), (m0, .inr (6, [.ref sa, .ref oa, .ref pa, .ref la, .ref za, .ref na, .int (nI u), .int (nI t), .int gw, .int gd, .int gm, .int gr, .int (nI 2), .int gv]))]) hS hfz hfk => ?_)
      refine W.eq (g2 := F0 m 47 ls [.int (nI 1)]) rfl ?_
      refine n_if_eq (tgt := 52) hx hb (by omega) dX4_pass_47 (by decide) (fun c_613 => absurd c_613 (by omega)) (fun c_613 => ?_)
      refine lv_iconst (v := nI 0) hx hb dX4_pass_50 (by decide) ?_
      have hq9 : o_pass B v = (2, 0, B) := by unfold o_pass; rw [hir_607] <;> first | rfl | rw [if_pos (by omega)] | (rw [if_pos (by omega)]; rfl) | (dsimp only; rw [if_pos (by omega)]) | (dsimp only; rw [if_pos (by omega)]; rfl)
      have hP : va_P G.1 CL [(sa, .inl (G.2 0, 830, .inl f)), (ta, .inl (G.2 0, 830, .inl h)), (za, .inl (G.2 0, 6, .inl zf)), (m0, .inr (6, [.ref sa, .ref oa, .ref pa, .ref la, .ref za, .ref na, .int (nI u), .int (nI t), .int gw, .int gd, .int gm, .int gr, .int (nI ((o_pass B v).1)), .int gv]))] H := by rw [hq9]; exact hP
      have hD : va_D A [(sa, .inl (G.2 0, 830, .inl f)), (ta, .inl (G.2 0, 830, .inl h)), (za, .inl (G.2 0, 6, .inl zf)), (m0, .inr (6, [.ref sa, .ref oa, .ref pa, .ref la, .ref za, .ref na, .int (nI u), .int (nI t), .int gw, .int gd, .int gm, .int gr, .int (nI ((o_pass B v).1)), .int gv]))] := by rw [hq9]; exact hD
      have hP9 : va_P G.1 CL [(m0, .inr (6, [.ref sa, .ref oa, .ref pa, .ref la, .ref za, .ref na, .int (nI u), .int (nI t), .int gw, .int gd, .int gm, .int gr, .int (nI ((o_pass B v).1)), .int gv])), (sa, .inl (G.2 0, 830, .inl f)), (ta, .inl (G.2 0, 830, .inl h)), (za, .inl (G.2 0, 6, .inl zf))] H := hP.sub [3, 0, 1, 2] rfl
      have hD9 : va_D A [(m0, .inr (6, [.ref sa, .ref oa, .ref pa, .ref la, .ref za, .ref na, .int (nI u), .int (nI t), .int gw, .int gd, .int gm, .int gr, .int (nI ((o_pass B v).1)), .int gv])), (sa, .inl (G.2 0, 830, .inl f)), (ta, .inl (G.2 0, 830, .inl h)), (za, .inl (G.2 0, 6, .inl zf))] := hD.sub [3, 0, 1, 2] (by decide) rfl
      exact end_i hx hb hr hlk (rfl) (qc_of ⟨nI 0, f, t, u, h, zf⟩ (v := some (.int (nI 0))) (by rfl) (by rw [hq9]; exact ⟨fun _ => ⟨rfl, rfl, rfl, rfl⟩, fun z => absurd (show (2 : Nat) = 0 from z) (by decide)⟩) hP9 hD9 (trivial) hS) hS dX4_pass_51 (show 0 ≤ 0 from by first | exact Nat.le_refl _ | decide | omega) (show 0 ≤ 0 from by first | exact Nat.le_refl _ | decide | omega)

set_option maxHeartbeats 4000000 in
theorem mX4_setBound (l : Launch) (G : Gt) (m0 : Nat) (sa : Nat) (oa : Nat) (pa : Nat) (la : Nat) (za : Nat) (na : Nat) (gw : Int32) (gd : Int32) (gm : Int32) (gr : Int32) (gh : Int32) (gv : Int32) (f : Nat → Int32) (B : Bk) (t : Nat) (u : Nat) (ta : Nat) (h : Nat → Int32) (og : Nat → Option Nat) (zf : Nat → Int32) (z : Int32) (w : Int32) (hM : MR f B) (hI : Inv B) (ht : t < 6) (hu : u ≤ 6) (hog : og ((t + 1) % 6) = some ta) : CT l G yX4_setBound cX4_setBound 4 (some .int) ({ frames := 2, cells := 0, slots := 0, locals := 41 } : Room) [.ref m0, .int z, .int w] [(m0, .inr (6, [.ref sa, .ref oa, .ref pa, .ref la, .ref za, .ref na, .int (nI u), .int (nI t), .int gw, .int gd, .int gm, .int gr, .int gh, .int gv])), (sa, .inl (G.2 0, 830, .inl f)), (ta, .inl (G.2 0, 830, .inl h)), (za, .inl (G.2 0, 6, .inl zf))] (fun (A : Nat → Prop) (H : Heap) => roW G A H [(oa, .inl (G.2 7, 6, .inr (.inr (.inr (.inr og)))))]) (S := Int32 × (Nat → Int32) × Nat × Nat × (Nat → Int32) × (Nat → Int32)) (fun (u_ : Int32 × (Nat → Int32) × Nat × Nat × (Nat → Int32) × (Nat → Int32)) => some (.int u_.1)) (fun (u_ : Int32 × (Nat → Int32) × Nat × Nat × (Nat → Int32) × (Nat → Int32)) => MutP (o_setBound B z w) f t u h u_.1 u_.2.1 u_.2.2.1 u_.2.2.2.1 u_.2.2.2.2.1) (fun (u_ : Int32 × (Nat → Int32) × Nat × Nat × (Nat → Int32) × (Nat → Int32)) => [(m0, .inr (6, [.ref sa, .ref oa, .ref pa, .ref la, .ref za, .ref na, .int (nI u_.2.2.2.1), .int (nI u_.2.2.1), .int gw, .int gd, .int gm, .int gr, .int (nI ((o_setBound B z w).1)), .int gv])), (sa, .inl (G.2 0, 830, .inl u_.2.1)), (ta, .inl (G.2 0, 830, .inl u_.2.2.2.2.1)), (za, .inl (G.2 0, 6, .inl u_.2.2.2.2.2))]) (fun (u_ : Int32 × (Nat → Int32) × Nat × Nat × (Nat → Int32) × (Nat → Int32)) (H : Heap) => True) := by
  refine CT.of (by decide) (Nat.le_of_ble_eq_true rfl) ?_
  intro p e s m below meth c ls A H locs h9 hH0 hP hS
  obtain ⟨cf, hr, hlk, hnm, hKB, hE, -, hD, -, hA, hAw, hR0, hl⟩ := h9
  have hx := cf.1
  have hb := cf.2.1
  have hml := cf.2.2.1
  have hown : s.vm.findClass RX4 = some m.cls := cf.2.2.2.1
  have hts := cf.2.2.2.2
  have hK := hKB.1
  have hl : lv_has ls 4 [(0, .ref m0), (1, .int z), (2, .int w)] := hl
  have iN := iv_sN hI
  have iT := iv_tN hI
  have iD := iv_bD hI
  have iE := iv_bE hI
  have iW := iv_id hI
  refine lv_aload_n hx hb dX4_setBound_0 rfl (lv_at hl 0 rfl) ?_
  refine lv_iload_n hx hb dX4_setBound_1 rfl (lv_at hl 1 rfl) ?_
  refine lv_iconst (v := nI 2) hx hb dX4_setBound_2 (by decide) ?_
  refine lv_iconst (v := nI 5) hx hb dX4_setBound_3 (by decide) ?_
  have hF := hF_of (wc := []) hD hS hA [] rfl
  refine go_ct hS hP hD [] [0, 1, 2, 3] hF rfl rfl (by decide) (by decide)
      (va_runS (As := [.int z, .int (nI 2), .int (nI 5)]) (rest := [.ref m0]) cf (mX4_isIn l G z (nI 2) (nI 5)  H.size) (va_cwS 3 hts (lw_S q1647 q1648 q58 q1649) rfl rfl rfl (by decide +kernel) ⟨Nat.le_of_ble_eq_true rfl, Nat.le_of_ble_eq_true rfl⟩) (preS_of hKB hE hS hF (va_P.sub hP [] rfl) ((va_D.sub hD [] (by decide) rfl).weaken (fun _ _ _ _ => trivial)) trivial) rfl rfl hl.1 rfl (lv_room (Nat.le_of_ble_eq_true rfl)) dX4_setBound_4 ⟨show 0 + 0 ≤ 0 from by first | decide | omega, show 0 + 0 ≤ 0 from by first | decide | omega⟩)
      (fun u_ H locs hq hph (hP : va_P G.1 CL [(m0, .inr (6, [.ref sa, .ref oa, .ref pa, .ref la, .ref za, .ref na, .int (nI u), .int (nI t), .int gw, .int gd, .int gm, .int gr, .int gh, .int gv])), (sa, .inl (G.2 0, 830, .inl f)), (ta, .inl (G.2 0, 830, .inl h)), (za, .inl (G.2 0, 6, .inl zf))] H) (hD : va_D A [(m0, .inr (6, [.ref sa, .ref oa, .ref pa, .ref la, .ref za, .ref na, .int (nI u), .int (nI t), .int gw, .int gd, .int gm, .int gr, .int gh, .int gv])), (sa, .inl (G.2 0, 830, .inl f)), (ta, .inl (G.2 0, 830, .inl h)), (za, .inl (G.2 0, 6, .inl zf))]) hS hfz hfk => ?_)
  obtain ⟨b_614, rfl⟩ : ∃ z, z = u_ := ⟨_, rfl⟩
  have hP : va_P G.1 CL [(m0, .inr (6, [.ref sa, .ref oa, .ref pa, .ref la, .ref za, .ref na, .int (nI u), .int (nI t), .int gw, .int gd, .int gm, .int gr, .int gh, .int gv])), (sa, .inl (G.2 0, 830, .inl f)), (ta, .inl (G.2 0, 830, .inl h)), (za, .inl (G.2 0, 6, .inl zf))] H := hP
  have hD : va_D A [(m0, .inr (6, [.ref sa, .ref oa, .ref pa, .ref la, .ref za, .ref na, .int (nI u), .int (nI t), .int gw, .int gd, .int gm, .int gr, .int gh, .int gv])), (sa, .inl (G.2 0, 830, .inl f)), (ta, .inl (G.2 0, 830, .inl h)), (za, .inl (G.2 0, 6, .inl zf))] := hD
  have hq_615 : (b_614 = true ↔ (nI 2) ≤ z ∧ z ≤ (nI 5)) := hq
  refine W.eq (g2 := F0 m 7 ls [.int (bI b_614), .ref m0]) rfl ?_
  cases b_614
  · refine lv_ton (n := 0) rfl ?_
    have hir_616 : inR z 2 5 = none := inR_none (fun z => absurd (hq_615.mpr z) (by decide))
    refine n_if_eq (tgt := 21) hx hb (by omega) dX4_setBound_7 (by decide) (fun c_617 => ?_) (fun c_617 => absurd c_617 (by omega))
    refine lv_iconst (v := nI 1) hx hb dX4_setBound_21 (by decide) ?_
    refine lv_goto (tgt := 26) hx hb dX4_setBound_22 (by decide) ?_
    refine lv_iconst (v := nI 1) hx hb dX4_setBound_26 (by decide) ?_
    have hF := hF_of (wc := [(m0, .inr (6, [.ref sa, .ref oa, .ref pa, .ref la, .ref za, .ref na, .int (nI u), .int (nI t), .int gw, .int gd, .int gm, .int gr, .int gh, .int gv]))]) hD hS hA [0] rfl
    refine go_ct hS hP hD [0] [1, 2, 3] hF rfl rfl (by decide) (by decide)
        (va_runV (As := [.int (nI 1), .int (nI 1)]) (rest := []) cf (mX4_isThrown_t l G m0 sa oa pa la za na (nI u) (nI t) gw gd gm gr gh gv 1  H.size) (cwV 2 hts (lw_V q1650 q1652 qs20 q58 q1653) rfl rfl rfl (by decide +kernel) ⟨Nat.le_of_ble_eq_true rfl, Nat.le_of_ble_eq_true rfl⟩) (preV_of hKB hE hS hF (va_recv hK hP (ci := 6) (q0 := 0) rfl rfl) (va_P.sub hP [0] rfl) ((va_D.sub hD [0] (by decide) rfl).weaken (fun _ _ _ _ => trivial)) trivial) rfl rfl hl.1 rfl (lv_room (Nat.le_of_ble_eq_true rfl)) dX4_setBound_27 ⟨show 0 + 0 ≤ 0 from by first | decide | omega, show 0 + 0 ≤ 0 from by first | decide | omega⟩)
        (fun u_ H locs hq hph (hP : va_P G.1 CL [(sa, .inl (G.2 0, 830, .inl f)), (ta, .inl (G.2 0, 830, .inl h)), (za, .inl (G.2 0, 6, .inl zf)), (m0, .inr (6, [.ref sa, .ref oa, .ref pa, .ref la, .ref za, .ref na, .int (nI u), .int (nI t), .int gw, .int gd, .int gm, .int gr, .int (nI 1), .int gv]))] H) (hD : va_D A [(sa, .inl (G.2 0, 830, .inl f)), (ta, .inl (G.2 0, 830, .inl h)), (za, .inl (G.2 0, 6, .inl zf)), (m0, .inr (6, [.ref sa, .ref oa, .ref pa, .ref la, .ref za, .ref na, .int (nI u), .int (nI t), .int gw, .int gd, .int gm, .int gr, .int (nI 1), .int gv]))]) hS hfz hfk => ?_)
    refine W.eq (g2 := F0 m 30 ls [.int (nI 1)]) rfl ?_
    refine n_if_ne (tgt := 86) hx hb (by omega) dX4_setBound_30 (by decide) (fun c_618 => ?_) (fun c_618 => absurd c_618 (by omega))
    refine lv_iconst (v := nI 0) hx hb dX4_setBound_86 (by decide) ?_
    have hq9 : o_setBound B z w = (1, 0, B) := by unfold o_setBound; rw [hir_616] <;> rfl
    have hP : va_P G.1 CL [(sa, .inl (G.2 0, 830, .inl f)), (ta, .inl (G.2 0, 830, .inl h)), (za, .inl (G.2 0, 6, .inl zf)), (m0, .inr (6, [.ref sa, .ref oa, .ref pa, .ref la, .ref za, .ref na, .int (nI u), .int (nI t), .int gw, .int gd, .int gm, .int gr, .int (nI ((o_setBound B z w).1)), .int gv]))] H := by rw [hq9]; exact hP
    have hD : va_D A [(sa, .inl (G.2 0, 830, .inl f)), (ta, .inl (G.2 0, 830, .inl h)), (za, .inl (G.2 0, 6, .inl zf)), (m0, .inr (6, [.ref sa, .ref oa, .ref pa, .ref la, .ref za, .ref na, .int (nI u), .int (nI t), .int gw, .int gd, .int gm, .int gr, .int (nI ((o_setBound B z w).1)), .int gv]))] := by rw [hq9]; exact hD
    have hP9 : va_P G.1 CL [(m0, .inr (6, [.ref sa, .ref oa, .ref pa, .ref la, .ref za, .ref na, .int (nI u), .int (nI t), .int gw, .int gd, .int gm, .int gr, .int (nI ((o_setBound B z w).1)), .int gv])), (sa, .inl (G.2 0, 830, .inl f)), (ta, .inl (G.2 0, 830, .inl h)), (za, .inl (G.2 0, 6, .inl zf))] H := hP.sub [3, 0, 1, 2] rfl
    have hD9 : va_D A [(m0, .inr (6, [.ref sa, .ref oa, .ref pa, .ref la, .ref za, .ref na, .int (nI u), .int (nI t), .int gw, .int gd, .int gm, .int gr, .int (nI ((o_setBound B z w).1)), .int gv])), (sa, .inl (G.2 0, 830, .inl f)), (ta, .inl (G.2 0, 830, .inl h)), (za, .inl (G.2 0, 6, .inl zf))] := hD.sub [3, 0, 1, 2] (by decide) rfl
    exact end_i hx hb hr hlk (rfl) (qc_of ⟨nI 0, f, t, u, h, zf⟩ (v := some (.int (nI 0))) (by rfl) (by rw [hq9]; exact ⟨fun _ => ⟨rfl, rfl, rfl, rfl⟩, fun z => absurd (show (1 : Nat) = 0 from z) (by decide)⟩) hP9 hD9 (trivial) hS) hS dX4_setBound_87 (show 0 ≤ 0 from by first | exact Nat.le_refl _ | decide | omega) (show 0 ≤ 0 from by first | exact Nat.le_refl _ | decide | omega)
  · refine lv_ton (n := 1) rfl ?_
    have hin_619 : nI 2 ≤ z ∧ z ≤ nI 5 := hq_615.mp rfl
    obtain ⟨d_620, hv_621, h_622, h_623⟩ := in_nat (lo := 2) (hi := 5) (by omega) (by omega) hin_619.1 hin_619.2
    have hir_624 : inR z 2 5 = some d_620 := inR_some hv_621 h_622 h_623 (by omega)
    have hl : lv_has ls 4 [(0, .ref m0), (1, .int (nI d_620)), (2, .int w)] := by
      have e9 : ((.int (nI d_620)) : Value) = .int z := by rw [hv_621]
      rw [e9]; exact hl
    refine n_if_eq (tgt := 21) hx hb (by omega) dX4_setBound_7 (by decide) (fun c_625 => absurd c_625 (by omega)) (fun c_625 => ?_)
    refine lv_iload_n hx hb dX4_setBound_10 rfl (lv_at hl 2 rfl) ?_
    refine lv_iconst (v := nI 1) hx hb dX4_setBound_11 (by decide) ?_
    refine lv_sipush (v := nI 300) hx hb dX4_setBound_12 (by decide) ?_
    have hF := hF_of (wc := []) hD hS hA [] rfl
    refine go_ct hS hP hD [] [0, 1, 2, 3] hF rfl rfl (by decide) (by decide)
        (va_runS (As := [.int w, .int (nI 1), .int (nI 300)]) (rest := [.ref m0]) cf (mX4_isIn l G w (nI 1) (nI 300)  H.size) (va_cwS 3 hts (lw_S q1647 q1648 q58 q1649) rfl rfl rfl (by decide +kernel) ⟨Nat.le_of_ble_eq_true rfl, Nat.le_of_ble_eq_true rfl⟩) (preS_of hKB hE hS hF (va_P.sub hP [] rfl) ((va_D.sub hD [] (by decide) rfl).weaken (fun _ _ _ _ => trivial)) trivial) rfl rfl hl.1 rfl (lv_room (Nat.le_of_ble_eq_true rfl)) dX4_setBound_15 ⟨show 0 + 0 ≤ 0 from by first | decide | omega, show 0 + 0 ≤ 0 from by first | decide | omega⟩)
        (fun u_ H locs hq hph (hP : va_P G.1 CL [(m0, .inr (6, [.ref sa, .ref oa, .ref pa, .ref la, .ref za, .ref na, .int (nI u), .int (nI t), .int gw, .int gd, .int gm, .int gr, .int gh, .int gv])), (sa, .inl (G.2 0, 830, .inl f)), (ta, .inl (G.2 0, 830, .inl h)), (za, .inl (G.2 0, 6, .inl zf))] H) (hD : va_D A [(m0, .inr (6, [.ref sa, .ref oa, .ref pa, .ref la, .ref za, .ref na, .int (nI u), .int (nI t), .int gw, .int gd, .int gm, .int gr, .int gh, .int gv])), (sa, .inl (G.2 0, 830, .inl f)), (ta, .inl (G.2 0, 830, .inl h)), (za, .inl (G.2 0, 6, .inl zf))]) hS hfz hfk => ?_)
    obtain ⟨b_626, rfl⟩ : ∃ z, z = u_ := ⟨_, rfl⟩
    have hP : va_P G.1 CL [(m0, .inr (6, [.ref sa, .ref oa, .ref pa, .ref la, .ref za, .ref na, .int (nI u), .int (nI t), .int gw, .int gd, .int gm, .int gr, .int gh, .int gv])), (sa, .inl (G.2 0, 830, .inl f)), (ta, .inl (G.2 0, 830, .inl h)), (za, .inl (G.2 0, 6, .inl zf))] H := hP
    have hD : va_D A [(m0, .inr (6, [.ref sa, .ref oa, .ref pa, .ref la, .ref za, .ref na, .int (nI u), .int (nI t), .int gw, .int gd, .int gm, .int gr, .int gh, .int gv])), (sa, .inl (G.2 0, 830, .inl f)), (ta, .inl (G.2 0, 830, .inl h)), (za, .inl (G.2 0, 6, .inl zf))] := hD
    have hq_627 : (b_626 = true ↔ (nI 1) ≤ w ∧ w ≤ (nI 300)) := hq
    refine W.eq (g2 := F0 m 18 ls [.int (bI b_626), .ref m0]) rfl ?_
    cases b_626
    · refine lv_ton (n := 0) rfl ?_
      have hir_628 : inR w 1 300 = none := inR_none (fun z => absurd (hq_627.mpr z) (by decide))
      refine n_if_ne (tgt := 25) hx hb (by omega) dX4_setBound_18 (by decide) (fun c_629 => absurd c_629 (by omega)) (fun c_629 => ?_)
      refine lv_iconst (v := nI 1) hx hb dX4_setBound_21 (by decide) ?_
      refine lv_goto (tgt := 26) hx hb dX4_setBound_22 (by decide) ?_
      refine lv_iconst (v := nI 1) hx hb dX4_setBound_26 (by decide) ?_
      have hF := hF_of (wc := [(m0, .inr (6, [.ref sa, .ref oa, .ref pa, .ref la, .ref za, .ref na, .int (nI u), .int (nI t), .int gw, .int gd, .int gm, .int gr, .int gh, .int gv]))]) hD hS hA [0] rfl
      refine go_ct hS hP hD [0] [1, 2, 3] hF rfl rfl (by decide) (by decide)
          (va_runV (As := [.int (nI 1), .int (nI 1)]) (rest := []) cf (mX4_isThrown_t l G m0 sa oa pa la za na (nI u) (nI t) gw gd gm gr gh gv 1  H.size) (cwV 2 hts (lw_V q1650 q1652 qs20 q58 q1653) rfl rfl rfl (by decide +kernel) ⟨Nat.le_of_ble_eq_true rfl, Nat.le_of_ble_eq_true rfl⟩) (preV_of hKB hE hS hF (va_recv hK hP (ci := 6) (q0 := 0) rfl rfl) (va_P.sub hP [0] rfl) ((va_D.sub hD [0] (by decide) rfl).weaken (fun _ _ _ _ => trivial)) trivial) rfl rfl hl.1 rfl (lv_room (Nat.le_of_ble_eq_true rfl)) dX4_setBound_27 ⟨show 0 + 0 ≤ 0 from by first | decide | omega, show 0 + 0 ≤ 0 from by first | decide | omega⟩)
          (fun u_ H locs hq hph (hP : va_P G.1 CL [(sa, .inl (G.2 0, 830, .inl f)), (ta, .inl (G.2 0, 830, .inl h)), (za, .inl (G.2 0, 6, .inl zf)), (m0, .inr (6, [.ref sa, .ref oa, .ref pa, .ref la, .ref za, .ref na, .int (nI u), .int (nI t), .int gw, .int gd, .int gm, .int gr, .int (nI 1), .int gv]))] H) (hD : va_D A [(sa, .inl (G.2 0, 830, .inl f)), (ta, .inl (G.2 0, 830, .inl h)), (za, .inl (G.2 0, 6, .inl zf)), (m0, .inr (6, [.ref sa, .ref oa, .ref pa, .ref la, .ref za, .ref na, .int (nI u), .int (nI t), .int gw, .int gd, .int gm, .int gr, .int (nI 1), .int gv]))]) hS hfz hfk => ?_)
      refine W.eq (g2 := F0 m 30 ls [.int (nI 1)]) rfl ?_
      refine n_if_ne (tgt := 86) hx hb (by omega) dX4_setBound_30 (by decide) (fun c_630 => ?_) (fun c_630 => absurd c_630 (by omega))
      refine lv_iconst (v := nI 0) hx hb dX4_setBound_86 (by decide) ?_
      have hq9 : o_setBound B z w = (1, 0, B) := by unfold o_setBound; rw [hir_624, hir_628] <;> rfl
      have hP : va_P G.1 CL [(sa, .inl (G.2 0, 830, .inl f)), (ta, .inl (G.2 0, 830, .inl h)), (za, .inl (G.2 0, 6, .inl zf)), (m0, .inr (6, [.ref sa, .ref oa, .ref pa, .ref la, .ref za, .ref na, .int (nI u), .int (nI t), .int gw, .int gd, .int gm, .int gr, .int (nI ((o_setBound B z w).1)), .int gv]))] H := by rw [hq9]; exact hP
      have hD : va_D A [(sa, .inl (G.2 0, 830, .inl f)), (ta, .inl (G.2 0, 830, .inl h)), (za, .inl (G.2 0, 6, .inl zf)), (m0, .inr (6, [.ref sa, .ref oa, .ref pa, .ref la, .ref za, .ref na, .int (nI u), .int (nI t), .int gw, .int gd, .int gm, .int gr, .int (nI ((o_setBound B z w).1)), .int gv]))] := by rw [hq9]; exact hD
      have hP9 : va_P G.1 CL [(m0, .inr (6, [.ref sa, .ref oa, .ref pa, .ref la, .ref za, .ref na, .int (nI u), .int (nI t), .int gw, .int gd, .int gm, .int gr, .int (nI ((o_setBound B z w).1)), .int gv])), (sa, .inl (G.2 0, 830, .inl f)), (ta, .inl (G.2 0, 830, .inl h)), (za, .inl (G.2 0, 6, .inl zf))] H := hP.sub [3, 0, 1, 2] rfl
      have hD9 : va_D A [(m0, .inr (6, [.ref sa, .ref oa, .ref pa, .ref la, .ref za, .ref na, .int (nI u), .int (nI t), .int gw, .int gd, .int gm, .int gr, .int (nI ((o_setBound B z w).1)), .int gv])), (sa, .inl (G.2 0, 830, .inl f)), (ta, .inl (G.2 0, 830, .inl h)), (za, .inl (G.2 0, 6, .inl zf))] := hD.sub [3, 0, 1, 2] (by decide) rfl
      exact end_i hx hb hr hlk (rfl) (qc_of ⟨nI 0, f, t, u, h, zf⟩ (v := some (.int (nI 0))) (by rfl) (by rw [hq9]; exact ⟨fun _ => ⟨rfl, rfl, rfl, rfl⟩, fun z => absurd (show (1 : Nat) = 0 from z) (by decide)⟩) hP9 hD9 (trivial) hS) hS dX4_setBound_87 (show 0 ≤ 0 from by first | exact Nat.le_refl _ | decide | omega) (show 0 ≤ 0 from by first | exact Nat.le_refl _ | decide | omega)
    · refine lv_ton (n := 1) rfl ?_
      have hin_631 : nI 1 ≤ w ∧ w ≤ nI 300 := hq_627.mp rfl
      obtain ⟨d_632, hv_633, h_634, h_635⟩ := in_nat (lo := 1) (hi := 300) (by omega) (by omega) hin_631.1 hin_631.2
      have hir_636 : inR w 1 300 = some d_632 := inR_some hv_633 h_634 h_635 (by omega)
      have hl : lv_has ls 4 [(0, .ref m0), (1, .int (nI d_620)), (2, .int (nI d_632))] := by
        have e9 : ((.int (nI d_632)) : Value) = .int w := by rw [hv_633]
        rw [e9]; exact hl
      refine n_if_ne (tgt := 25) hx hb (by omega) dX4_setBound_18 (by decide) (fun c_637 => ?_) (fun c_637 => absurd c_637 (by omega))
      refine lv_iconst (v := nI 0) hx hb dX4_setBound_25 (by decide) ?_
      refine lv_iconst (v := nI 1) hx hb dX4_setBound_26 (by decide) ?_
      have hF := hF_of (wc := [(m0, .inr (6, [.ref sa, .ref oa, .ref pa, .ref la, .ref za, .ref na, .int (nI u), .int (nI t), .int gw, .int gd, .int gm, .int gr, .int gh, .int gv]))]) hD hS hA [0] rfl
      refine go_ct hS hP hD [0] [1, 2, 3] hF rfl rfl (by decide) (by decide)
          (va_runV (As := [.int (nI 0), .int (nI 1)]) (rest := []) cf (mX4_isThrown_f l G m0 sa oa pa la za na (nI u) (nI t) gw gd gm gr gh gv 1  H.size) (cwV 2 hts (lw_V q1650 q1652 qs20 q58 q1653) rfl rfl rfl (by decide +kernel) ⟨Nat.le_of_ble_eq_true rfl, Nat.le_of_ble_eq_true rfl⟩) (preV_of hKB hE hS hF (va_recv hK hP (ci := 6) (q0 := 0) rfl rfl) (va_P.sub hP [0] rfl) ((va_D.sub hD [0] (by decide) rfl).weaken (fun _ _ _ _ => trivial)) trivial) rfl rfl hl.1 rfl (lv_room (Nat.le_of_ble_eq_true rfl)) dX4_setBound_27 ⟨show 0 + 0 ≤ 0 from by first | decide | omega, show 0 + 0 ≤ 0 from by first | decide | omega⟩)
          (fun u_ H locs hq hph (hP : va_P G.1 CL [(sa, .inl (G.2 0, 830, .inl f)), (ta, .inl (G.2 0, 830, .inl h)), (za, .inl (G.2 0, 6, .inl zf)), (m0, .inr (6, [.ref sa, .ref oa, .ref pa, .ref la, .ref za, .ref na, .int (nI u), .int (nI t), .int gw, .int gd, .int gm, .int gr, .int (nI 0), .int gv]))] H) (hD : va_D A [(sa, .inl (G.2 0, 830, .inl f)), (ta, .inl (G.2 0, 830, .inl h)), (za, .inl (G.2 0, 6, .inl zf)), (m0, .inr (6, [.ref sa, .ref oa, .ref pa, .ref la, .ref za, .ref na, .int (nI u), .int (nI t), .int gw, .int gd, .int gm, .int gr, .int (nI 0), .int gv]))]) hS hfz hfk => ?_)
      refine W.eq (g2 := F0 m 30 ls [.int (nI 0)]) rfl ?_
      refine n_if_ne (tgt := 86) hx hb (by omega) dX4_setBound_30 (by decide) (fun c_638 => absurd c_638 (by omega)) (fun c_638 => ?_)
      refine lv_aload_n hx hb dX4_setBound_33 rfl (lv_at hl 0 rfl) ?_
      refine lv_iload_n hx hb dX4_setBound_34 rfl (lv_at hl 1 rfl) ?_
      refine lv_iconst (v := nI 2) hx hb dX4_setBound_35 (by decide) ?_
      refine n_icmp_le (tgt := 54) hx hb (by omega) (by omega) dX4_setBound_36 (by decide) (fun c_639 => ?_) (fun c_639 => ?_)
      · refine lv_iload_n hx hb dX4_setBound_54 rfl (lv_at hl 1 rfl) ?_
        refine lv_iconst (v := nI 5) hx hb dX4_setBound_55 (by decide) ?_
        refine n_icmp_ge (tgt := 78) hx hb (by omega) (by omega) dX4_setBound_56 (by decide) (fun c_640 => ?_) (fun c_640 => ?_)
        · refine lv_iconst (v := nI 0) hx hb dX4_setBound_78 (by decide) ?_
          refine lv_iconst (v := nI 2) hx hb dX4_setBound_79 (by decide) ?_
          have hF := hF_of (wc := [(m0, .inr (6, [.ref sa, .ref oa, .ref pa, .ref la, .ref za, .ref na, .int (nI u), .int (nI t), .int gw, .int gd, .int gm, .int gr, .int (nI 0), .int gv]))]) hD hS hA [3] rfl
          refine go_ct hS hP hD [3] [0, 1, 2] hF rfl rfl (by decide) (by decide)
              (va_runV (As := [.int (nI 0), .int (nI 2)]) (rest := []) cf (mX4_isThrown_f l G m0 sa oa pa la za na (nI u) (nI t) gw gd gm gr (nI 0) gv 2  H.size) (cwV 2 hts (lw_V q1650 q1652 qs20 q58 q1653) rfl rfl rfl (by decide +kernel) ⟨Nat.le_of_ble_eq_true rfl, Nat.le_of_ble_eq_true rfl⟩) (preV_of hKB hE hS hF (va_recv hK hP (ci := 6) (q0 := 3) rfl rfl) (va_P.sub hP [3] rfl) ((va_D.sub hD [3] (by decide) rfl).weaken (fun _ _ _ _ => trivial)) trivial) rfl rfl hl.1 rfl (lv_room (Nat.le_of_ble_eq_true rfl)) dX4_setBound_80 ⟨show 0 + 0 ≤ 0 from by first | decide | omega, show 0 + 0 ≤ 0 from by first | decide | omega⟩)
              (fun u_ H locs hq hph (hP : va_P G.1 CL [(sa, .inl (G.2 0, 830, .inl f)), (ta, .inl (G.2 0, 830, .inl h)), (za, .inl (G.2 0, 6, .inl zf)), (m0, .inr (6, [.ref sa, .ref oa, .ref pa, .ref la, .ref za, .ref na, .int (nI u), .int (nI t), .int gw, .int gd, .int gm, .int gr, .int (nI 0), .int gv]))] H) (hD : va_D A [(sa, .inl (G.2 0, 830, .inl f)), (ta, .inl (G.2 0, 830, .inl h)), (za, .inl (G.2 0, 6, .inl zf)), (m0, .inr (6, [.ref sa, .ref oa, .ref pa, .ref la, .ref za, .ref na, .int (nI u), .int (nI t), .int gw, .int gd, .int gm, .int gr, .int (nI 0), .int gv]))]) hS hfz hfk => ?_)
          refine W.eq (g2 := F0 m 83 ls [.int (nI 0)]) rfl ?_
          refine n_if_eq (tgt := 88) hx hb (by omega) dX4_setBound_83 (by decide) (fun c_641 => ?_) (fun c_641 => absurd c_641 (by omega))
          refine lv_aload_n hx hb dX4_setBound_88 rfl (lv_at hl 0 rfl) ?_
          have hF := hF_of (wc := [(m0, .inr (6, [.ref sa, .ref oa, .ref pa, .ref la, .ref za, .ref na, .int (nI u), .int (nI t), .int gw, .int gd, .int gm, .int gr, .int (nI 0), .int gv])), (ta, .inl (G.2 0, 830, .inl h))]) hD hS hA [3, 1] rfl
          have hro_642 : roW G (va_A [(m0, .inr (6, [.ref sa, .ref oa, .ref pa, .ref la, .ref za, .ref na, .int (nI u), .int (nI t), .int gw, .int gd, .int gm, .int gr, .int (nI 0), .int gv])), (ta, .inl (G.2 0, 830, .inl h))] H.size) H [(oa, .inl (G.2 7, 6, .inr (.inr (.inr (.inr og))))), (sa, .inl (G.2 0, 830, .inl f))] := (((hR0.kp hF hS.2.1).sub (ws' := [(oa, .inl (G.2 7, 6, .inr (.inr (.inr (.inr og)))))]) [0] rfl).app (roW.of (w' := [(sa, .inl (G.2 0, 830, .inl f))]) hP hD [3, 1] [0] rfl rfl (by decide)))
          refine go_ct hS hP hD [3, 1] [0, 2] hF rfl rfl (by decide) (by decide)
              (va_runV (As := []) (rest := []) cf (mX4_keeps l G m0 sa oa pa la za na gw gd gm gr (nI 0) gv f t u ta h og (show t < 6 from by first | assumption | omega) (show u ≤ 6 from by first | assumption | omega) (show og ((t + 1) % 6) = some ta from by first | assumption | omega) H.size) (cwV 0 hts (lw_V q1654 q1656 qs21 q58 q1657) rfl rfl rfl (by decide +kernel) ⟨Nat.le_of_ble_eq_true rfl, Nat.le_of_ble_eq_true rfl⟩) (preV_of hKB hE hS hF (va_recv hK hP (ci := 6) (q0 := 3) rfl rfl) (va_P.sub hP [3, 1] rfl) ((va_D.sub hD [3, 1] (by decide) rfl).weaken (fun _ _ _ _ => trivial)) hro_642) rfl rfl hl.1 rfl (lv_room (Nat.le_of_ble_eq_true rfl)) dX4_setBound_89 ⟨show 0 + 0 ≤ 0 from by first | decide | omega, show 0 + 0 ≤ 0 from by first | decide | omega⟩)
              (fun u_ H locs hq hph (hP : va_P G.1 CL [(sa, .inl (G.2 0, 830, .inl f)), (za, .inl (G.2 0, 6, .inl zf)), (m0, .inr (6, [.ref sa, .ref oa, .ref pa, .ref la, .ref za, .ref na, .int (nI (min 6 (u + 1))), .int (nI ((t + 1) % 6)), .int gw, .int gd, .int gm, .int gr, .int (nI 0), .int gv])), (ta, .inl (G.2 0, 830, .inl f))] H) (hD : va_D A [(sa, .inl (G.2 0, 830, .inl f)), (za, .inl (G.2 0, 6, .inl zf)), (m0, .inr (6, [.ref sa, .ref oa, .ref pa, .ref la, .ref za, .ref na, .int (nI (min 6 (u + 1))), .int (nI ((t + 1) % 6)), .int gw, .int gd, .int gm, .int gr, .int (nI 0), .int gv])), (ta, .inl (G.2 0, 830, .inl f))]) hS hfz hfk => ?_)
          refine W.eq (g2 := F0 m 92 ls []) rfl ?_
          refine lv_aload_n hx hb dX4_setBound_92 rfl (lv_at hl 0 rfl) ?_
          refine va_get hx hb hts in_X4 hown hK hP 2 rfl rfl 0 (by decide) (hts _ q1596) (fun _ h => h) rfl dX4_setBound_93 ?_
          refine lv_bipush (v := nI 8) hx hb dX4_setBound_96 (by decide) ?_
          refine lv_iload_n hx hb dX4_setBound_98 rfl (lv_at hl 1 rfl) ?_
          refine lv_iadd hx hb dX4_setBound_99 ?_
          refine lv_ton (n := d_620 + 8) (nadd (by omega)) ?_
          refine r_iald (v := nI (bB B d_620)) hx hb hK hP 0 0 rfl rfl (i := d_620 + 8) (by omega) (by omega) (hM.bound (z := d_620) (by omega) (by omega)) dX4_setBound_100 ?_
          refine lv_istore_n (lv' := [(3, .int (nI (bB B d_620))), (0, .ref m0), (1, .int (nI d_620)), (2, .int (nI d_632))]) hx hb dX4_setBound_101 rfl hl (by decide) rfl (fun ls hl => ?_)
          refine lv_aload_n hx hb dX4_setBound_102 rfl (lv_at hl 1 rfl) ?_
          refine va_get hx hb hts in_X4 hown hK hP 2 rfl rfl 0 (by decide) (hts _ q1596) (fun _ h => h) rfl dX4_setBound_103 ?_
          refine lv_bipush (v := nI 8) hx hb dX4_setBound_106 (by decide) ?_
          refine lv_iload_n hx hb dX4_setBound_108 rfl (lv_at hl 2 rfl) ?_
          refine lv_iadd hx hb dX4_setBound_109 ?_
          refine lv_ton (n := d_620 + 8) (nadd (by omega)) ?_
          refine lv_iload_n hx hb dX4_setBound_110 rfl (lv_at hl 3 rfl) ?_
          refine r_iast hx hb hK hP hD hS 0 0 rfl rfl (i := d_620 + 8) (by omega) (by omega) dX4_setBound_111 (fun H locs (hP : va_P G.1 CL [(sa, .inl (G.2 0, 830, .inl (upd f (d_620 + 8) (nI d_632)))), (za, .inl (G.2 0, 6, .inl zf)), (m0, .inr (6, [.ref sa, .ref oa, .ref pa, .ref la, .ref za, .ref na, .int (nI (min 6 (u + 1))), .int (nI ((t + 1) % 6)), .int gw, .int gd, .int gm, .int gr, .int (nI 0), .int gv])), (ta, .inl (G.2 0, 830, .inl f))] H) (hD : va_D A [(sa, .inl (G.2 0, 830, .inl (upd f (d_620 + 8) (nI d_632)))), (za, .inl (G.2 0, 6, .inl zf)), (m0, .inr (6, [.ref sa, .ref oa, .ref pa, .ref la, .ref za, .ref na, .int (nI (min 6 (u + 1))), .int (nI ((t + 1) % 6)), .int gw, .int gd, .int gm, .int gr, .int (nI 0), .int gv])), (ta, .inl (G.2 0, 830, .inl f))]) hS => ?_)
          refine lv_iload_n hx hb dX4_setBound_112 rfl (lv_at hl 0 rfl) ?_
          have hq9 : o_setBound B z w = (0, nI (bB B d_620), wB B (updN (bB B) d_620 d_632)) := by unfold o_setBound; rw [hir_624, hir_636] <;> first | rfl | rw [if_neg (by omega)] | (rw [if_neg (by omega)]; rfl) | (dsimp only; rw [if_neg (by omega)]) | (dsimp only; rw [if_neg (by omega)]; rfl)
          have hP : va_P G.1 CL [(sa, .inl (G.2 0, 830, .inl (upd f (d_620 + 8) (nI d_632)))), (za, .inl (G.2 0, 6, .inl zf)), (m0, .inr (6, [.ref sa, .ref oa, .ref pa, .ref la, .ref za, .ref na, .int (nI (min 6 (u + 1))), .int (nI ((t + 1) % 6)), .int gw, .int gd, .int gm, .int gr, .int (nI ((o_setBound B z w).1)), .int gv])), (ta, .inl (G.2 0, 830, .inl f))] H := by rw [hq9]; exact hP
          have hD : va_D A [(sa, .inl (G.2 0, 830, .inl (upd f (d_620 + 8) (nI d_632)))), (za, .inl (G.2 0, 6, .inl zf)), (m0, .inr (6, [.ref sa, .ref oa, .ref pa, .ref la, .ref za, .ref na, .int (nI (min 6 (u + 1))), .int (nI ((t + 1) % 6)), .int gw, .int gd, .int gm, .int gr, .int (nI ((o_setBound B z w).1)), .int gv])), (ta, .inl (G.2 0, 830, .inl f))] := by rw [hq9]; exact hD
          have hP9 : va_P G.1 CL [(m0, .inr (6, [.ref sa, .ref oa, .ref pa, .ref la, .ref za, .ref na, .int (nI (min 6 (u + 1))), .int (nI ((t + 1) % 6)), .int gw, .int gd, .int gm, .int gr, .int (nI ((o_setBound B z w).1)), .int gv])), (sa, .inl (G.2 0, 830, .inl (upd f (d_620 + 8) (nI d_632)))), (ta, .inl (G.2 0, 830, .inl f)), (za, .inl (G.2 0, 6, .inl zf))] H := hP.sub [2, 0, 3, 1] rfl
          have hD9 : va_D A [(m0, .inr (6, [.ref sa, .ref oa, .ref pa, .ref la, .ref za, .ref na, .int (nI (min 6 (u + 1))), .int (nI ((t + 1) % 6)), .int gw, .int gd, .int gm, .int gr, .int (nI ((o_setBound B z w).1)), .int gv])), (sa, .inl (G.2 0, 830, .inl (upd f (d_620 + 8) (nI d_632)))), (ta, .inl (G.2 0, 830, .inl f)), (za, .inl (G.2 0, 6, .inl zf))] := hD.sub [2, 0, 3, 1] (by decide) rfl
          exact end_i hx hb hr hlk (rfl) (qc_of ⟨nI (bB B d_620), upd f (d_620 + 8) (nI d_632), ((t + 1) % 6), (min 6 (u + 1)), f, zf⟩ (v := some (.int (nI (bB B d_620)))) (by rfl) (by rw [hq9]; exact ⟨fun z => absurd rfl z, fun _ => ⟨rfl, MR_bound9 hI hM (by omega), rfl, rfl, rfl⟩⟩) hP9 hD9 (trivial) hS) hS dX4_setBound_113 (show 0 ≤ 0 from by first | exact Nat.le_refl _ | decide | omega) (show 0 ≤ 0 from by first | exact Nat.le_refl _ | decide | omega)
        · refine lv_aload_n hx hb dX4_setBound_59 rfl (lv_at hl 0 rfl) ?_
          refine va_get hx hb hts in_X4 hown hK hP 3 rfl rfl 0 (by decide) (hts _ q1596) (fun _ h => h) rfl dX4_setBound_60 ?_
          refine lv_bipush (v := nI 8) hx hb dX4_setBound_63 (by decide) ?_
          refine lv_iload_n hx hb dX4_setBound_65 rfl (lv_at hl 1 rfl) ?_
          refine lv_iadd hx hb dX4_setBound_66 ?_
          refine lv_ton (n := d_620 + 8) (nadd (by omega)) ?_
          refine lv_iconst (v := nI 1) hx hb dX4_setBound_67 (by decide) ?_
          refine lv_iadd hx hb dX4_setBound_68 ?_
          refine lv_ton (n := d_620 + 9) (nadd (by omega)) ?_
          have hb9 := iv_bB hI (z := d_620 + 1) (by omega) (by omega)
          refine r_iald (v := nI (bB B (d_620 + 1))) hx hb hK hP 0 0 rfl rfl (i := d_620 + 9) (by omega) (by omega) ((congrArg f (show d_620 + 9 = d_620 + 1 + 8 from by omega)).trans (hM.bound (z := d_620 + 1) (by omega) (by omega))) dX4_setBound_69 ?_
          refine lv_iload_n hx hb dX4_setBound_70 rfl (lv_at hl 2 rfl) ?_
          refine n_icmp_gt (tgt := 78) hx hb (by omega) (by omega) dX4_setBound_71 (by decide) (fun c_643 => ?_) (fun c_643 => ?_)
          · refine lv_iconst (v := nI 0) hx hb dX4_setBound_78 (by decide) ?_
            refine lv_iconst (v := nI 2) hx hb dX4_setBound_79 (by decide) ?_
            have hF := hF_of (wc := [(m0, .inr (6, [.ref sa, .ref oa, .ref pa, .ref la, .ref za, .ref na, .int (nI u), .int (nI t), .int gw, .int gd, .int gm, .int gr, .int (nI 0), .int gv]))]) hD hS hA [3] rfl
            refine go_ct hS hP hD [3] [0, 1, 2] hF rfl rfl (by decide) (by decide)
                (va_runV (As := [.int (nI 0), .int (nI 2)]) (rest := []) cf (mX4_isThrown_f l G m0 sa oa pa la za na (nI u) (nI t) gw gd gm gr (nI 0) gv 2  H.size) (cwV 2 hts (lw_V q1650 q1652 qs20 q58 q1653) rfl rfl rfl (by decide +kernel) ⟨Nat.le_of_ble_eq_true rfl, Nat.le_of_ble_eq_true rfl⟩) (preV_of hKB hE hS hF (va_recv hK hP (ci := 6) (q0 := 3) rfl rfl) (va_P.sub hP [3] rfl) ((va_D.sub hD [3] (by decide) rfl).weaken (fun _ _ _ _ => trivial)) trivial) rfl rfl hl.1 rfl (lv_room (Nat.le_of_ble_eq_true rfl)) dX4_setBound_80 ⟨show 0 + 0 ≤ 0 from by first | decide | omega, show 0 + 0 ≤ 0 from by first | decide | omega⟩)
                (fun u_ H locs hq hph (hP : va_P G.1 CL [(sa, .inl (G.2 0, 830, .inl f)), (ta, .inl (G.2 0, 830, .inl h)), (za, .inl (G.2 0, 6, .inl zf)), (m0, .inr (6, [.ref sa, .ref oa, .ref pa, .ref la, .ref za, .ref na, .int (nI u), .int (nI t), .int gw, .int gd, .int gm, .int gr, .int (nI 0), .int gv]))] H) (hD : va_D A [(sa, .inl (G.2 0, 830, .inl f)), (ta, .inl (G.2 0, 830, .inl h)), (za, .inl (G.2 0, 6, .inl zf)), (m0, .inr (6, [.ref sa, .ref oa, .ref pa, .ref la, .ref za, .ref na, .int (nI u), .int (nI t), .int gw, .int gd, .int gm, .int gr, .int (nI 0), .int gv]))]) hS hfz hfk => ?_)
            refine W.eq (g2 := F0 m 83 ls [.int (nI 0)]) rfl ?_
            refine n_if_eq (tgt := 88) hx hb (by omega) dX4_setBound_83 (by decide) (fun c_644 => ?_) (fun c_644 => absurd c_644 (by omega))
            refine lv_aload_n hx hb dX4_setBound_88 rfl (lv_at hl 0 rfl) ?_
            have hF := hF_of (wc := [(m0, .inr (6, [.ref sa, .ref oa, .ref pa, .ref la, .ref za, .ref na, .int (nI u), .int (nI t), .int gw, .int gd, .int gm, .int gr, .int (nI 0), .int gv])), (ta, .inl (G.2 0, 830, .inl h))]) hD hS hA [3, 1] rfl
            have hro_645 : roW G (va_A [(m0, .inr (6, [.ref sa, .ref oa, .ref pa, .ref la, .ref za, .ref na, .int (nI u), .int (nI t), .int gw, .int gd, .int gm, .int gr, .int (nI 0), .int gv])), (ta, .inl (G.2 0, 830, .inl h))] H.size) H [(oa, .inl (G.2 7, 6, .inr (.inr (.inr (.inr og))))), (sa, .inl (G.2 0, 830, .inl f))] := (((hR0.kp hF hS.2.1).sub (ws' := [(oa, .inl (G.2 7, 6, .inr (.inr (.inr (.inr og)))))]) [0] rfl).app (roW.of (w' := [(sa, .inl (G.2 0, 830, .inl f))]) hP hD [3, 1] [0] rfl rfl (by decide)))
            refine go_ct hS hP hD [3, 1] [0, 2] hF rfl rfl (by decide) (by decide)
                (va_runV (As := []) (rest := []) cf (mX4_keeps l G m0 sa oa pa la za na gw gd gm gr (nI 0) gv f t u ta h og (show t < 6 from by first | assumption | omega) (show u ≤ 6 from by first | assumption | omega) (show og ((t + 1) % 6) = some ta from by first | assumption | omega) H.size) (cwV 0 hts (lw_V q1654 q1656 qs21 q58 q1657) rfl rfl rfl (by decide +kernel) ⟨Nat.le_of_ble_eq_true rfl, Nat.le_of_ble_eq_true rfl⟩) (preV_of hKB hE hS hF (va_recv hK hP (ci := 6) (q0 := 3) rfl rfl) (va_P.sub hP [3, 1] rfl) ((va_D.sub hD [3, 1] (by decide) rfl).weaken (fun _ _ _ _ => trivial)) hro_645) rfl rfl hl.1 rfl (lv_room (Nat.le_of_ble_eq_true rfl)) dX4_setBound_89 ⟨show 0 + 0 ≤ 0 from by first | decide | omega, show 0 + 0 ≤ 0 from by first | decide | omega⟩)
                (fun u_ H locs hq hph (hP : va_P G.1 CL [(sa, .inl (G.2 0, 830, .inl f)), (za, .inl (G.2 0, 6, .inl zf)), (m0, .inr (6, [.ref sa, .ref oa, .ref pa, .ref la, .ref za, .ref na, .int (nI (min 6 (u + 1))), .int (nI ((t + 1) % 6)), .int gw, .int gd, .int gm, .int gr, .int (nI 0), .int gv])), (ta, .inl (G.2 0, 830, .inl f))] H) (hD : va_D A [(sa, .inl (G.2 0, 830, .inl f)), (za, .inl (G.2 0, 6, .inl zf)), (m0, .inr (6, [.ref sa, .ref oa, .ref pa, .ref la, .ref za, .ref na, .int (nI (min 6 (u + 1))), .int (nI ((t + 1) % 6)), .int gw, .int gd, .int gm, .int gr, .int (nI 0), .int gv])), (ta, .inl (G.2 0, 830, .inl f))]) hS hfz hfk => ?_)
            refine W.eq (g2 := F0 m 92 ls []) rfl ?_
            refine lv_aload_n hx hb dX4_setBound_92 rfl (lv_at hl 0 rfl) ?_
            refine va_get hx hb hts in_X4 hown hK hP 2 rfl rfl 0 (by decide) (hts _ q1596) (fun _ h => h) rfl dX4_setBound_93 ?_
            refine lv_bipush (v := nI 8) hx hb dX4_setBound_96 (by decide) ?_
            refine lv_iload_n hx hb dX4_setBound_98 rfl (lv_at hl 1 rfl) ?_
            refine lv_iadd hx hb dX4_setBound_99 ?_
            refine lv_ton (n := d_620 + 8) (nadd (by omega)) ?_
            refine r_iald (v := nI (bB B d_620)) hx hb hK hP 0 0 rfl rfl (i := d_620 + 8) (by omega) (by omega) (hM.bound (z := d_620) (by omega) (by omega)) dX4_setBound_100 ?_
            refine lv_istore_n (lv' := [(3, .int (nI (bB B d_620))), (0, .ref m0), (1, .int (nI d_620)), (2, .int (nI d_632))]) hx hb dX4_setBound_101 rfl hl (by decide) rfl (fun ls hl => ?_)
            refine lv_aload_n hx hb dX4_setBound_102 rfl (lv_at hl 1 rfl) ?_
            refine va_get hx hb hts in_X4 hown hK hP 2 rfl rfl 0 (by decide) (hts _ q1596) (fun _ h => h) rfl dX4_setBound_103 ?_
            refine lv_bipush (v := nI 8) hx hb dX4_setBound_106 (by decide) ?_
            refine lv_iload_n hx hb dX4_setBound_108 rfl (lv_at hl 2 rfl) ?_
            refine lv_iadd hx hb dX4_setBound_109 ?_
            refine lv_ton (n := d_620 + 8) (nadd (by omega)) ?_
            refine lv_iload_n hx hb dX4_setBound_110 rfl (lv_at hl 3 rfl) ?_
            refine r_iast hx hb hK hP hD hS 0 0 rfl rfl (i := d_620 + 8) (by omega) (by omega) dX4_setBound_111 (fun H locs (hP : va_P G.1 CL [(sa, .inl (G.2 0, 830, .inl (upd f (d_620 + 8) (nI d_632)))), (za, .inl (G.2 0, 6, .inl zf)), (m0, .inr (6, [.ref sa, .ref oa, .ref pa, .ref la, .ref za, .ref na, .int (nI (min 6 (u + 1))), .int (nI ((t + 1) % 6)), .int gw, .int gd, .int gm, .int gr, .int (nI 0), .int gv])), (ta, .inl (G.2 0, 830, .inl f))] H) (hD : va_D A [(sa, .inl (G.2 0, 830, .inl (upd f (d_620 + 8) (nI d_632)))), (za, .inl (G.2 0, 6, .inl zf)), (m0, .inr (6, [.ref sa, .ref oa, .ref pa, .ref la, .ref za, .ref na, .int (nI (min 6 (u + 1))), .int (nI ((t + 1) % 6)), .int gw, .int gd, .int gm, .int gr, .int (nI 0), .int gv])), (ta, .inl (G.2 0, 830, .inl f))]) hS => ?_)
            refine lv_iload_n hx hb dX4_setBound_112 rfl (lv_at hl 0 rfl) ?_
            have hq9 : o_setBound B z w = (0, nI (bB B d_620), wB B (updN (bB B) d_620 d_632)) := by unfold o_setBound; rw [hir_624, hir_636] <;> first | rfl | rw [if_neg (by omega)] | (rw [if_neg (by omega)]; rfl) | (dsimp only; rw [if_neg (by omega)]) | (dsimp only; rw [if_neg (by omega)]; rfl)
            have hP : va_P G.1 CL [(sa, .inl (G.2 0, 830, .inl (upd f (d_620 + 8) (nI d_632)))), (za, .inl (G.2 0, 6, .inl zf)), (m0, .inr (6, [.ref sa, .ref oa, .ref pa, .ref la, .ref za, .ref na, .int (nI (min 6 (u + 1))), .int (nI ((t + 1) % 6)), .int gw, .int gd, .int gm, .int gr, .int (nI ((o_setBound B z w).1)), .int gv])), (ta, .inl (G.2 0, 830, .inl f))] H := by rw [hq9]; exact hP
            have hD : va_D A [(sa, .inl (G.2 0, 830, .inl (upd f (d_620 + 8) (nI d_632)))), (za, .inl (G.2 0, 6, .inl zf)), (m0, .inr (6, [.ref sa, .ref oa, .ref pa, .ref la, .ref za, .ref na, .int (nI (min 6 (u + 1))), .int (nI ((t + 1) % 6)), .int gw, .int gd, .int gm, .int gr, .int (nI ((o_setBound B z w).1)), .int gv])), (ta, .inl (G.2 0, 830, .inl f))] := by rw [hq9]; exact hD
            have hP9 : va_P G.1 CL [(m0, .inr (6, [.ref sa, .ref oa, .ref pa, .ref la, .ref za, .ref na, .int (nI (min 6 (u + 1))), .int (nI ((t + 1) % 6)), .int gw, .int gd, .int gm, .int gr, .int (nI ((o_setBound B z w).1)), .int gv])), (sa, .inl (G.2 0, 830, .inl (upd f (d_620 + 8) (nI d_632)))), (ta, .inl (G.2 0, 830, .inl f)), (za, .inl (G.2 0, 6, .inl zf))] H := hP.sub [2, 0, 3, 1] rfl
            have hD9 : va_D A [(m0, .inr (6, [.ref sa, .ref oa, .ref pa, .ref la, .ref za, .ref na, .int (nI (min 6 (u + 1))), .int (nI ((t + 1) % 6)), .int gw, .int gd, .int gm, .int gr, .int (nI ((o_setBound B z w).1)), .int gv])), (sa, .inl (G.2 0, 830, .inl (upd f (d_620 + 8) (nI d_632)))), (ta, .inl (G.2 0, 830, .inl f)), (za, .inl (G.2 0, 6, .inl zf))] := hD.sub [2, 0, 3, 1] (by decide) rfl
            exact end_i hx hb hr hlk (rfl) (qc_of ⟨nI (bB B d_620), upd f (d_620 + 8) (nI d_632), ((t + 1) % 6), (min 6 (u + 1)), f, zf⟩ (v := some (.int (nI (bB B d_620)))) (by rfl) (by rw [hq9]; exact ⟨fun z => absurd rfl z, fun _ => ⟨rfl, MR_bound9 hI hM (by omega), rfl, rfl, rfl⟩⟩) hP9 hD9 (trivial) hS) hS dX4_setBound_113 (show 0 ≤ 0 from by first | exact Nat.le_refl _ | decide | omega) (show 0 ≤ 0 from by first | exact Nat.le_refl _ | decide | omega)
          · refine lv_iconst (v := nI 1) hx hb dX4_setBound_74 (by decide) ?_
            refine lv_goto (tgt := 79) hx hb dX4_setBound_75 (by decide) ?_
            refine lv_iconst (v := nI 2) hx hb dX4_setBound_79 (by decide) ?_
            have hF := hF_of (wc := [(m0, .inr (6, [.ref sa, .ref oa, .ref pa, .ref la, .ref za, .ref na, .int (nI u), .int (nI t), .int gw, .int gd, .int gm, .int gr, .int (nI 0), .int gv]))]) hD hS hA [3] rfl
            refine go_ct hS hP hD [3] [0, 1, 2] hF rfl rfl (by decide) (by decide)
                (va_runV (As := [.int (nI 1), .int (nI 2)]) (rest := []) cf (mX4_isThrown_t l G m0 sa oa pa la za na (nI u) (nI t) gw gd gm gr (nI 0) gv 2  H.size) (cwV 2 hts (lw_V q1650 q1652 qs20 q58 q1653) rfl rfl rfl (by decide +kernel) ⟨Nat.le_of_ble_eq_true rfl, Nat.le_of_ble_eq_true rfl⟩) (preV_of hKB hE hS hF (va_recv hK hP (ci := 6) (q0 := 3) rfl rfl) (va_P.sub hP [3] rfl) ((va_D.sub hD [3] (by decide) rfl).weaken (fun _ _ _ _ => trivial)) trivial) rfl rfl hl.1 rfl (lv_room (Nat.le_of_ble_eq_true rfl)) dX4_setBound_80 ⟨show 0 + 0 ≤ 0 from by first | decide | omega, show 0 + 0 ≤ 0 from by first | decide | omega⟩)
                (fun u_ H locs hq hph (hP : va_P G.1 CL [(sa, .inl (G.2 0, 830, .inl f)), (ta, .inl (G.2 0, 830, .inl h)), (za, .inl (G.2 0, 6, .inl zf)), (m0, .inr (6, [.ref sa, .ref oa, .ref pa, .ref la, .ref za, .ref na, .int (nI u), .int (nI t), .int gw, .int gd, .int gm, .int gr, .int (nI 2), .int gv]))] H) (hD : va_D A [(sa, .inl (G.2 0, 830, .inl f)), (ta, .inl (G.2 0, 830, .inl h)), (za, .inl (G.2 0, 6, .inl zf)), (m0, .inr (6, [.ref sa, .ref oa, .ref pa, .ref la, .ref za, .ref na, .int (nI u), .int (nI t), .int gw, .int gd, .int gm, .int gr, .int (nI 2), .int gv]))]) hS hfz hfk => ?_)
            refine W.eq (g2 := F0 m 83 ls [.int (nI 1)]) rfl ?_
            refine n_if_eq (tgt := 88) hx hb (by omega) dX4_setBound_83 (by decide) (fun c_646 => absurd c_646 (by omega)) (fun c_646 => ?_)
            refine lv_iconst (v := nI 0) hx hb dX4_setBound_86 (by decide) ?_
            have hq9 : o_setBound B z w = (2, 0, B) := by unfold o_setBound; rw [hir_624, hir_636] <;> first | rfl | rw [if_pos (by omega)] | (rw [if_pos (by omega)]; rfl) | (dsimp only; rw [if_pos (by omega)]) | (dsimp only; rw [if_pos (by omega)]; rfl)
            have hP : va_P G.1 CL [(sa, .inl (G.2 0, 830, .inl f)), (ta, .inl (G.2 0, 830, .inl h)), (za, .inl (G.2 0, 6, .inl zf)), (m0, .inr (6, [.ref sa, .ref oa, .ref pa, .ref la, .ref za, .ref na, .int (nI u), .int (nI t), .int gw, .int gd, .int gm, .int gr, .int (nI ((o_setBound B z w).1)), .int gv]))] H := by rw [hq9]; exact hP
            have hD : va_D A [(sa, .inl (G.2 0, 830, .inl f)), (ta, .inl (G.2 0, 830, .inl h)), (za, .inl (G.2 0, 6, .inl zf)), (m0, .inr (6, [.ref sa, .ref oa, .ref pa, .ref la, .ref za, .ref na, .int (nI u), .int (nI t), .int gw, .int gd, .int gm, .int gr, .int (nI ((o_setBound B z w).1)), .int gv]))] := by rw [hq9]; exact hD
            have hP9 : va_P G.1 CL [(m0, .inr (6, [.ref sa, .ref oa, .ref pa, .ref la, .ref za, .ref na, .int (nI u), .int (nI t), .int gw, .int gd, .int gm, .int gr, .int (nI ((o_setBound B z w).1)), .int gv])), (sa, .inl (G.2 0, 830, .inl f)), (ta, .inl (G.2 0, 830, .inl h)), (za, .inl (G.2 0, 6, .inl zf))] H := hP.sub [3, 0, 1, 2] rfl
            have hD9 : va_D A [(m0, .inr (6, [.ref sa, .ref oa, .ref pa, .ref la, .ref za, .ref na, .int (nI u), .int (nI t), .int gw, .int gd, .int gm, .int gr, .int (nI ((o_setBound B z w).1)), .int gv])), (sa, .inl (G.2 0, 830, .inl f)), (ta, .inl (G.2 0, 830, .inl h)), (za, .inl (G.2 0, 6, .inl zf))] := hD.sub [3, 0, 1, 2] (by decide) rfl
            exact end_i hx hb hr hlk (rfl) (qc_of ⟨nI 0, f, t, u, h, zf⟩ (v := some (.int (nI 0))) (by rfl) (by rw [hq9]; exact ⟨fun _ => ⟨rfl, rfl, rfl, rfl⟩, fun z => absurd (show (2 : Nat) = 0 from z) (by decide)⟩) hP9 hD9 (trivial) hS) hS dX4_setBound_87 (show 0 ≤ 0 from by first | exact Nat.le_refl _ | decide | omega) (show 0 ≤ 0 from by first | exact Nat.le_refl _ | decide | omega)
      · refine lv_aload_n hx hb dX4_setBound_39 rfl (lv_at hl 0 rfl) ?_
        refine va_get hx hb hts in_X4 hown hK hP 3 rfl rfl 0 (by decide) (hts _ q1596) (fun _ h => h) rfl dX4_setBound_40 ?_
        refine lv_bipush (v := nI 8) hx hb dX4_setBound_43 (by decide) ?_
        refine lv_iload_n hx hb dX4_setBound_45 rfl (lv_at hl 1 rfl) ?_
        refine lv_iadd hx hb dX4_setBound_46 ?_
        refine lv_ton (n := d_620 + 8) (nadd (by omega)) ?_
        refine lv_iconst (v := nI 1) hx hb dX4_setBound_47 (by decide) ?_
        refine lv_isub hx hb dX4_setBound_48 ?_
        refine lv_ton (n := d_620 + 7) (nsub (by omega)) ?_
        have hb9 := iv_bB hI (z := d_620 - 1) (by omega) (by omega)
        refine r_iald (v := nI (bB B (d_620 - 1))) hx hb hK hP 0 0 rfl rfl (i := d_620 + 7) (by omega) (by omega) ((congrArg f (show d_620 + 7 = d_620 - 1 + 8 from by omega)).trans (hM.bound (z := d_620 - 1) (by omega) (by omega))) dX4_setBound_49 ?_
        refine lv_iload_n hx hb dX4_setBound_50 rfl (lv_at hl 2 rfl) ?_
        refine n_icmp_ge (tgt := 74) hx hb (by omega) (by omega) dX4_setBound_51 (by decide) (fun c_647 => ?_) (fun c_647 => ?_)
        · refine lv_iconst (v := nI 1) hx hb dX4_setBound_74 (by decide) ?_
          refine lv_goto (tgt := 79) hx hb dX4_setBound_75 (by decide) ?_
          refine lv_iconst (v := nI 2) hx hb dX4_setBound_79 (by decide) ?_
          have hF := hF_of (wc := [(m0, .inr (6, [.ref sa, .ref oa, .ref pa, .ref la, .ref za, .ref na, .int (nI u), .int (nI t), .int gw, .int gd, .int gm, .int gr, .int (nI 0), .int gv]))]) hD hS hA [3] rfl
          refine go_ct hS hP hD [3] [0, 1, 2] hF rfl rfl (by decide) (by decide)
              (va_runV (As := [.int (nI 1), .int (nI 2)]) (rest := []) cf (mX4_isThrown_t l G m0 sa oa pa la za na (nI u) (nI t) gw gd gm gr (nI 0) gv 2  H.size) (cwV 2 hts (lw_V q1650 q1652 qs20 q58 q1653) rfl rfl rfl (by decide +kernel) ⟨Nat.le_of_ble_eq_true rfl, Nat.le_of_ble_eq_true rfl⟩) (preV_of hKB hE hS hF (va_recv hK hP (ci := 6) (q0 := 3) rfl rfl) (va_P.sub hP [3] rfl) ((va_D.sub hD [3] (by decide) rfl).weaken (fun _ _ _ _ => trivial)) trivial) rfl rfl hl.1 rfl (lv_room (Nat.le_of_ble_eq_true rfl)) dX4_setBound_80 ⟨show 0 + 0 ≤ 0 from by first | decide | omega, show 0 + 0 ≤ 0 from by first | decide | omega⟩)
              (fun u_ H locs hq hph (hP : va_P G.1 CL [(sa, .inl (G.2 0, 830, .inl f)), (ta, .inl (G.2 0, 830, .inl h)), (za, .inl (G.2 0, 6, .inl zf)), (m0, .inr (6, [.ref sa, .ref oa, .ref pa, .ref la, .ref za, .ref na, .int (nI u), .int (nI t), .int gw, .int gd, .int gm, .int gr, .int (nI 2), .int gv]))] H) (hD : va_D A [(sa, .inl (G.2 0, 830, .inl f)), (ta, .inl (G.2 0, 830, .inl h)), (za, .inl (G.2 0, 6, .inl zf)), (m0, .inr (6, [.ref sa, .ref oa, .ref pa, .ref la, .ref za, .ref na, .int (nI u), .int (nI t), .int gw, .int gd, .int gm, .int gr, .int (nI 2), .int gv]))]) hS hfz hfk => ?_)
          refine W.eq (g2 := F0 m 83 ls [.int (nI 1)]) rfl ?_
          refine n_if_eq (tgt := 88) hx hb (by omega) dX4_setBound_83 (by decide) (fun c_648 => absurd c_648 (by omega)) (fun c_648 => ?_)
          refine lv_iconst (v := nI 0) hx hb dX4_setBound_86 (by decide) ?_
          have hq9 : o_setBound B z w = (2, 0, B) := by unfold o_setBound; rw [hir_624, hir_636] <;> first | rfl | rw [if_pos (by omega)] | (rw [if_pos (by omega)]; rfl) | (dsimp only; rw [if_pos (by omega)]) | (dsimp only; rw [if_pos (by omega)]; rfl)
          have hP : va_P G.1 CL [(sa, .inl (G.2 0, 830, .inl f)), (ta, .inl (G.2 0, 830, .inl h)), (za, .inl (G.2 0, 6, .inl zf)), (m0, .inr (6, [.ref sa, .ref oa, .ref pa, .ref la, .ref za, .ref na, .int (nI u), .int (nI t), .int gw, .int gd, .int gm, .int gr, .int (nI ((o_setBound B z w).1)), .int gv]))] H := by rw [hq9]; exact hP
          have hD : va_D A [(sa, .inl (G.2 0, 830, .inl f)), (ta, .inl (G.2 0, 830, .inl h)), (za, .inl (G.2 0, 6, .inl zf)), (m0, .inr (6, [.ref sa, .ref oa, .ref pa, .ref la, .ref za, .ref na, .int (nI u), .int (nI t), .int gw, .int gd, .int gm, .int gr, .int (nI ((o_setBound B z w).1)), .int gv]))] := by rw [hq9]; exact hD
          have hP9 : va_P G.1 CL [(m0, .inr (6, [.ref sa, .ref oa, .ref pa, .ref la, .ref za, .ref na, .int (nI u), .int (nI t), .int gw, .int gd, .int gm, .int gr, .int (nI ((o_setBound B z w).1)), .int gv])), (sa, .inl (G.2 0, 830, .inl f)), (ta, .inl (G.2 0, 830, .inl h)), (za, .inl (G.2 0, 6, .inl zf))] H := hP.sub [3, 0, 1, 2] rfl
          have hD9 : va_D A [(m0, .inr (6, [.ref sa, .ref oa, .ref pa, .ref la, .ref za, .ref na, .int (nI u), .int (nI t), .int gw, .int gd, .int gm, .int gr, .int (nI ((o_setBound B z w).1)), .int gv])), (sa, .inl (G.2 0, 830, .inl f)), (ta, .inl (G.2 0, 830, .inl h)), (za, .inl (G.2 0, 6, .inl zf))] := hD.sub [3, 0, 1, 2] (by decide) rfl
          exact end_i hx hb hr hlk (rfl) (qc_of ⟨nI 0, f, t, u, h, zf⟩ (v := some (.int (nI 0))) (by rfl) (by rw [hq9]; exact ⟨fun _ => ⟨rfl, rfl, rfl, rfl⟩, fun z => absurd (show (2 : Nat) = 0 from z) (by decide)⟩) hP9 hD9 (trivial) hS) hS dX4_setBound_87 (show 0 ≤ 0 from by first | exact Nat.le_refl _ | decide | omega) (show 0 ≤ 0 from by first | exact Nat.le_refl _ | decide | omega)
        · refine lv_iload_n hx hb dX4_setBound_54 rfl (lv_at hl 1 rfl) ?_
          refine lv_iconst (v := nI 5) hx hb dX4_setBound_55 (by decide) ?_
          refine n_icmp_ge (tgt := 78) hx hb (by omega) (by omega) dX4_setBound_56 (by decide) (fun c_649 => ?_) (fun c_649 => ?_)
          · refine lv_iconst (v := nI 0) hx hb dX4_setBound_78 (by decide) ?_
            refine lv_iconst (v := nI 2) hx hb dX4_setBound_79 (by decide) ?_
            have hF := hF_of (wc := [(m0, .inr (6, [.ref sa, .ref oa, .ref pa, .ref la, .ref za, .ref na, .int (nI u), .int (nI t), .int gw, .int gd, .int gm, .int gr, .int (nI 0), .int gv]))]) hD hS hA [3] rfl
            refine go_ct hS hP hD [3] [0, 1, 2] hF rfl rfl (by decide) (by decide)
                (va_runV (As := [.int (nI 0), .int (nI 2)]) (rest := []) cf (mX4_isThrown_f l G m0 sa oa pa la za na (nI u) (nI t) gw gd gm gr (nI 0) gv 2  H.size) (cwV 2 hts (lw_V q1650 q1652 qs20 q58 q1653) rfl rfl rfl (by decide +kernel) ⟨Nat.le_of_ble_eq_true rfl, Nat.le_of_ble_eq_true rfl⟩) (preV_of hKB hE hS hF (va_recv hK hP (ci := 6) (q0 := 3) rfl rfl) (va_P.sub hP [3] rfl) ((va_D.sub hD [3] (by decide) rfl).weaken (fun _ _ _ _ => trivial)) trivial) rfl rfl hl.1 rfl (lv_room (Nat.le_of_ble_eq_true rfl)) dX4_setBound_80 ⟨show 0 + 0 ≤ 0 from by first | decide | omega, show 0 + 0 ≤ 0 from by first | decide | omega⟩)
                (fun u_ H locs hq hph (hP : va_P G.1 CL [(sa, .inl (G.2 0, 830, .inl f)), (ta, .inl (G.2 0, 830, .inl h)), (za, .inl (G.2 0, 6, .inl zf)), (m0, .inr (6, [.ref sa, .ref oa, .ref pa, .ref la, .ref za, .ref na, .int (nI u), .int (nI t), .int gw, .int gd, .int gm, .int gr, .int (nI 0), .int gv]))] H) (hD : va_D A [(sa, .inl (G.2 0, 830, .inl f)), (ta, .inl (G.2 0, 830, .inl h)), (za, .inl (G.2 0, 6, .inl zf)), (m0, .inr (6, [.ref sa, .ref oa, .ref pa, .ref la, .ref za, .ref na, .int (nI u), .int (nI t), .int gw, .int gd, .int gm, .int gr, .int (nI 0), .int gv]))]) hS hfz hfk => ?_)
            refine W.eq (g2 := F0 m 83 ls [.int (nI 0)]) rfl ?_
            refine n_if_eq (tgt := 88) hx hb (by omega) dX4_setBound_83 (by decide) (fun c_650 => ?_) (fun c_650 => absurd c_650 (by omega))
            refine lv_aload_n hx hb dX4_setBound_88 rfl (lv_at hl 0 rfl) ?_
            have hF := hF_of (wc := [(m0, .inr (6, [.ref sa, .ref oa, .ref pa, .ref la, .ref za, .ref na, .int (nI u), .int (nI t), .int gw, .int gd, .int gm, .int gr, .int (nI 0), .int gv])), (ta, .inl (G.2 0, 830, .inl h))]) hD hS hA [3, 1] rfl
            have hro_651 : roW G (va_A [(m0, .inr (6, [.ref sa, .ref oa, .ref pa, .ref la, .ref za, .ref na, .int (nI u), .int (nI t), .int gw, .int gd, .int gm, .int gr, .int (nI 0), .int gv])), (ta, .inl (G.2 0, 830, .inl h))] H.size) H [(oa, .inl (G.2 7, 6, .inr (.inr (.inr (.inr og))))), (sa, .inl (G.2 0, 830, .inl f))] := (((hR0.kp hF hS.2.1).sub (ws' := [(oa, .inl (G.2 7, 6, .inr (.inr (.inr (.inr og)))))]) [0] rfl).app (roW.of (w' := [(sa, .inl (G.2 0, 830, .inl f))]) hP hD [3, 1] [0] rfl rfl (by decide)))
            refine go_ct hS hP hD [3, 1] [0, 2] hF rfl rfl (by decide) (by decide)
                (va_runV (As := []) (rest := []) cf (mX4_keeps l G m0 sa oa pa la za na gw gd gm gr (nI 0) gv f t u ta h og (show t < 6 from by first | assumption | omega) (show u ≤ 6 from by first | assumption | omega) (show og ((t + 1) % 6) = some ta from by first | assumption | omega) H.size) (cwV 0 hts (lw_V q1654 q1656 qs21 q58 q1657) rfl rfl rfl (by decide +kernel) ⟨Nat.le_of_ble_eq_true rfl, Nat.le_of_ble_eq_true rfl⟩) (preV_of hKB hE hS hF (va_recv hK hP (ci := 6) (q0 := 3) rfl rfl) (va_P.sub hP [3, 1] rfl) ((va_D.sub hD [3, 1] (by decide) rfl).weaken (fun _ _ _ _ => trivial)) hro_651) rfl rfl hl.1 rfl (lv_room (Nat.le_of_ble_eq_true rfl)) dX4_setBound_89 ⟨show 0 + 0 ≤ 0 from by first | decide | omega, show 0 + 0 ≤ 0 from by first | decide | omega⟩)
                (fun u_ H locs hq hph (hP : va_P G.1 CL [(sa, .inl (G.2 0, 830, .inl f)), (za, .inl (G.2 0, 6, .inl zf)), (m0, .inr (6, [.ref sa, .ref oa, .ref pa, .ref la, .ref za, .ref na, .int (nI (min 6 (u + 1))), .int (nI ((t + 1) % 6)), .int gw, .int gd, .int gm, .int gr, .int (nI 0), .int gv])), (ta, .inl (G.2 0, 830, .inl f))] H) (hD : va_D A [(sa, .inl (G.2 0, 830, .inl f)), (za, .inl (G.2 0, 6, .inl zf)), (m0, .inr (6, [.ref sa, .ref oa, .ref pa, .ref la, .ref za, .ref na, .int (nI (min 6 (u + 1))), .int (nI ((t + 1) % 6)), .int gw, .int gd, .int gm, .int gr, .int (nI 0), .int gv])), (ta, .inl (G.2 0, 830, .inl f))]) hS hfz hfk => ?_)
            refine W.eq (g2 := F0 m 92 ls []) rfl ?_
            refine lv_aload_n hx hb dX4_setBound_92 rfl (lv_at hl 0 rfl) ?_
            refine va_get hx hb hts in_X4 hown hK hP 2 rfl rfl 0 (by decide) (hts _ q1596) (fun _ h => h) rfl dX4_setBound_93 ?_
            refine lv_bipush (v := nI 8) hx hb dX4_setBound_96 (by decide) ?_
            refine lv_iload_n hx hb dX4_setBound_98 rfl (lv_at hl 1 rfl) ?_
            refine lv_iadd hx hb dX4_setBound_99 ?_
            refine lv_ton (n := d_620 + 8) (nadd (by omega)) ?_
            refine r_iald (v := nI (bB B d_620)) hx hb hK hP 0 0 rfl rfl (i := d_620 + 8) (by omega) (by omega) (hM.bound (z := d_620) (by omega) (by omega)) dX4_setBound_100 ?_
            refine lv_istore_n (lv' := [(3, .int (nI (bB B d_620))), (0, .ref m0), (1, .int (nI d_620)), (2, .int (nI d_632))]) hx hb dX4_setBound_101 rfl hl (by decide) rfl (fun ls hl => ?_)
            refine lv_aload_n hx hb dX4_setBound_102 rfl (lv_at hl 1 rfl) ?_
            refine va_get hx hb hts in_X4 hown hK hP 2 rfl rfl 0 (by decide) (hts _ q1596) (fun _ h => h) rfl dX4_setBound_103 ?_
            refine lv_bipush (v := nI 8) hx hb dX4_setBound_106 (by decide) ?_
            refine lv_iload_n hx hb dX4_setBound_108 rfl (lv_at hl 2 rfl) ?_
            refine lv_iadd hx hb dX4_setBound_109 ?_
            refine lv_ton (n := d_620 + 8) (nadd (by omega)) ?_
            refine lv_iload_n hx hb dX4_setBound_110 rfl (lv_at hl 3 rfl) ?_
            refine r_iast hx hb hK hP hD hS 0 0 rfl rfl (i := d_620 + 8) (by omega) (by omega) dX4_setBound_111 (fun H locs (hP : va_P G.1 CL [(sa, .inl (G.2 0, 830, .inl (upd f (d_620 + 8) (nI d_632)))), (za, .inl (G.2 0, 6, .inl zf)), (m0, .inr (6, [.ref sa, .ref oa, .ref pa, .ref la, .ref za, .ref na, .int (nI (min 6 (u + 1))), .int (nI ((t + 1) % 6)), .int gw, .int gd, .int gm, .int gr, .int (nI 0), .int gv])), (ta, .inl (G.2 0, 830, .inl f))] H) (hD : va_D A [(sa, .inl (G.2 0, 830, .inl (upd f (d_620 + 8) (nI d_632)))), (za, .inl (G.2 0, 6, .inl zf)), (m0, .inr (6, [.ref sa, .ref oa, .ref pa, .ref la, .ref za, .ref na, .int (nI (min 6 (u + 1))), .int (nI ((t + 1) % 6)), .int gw, .int gd, .int gm, .int gr, .int (nI 0), .int gv])), (ta, .inl (G.2 0, 830, .inl f))]) hS => ?_)
            refine lv_iload_n hx hb dX4_setBound_112 rfl (lv_at hl 0 rfl) ?_
            have hq9 : o_setBound B z w = (0, nI (bB B d_620), wB B (updN (bB B) d_620 d_632)) := by unfold o_setBound; rw [hir_624, hir_636] <;> first | rfl | rw [if_neg (by omega)] | (rw [if_neg (by omega)]; rfl) | (dsimp only; rw [if_neg (by omega)]) | (dsimp only; rw [if_neg (by omega)]; rfl)
            have hP : va_P G.1 CL [(sa, .inl (G.2 0, 830, .inl (upd f (d_620 + 8) (nI d_632)))), (za, .inl (G.2 0, 6, .inl zf)), (m0, .inr (6, [.ref sa, .ref oa, .ref pa, .ref la, .ref za, .ref na, .int (nI (min 6 (u + 1))), .int (nI ((t + 1) % 6)), .int gw, .int gd, .int gm, .int gr, .int (nI ((o_setBound B z w).1)), .int gv])), (ta, .inl (G.2 0, 830, .inl f))] H := by rw [hq9]; exact hP
            have hD : va_D A [(sa, .inl (G.2 0, 830, .inl (upd f (d_620 + 8) (nI d_632)))), (za, .inl (G.2 0, 6, .inl zf)), (m0, .inr (6, [.ref sa, .ref oa, .ref pa, .ref la, .ref za, .ref na, .int (nI (min 6 (u + 1))), .int (nI ((t + 1) % 6)), .int gw, .int gd, .int gm, .int gr, .int (nI ((o_setBound B z w).1)), .int gv])), (ta, .inl (G.2 0, 830, .inl f))] := by rw [hq9]; exact hD
            have hP9 : va_P G.1 CL [(m0, .inr (6, [.ref sa, .ref oa, .ref pa, .ref la, .ref za, .ref na, .int (nI (min 6 (u + 1))), .int (nI ((t + 1) % 6)), .int gw, .int gd, .int gm, .int gr, .int (nI ((o_setBound B z w).1)), .int gv])), (sa, .inl (G.2 0, 830, .inl (upd f (d_620 + 8) (nI d_632)))), (ta, .inl (G.2 0, 830, .inl f)), (za, .inl (G.2 0, 6, .inl zf))] H := hP.sub [2, 0, 3, 1] rfl
            have hD9 : va_D A [(m0, .inr (6, [.ref sa, .ref oa, .ref pa, .ref la, .ref za, .ref na, .int (nI (min 6 (u + 1))), .int (nI ((t + 1) % 6)), .int gw, .int gd, .int gm, .int gr, .int (nI ((o_setBound B z w).1)), .int gv])), (sa, .inl (G.2 0, 830, .inl (upd f (d_620 + 8) (nI d_632)))), (ta, .inl (G.2 0, 830, .inl f)), (za, .inl (G.2 0, 6, .inl zf))] := hD.sub [2, 0, 3, 1] (by decide) rfl
            exact end_i hx hb hr hlk (rfl) (qc_of ⟨nI (bB B d_620), upd f (d_620 + 8) (nI d_632), ((t + 1) % 6), (min 6 (u + 1)), f, zf⟩ (v := some (.int (nI (bB B d_620)))) (by rfl) (by rw [hq9]; exact ⟨fun z => absurd rfl z, fun _ => ⟨rfl, MR_bound9 hI hM (by omega), rfl, rfl, rfl⟩⟩) hP9 hD9 (trivial) hS) hS dX4_setBound_113 (show 0 ≤ 0 from by first | exact Nat.le_refl _ | decide | omega) (show 0 ≤ 0 from by first | exact Nat.le_refl _ | decide | omega)
          · refine lv_aload_n hx hb dX4_setBound_59 rfl (lv_at hl 0 rfl) ?_
            refine va_get hx hb hts in_X4 hown hK hP 3 rfl rfl 0 (by decide) (hts _ q1596) (fun _ h => h) rfl dX4_setBound_60 ?_
            refine lv_bipush (v := nI 8) hx hb dX4_setBound_63 (by decide) ?_
            refine lv_iload_n hx hb dX4_setBound_65 rfl (lv_at hl 1 rfl) ?_
            refine lv_iadd hx hb dX4_setBound_66 ?_
            refine lv_ton (n := d_620 + 8) (nadd (by omega)) ?_
            refine lv_iconst (v := nI 1) hx hb dX4_setBound_67 (by decide) ?_
            refine lv_iadd hx hb dX4_setBound_68 ?_
            refine lv_ton (n := d_620 + 9) (nadd (by omega)) ?_
            have hb9 := iv_bB hI (z := d_620 + 1) (by omega) (by omega)
            refine r_iald (v := nI (bB B (d_620 + 1))) hx hb hK hP 0 0 rfl rfl (i := d_620 + 9) (by omega) (by omega) ((congrArg f (show d_620 + 9 = d_620 + 1 + 8 from by omega)).trans (hM.bound (z := d_620 + 1) (by omega) (by omega))) dX4_setBound_69 ?_
            refine lv_iload_n hx hb dX4_setBound_70 rfl (lv_at hl 2 rfl) ?_
            refine n_icmp_gt (tgt := 78) hx hb (by omega) (by omega) dX4_setBound_71 (by decide) (fun c_652 => ?_) (fun c_652 => ?_)
            · refine lv_iconst (v := nI 0) hx hb dX4_setBound_78 (by decide) ?_
              refine lv_iconst (v := nI 2) hx hb dX4_setBound_79 (by decide) ?_
              have hF := hF_of (wc := [(m0, .inr (6, [.ref sa, .ref oa, .ref pa, .ref la, .ref za, .ref na, .int (nI u), .int (nI t), .int gw, .int gd, .int gm, .int gr, .int (nI 0), .int gv]))]) hD hS hA [3] rfl
              refine go_ct hS hP hD [3] [0, 1, 2] hF rfl rfl (by decide) (by decide)
                  (va_runV (As := [.int (nI 0), .int (nI 2)]) (rest := []) cf (mX4_isThrown_f l G m0 sa oa pa la za na (nI u) (nI t) gw gd gm gr (nI 0) gv 2  H.size) (cwV 2 hts (lw_V q1650 q1652 qs20 q58 q1653) rfl rfl rfl (by decide +kernel) ⟨Nat.le_of_ble_eq_true rfl, Nat.le_of_ble_eq_true rfl⟩) (preV_of hKB hE hS hF (va_recv hK hP (ci := 6) (q0 := 3) rfl rfl) (va_P.sub hP [3] rfl) ((va_D.sub hD [3] (by decide) rfl).weaken (fun _ _ _ _ => trivial)) trivial) rfl rfl hl.1 rfl (lv_room (Nat.le_of_ble_eq_true rfl)) dX4_setBound_80 ⟨show 0 + 0 ≤ 0 from by first | decide | omega, show 0 + 0 ≤ 0 from by first | decide | omega⟩)
                  (fun u_ H locs hq hph (hP : va_P G.1 CL [(sa, .inl (G.2 0, 830, .inl f)), (ta, .inl (G.2 0, 830, .inl h)), (za, .inl (G.2 0, 6, .inl zf)), (m0, .inr (6, [.ref sa, .ref oa, .ref pa, .ref la, .ref za, .ref na, .int (nI u), .int (nI t), .int gw, .int gd, .int gm, .int gr, .int (nI 0), .int gv]))] H) (hD : va_D A [(sa, .inl (G.2 0, 830, .inl f)), (ta, .inl (G.2 0, 830, .inl h)), (za, .inl (G.2 0, 6, .inl zf)), (m0, .inr (6, [.ref sa, .ref oa, .ref pa, .ref la, .ref za, .ref na, .int (nI u), .int (nI t), .int gw, .int gd, .int gm, .int gr, .int (nI 0), .int gv]))]) hS hfz hfk => ?_)
              refine W.eq (g2 := F0 m 83 ls [.int (nI 0)]) rfl ?_
              refine n_if_eq (tgt := 88) hx hb (by omega) dX4_setBound_83 (by decide) (fun c_653 => ?_) (fun c_653 => absurd c_653 (by omega))
              refine lv_aload_n hx hb dX4_setBound_88 rfl (lv_at hl 0 rfl) ?_
              have hF := hF_of (wc := [(m0, .inr (6, [.ref sa, .ref oa, .ref pa, .ref la, .ref za, .ref na, .int (nI u), .int (nI t), .int gw, .int gd, .int gm, .int gr, .int (nI 0), .int gv])), (ta, .inl (G.2 0, 830, .inl h))]) hD hS hA [3, 1] rfl
              have hro_654 : roW G (va_A [(m0, .inr (6, [.ref sa, .ref oa, .ref pa, .ref la, .ref za, .ref na, .int (nI u), .int (nI t), .int gw, .int gd, .int gm, .int gr, .int (nI 0), .int gv])), (ta, .inl (G.2 0, 830, .inl h))] H.size) H [(oa, .inl (G.2 7, 6, .inr (.inr (.inr (.inr og))))), (sa, .inl (G.2 0, 830, .inl f))] := (((hR0.kp hF hS.2.1).sub (ws' := [(oa, .inl (G.2 7, 6, .inr (.inr (.inr (.inr og)))))]) [0] rfl).app (roW.of (w' := [(sa, .inl (G.2 0, 830, .inl f))]) hP hD [3, 1] [0] rfl rfl (by decide)))
              refine go_ct hS hP hD [3, 1] [0, 2] hF rfl rfl (by decide) (by decide)
                  (va_runV (As := []) (rest := []) cf (mX4_keeps l G m0 sa oa pa la za na gw gd gm gr (nI 0) gv f t u ta h og (show t < 6 from by first | assumption | omega) (show u ≤ 6 from by first | assumption | omega) (show og ((t + 1) % 6) = some ta from by first | assumption | omega) H.size) (cwV 0 hts (lw_V q1654 q1656 qs21 q58 q1657) rfl rfl rfl (by decide +kernel) ⟨Nat.le_of_ble_eq_true rfl, Nat.le_of_ble_eq_true rfl⟩) (preV_of hKB hE hS hF (va_recv hK hP (ci := 6) (q0 := 3) rfl rfl) (va_P.sub hP [3, 1] rfl) ((va_D.sub hD [3, 1] (by decide) rfl).weaken (fun _ _ _ _ => trivial)) hro_654) rfl rfl hl.1 rfl (lv_room (Nat.le_of_ble_eq_true rfl)) dX4_setBound_89 ⟨show 0 + 0 ≤ 0 from by first | decide | omega, show 0 + 0 ≤ 0 from by first | decide | omega⟩)
                  (fun u_ H locs hq hph (hP : va_P G.1 CL [(sa, .inl (G.2 0, 830, .inl f)), (za, .inl (G.2 0, 6, .inl zf)), (m0, .inr (6, [.ref sa, .ref oa, .ref pa, .ref la, .ref za, .ref na, .int (nI (min 6 (u + 1))), .int (nI ((t + 1) % 6)), .int gw, .int gd, .int gm, .int gr, .int (nI 0), .int gv])), (ta, .inl (G.2 0, 830, .inl f))] H) (hD : va_D A [(sa, .inl (G.2 0, 830, .inl f)), (za, .inl (G.2 0, 6, .inl zf)), (m0, .inr (6, [.ref sa, .ref oa, .ref pa, .ref la, .ref za, .ref na, .int (nI (min 6 (u + 1))), .int (nI ((t + 1) % 6)), .int gw, .int gd, .int gm, .int gr, .int (nI 0), .int gv])), (ta, .inl (G.2 0, 830, .inl f))]) hS hfz hfk => ?_)
              refine W.eq (g2 := F0 m 92 ls []) rfl ?_
              refine lv_aload_n hx hb dX4_setBound_92 rfl (lv_at hl 0 rfl) ?_
              refine va_get hx hb hts in_X4 hown hK hP 2 rfl rfl 0 (by decide) (hts _ q1596) (fun _ h => h) rfl dX4_setBound_93 ?_
              refine lv_bipush (v := nI 8) hx hb dX4_setBound_96 (by decide) ?_
              refine lv_iload_n hx hb dX4_setBound_98 rfl (lv_at hl 1 rfl) ?_
              refine lv_iadd hx hb dX4_setBound_99 ?_
              refine lv_ton (n := d_620 + 8) (nadd (by omega)) ?_
              refine r_iald (v := nI (bB B d_620)) hx hb hK hP 0 0 rfl rfl (i := d_620 + 8) (by omega) (by omega) (hM.bound (z := d_620) (by omega) (by omega)) dX4_setBound_100 ?_
              refine lv_istore_n (lv' := [(3, .int (nI (bB B d_620))), (0, .ref m0), (1, .int (nI d_620)), (2, .int (nI d_632))]) hx hb dX4_setBound_101 rfl hl (by decide) rfl (fun ls hl => ?_)
              refine lv_aload_n hx hb dX4_setBound_102 rfl (lv_at hl 1 rfl) ?_
              refine va_get hx hb hts in_X4 hown hK hP 2 rfl rfl 0 (by decide) (hts _ q1596) (fun _ h => h) rfl dX4_setBound_103 ?_
              refine lv_bipush (v := nI 8) hx hb dX4_setBound_106 (by decide) ?_
              refine lv_iload_n hx hb dX4_setBound_108 rfl (lv_at hl 2 rfl) ?_
              refine lv_iadd hx hb dX4_setBound_109 ?_
              refine lv_ton (n := d_620 + 8) (nadd (by omega)) ?_
              refine lv_iload_n hx hb dX4_setBound_110 rfl (lv_at hl 3 rfl) ?_
              refine r_iast hx hb hK hP hD hS 0 0 rfl rfl (i := d_620 + 8) (by omega) (by omega) dX4_setBound_111 (fun H locs (hP : va_P G.1 CL [(sa, .inl (G.2 0, 830, .inl (upd f (d_620 + 8) (nI d_632)))), (za, .inl (G.2 0, 6, .inl zf)), (m0, .inr (6, [.ref sa, .ref oa, .ref pa, .ref la, .ref za, .ref na, .int (nI (min 6 (u + 1))), .int (nI ((t + 1) % 6)), .int gw, .int gd, .int gm, .int gr, .int (nI 0), .int gv])), (ta, .inl (G.2 0, 830, .inl f))] H) (hD : va_D A [(sa, .inl (G.2 0, 830, .inl (upd f (d_620 + 8) (nI d_632)))), (za, .inl (G.2 0, 6, .inl zf)), (m0, .inr (6, [.ref sa, .ref oa, .ref pa, .ref la, .ref za, .ref na, .int (nI (min 6 (u + 1))), .int (nI ((t + 1) % 6)), .int gw, .int gd, .int gm, .int gr, .int (nI 0), .int gv])), (ta, .inl (G.2 0, 830, .inl f))]) hS => ?_)
              refine lv_iload_n hx hb dX4_setBound_112 rfl (lv_at hl 0 rfl) ?_
              have hq9 : o_setBound B z w = (0, nI (bB B d_620), wB B (updN (bB B) d_620 d_632)) := by unfold o_setBound; rw [hir_624, hir_636] <;> first | rfl | rw [if_neg (by omega)] | (rw [if_neg (by omega)]; rfl) | (dsimp only; rw [if_neg (by omega)]) | (dsimp only; rw [if_neg (by omega)]; rfl)
              have hP : va_P G.1 CL [(sa, .inl (G.2 0, 830, .inl (upd f (d_620 + 8) (nI d_632)))), (za, .inl (G.2 0, 6, .inl zf)), (m0, .inr (6, [.ref sa, .ref oa, .ref pa, .ref la, .ref za, .ref na, .int (nI (min 6 (u + 1))), .int (nI ((t + 1) % 6)), .int gw, .int gd, .int gm, .int gr, .int (nI ((o_setBound B z w).1)), .int gv])), (ta, .inl (G.2 0, 830, .inl f))] H := by rw [hq9]; exact hP
              have hD : va_D A [(sa, .inl (G.2 0, 830, .inl (upd f (d_620 + 8) (nI d_632)))), (za, .inl (G.2 0, 6, .inl zf)), (m0, .inr (6, [.ref sa, .ref oa, .ref pa, .ref la, .ref za, .ref na, .int (nI (min 6 (u + 1))), .int (nI ((t + 1) % 6)), .int gw, .int gd, .int gm, .int gr, .int (nI ((o_setBound B z w).1)), .int gv])), (ta, .inl (G.2 0, 830, .inl f))] := by rw [hq9]; exact hD
              have hP9 : va_P G.1 CL [(m0, .inr (6, [.ref sa, .ref oa, .ref pa, .ref la, .ref za, .ref na, .int (nI (min 6 (u + 1))), .int (nI ((t + 1) % 6)), .int gw, .int gd, .int gm, .int gr, .int (nI ((o_setBound B z w).1)), .int gv])), (sa, .inl (G.2 0, 830, .inl (upd f (d_620 + 8) (nI d_632)))), (ta, .inl (G.2 0, 830, .inl f)), (za, .inl (G.2 0, 6, .inl zf))] H := hP.sub [2, 0, 3, 1] rfl
              have hD9 : va_D A [(m0, .inr (6, [.ref sa, .ref oa, .ref pa, .ref la, .ref za, .ref na, .int (nI (min 6 (u + 1))), .int (nI ((t + 1) % 6)), .int gw, .int gd, .int gm, .int gr, .int (nI ((o_setBound B z w).1)), .int gv])), (sa, .inl (G.2 0, 830, .inl (upd f (d_620 + 8) (nI d_632)))), (ta, .inl (G.2 0, 830, .inl f)), (za, .inl (G.2 0, 6, .inl zf))] := hD.sub [2, 0, 3, 1] (by decide) rfl
              exact end_i hx hb hr hlk (rfl) (qc_of ⟨nI (bB B d_620), upd f (d_620 + 8) (nI d_632), ((t + 1) % 6), (min 6 (u + 1)), f, zf⟩ (v := some (.int (nI (bB B d_620)))) (by rfl) (by rw [hq9]; exact ⟨fun z => absurd rfl z, fun _ => ⟨rfl, MR_bound9 hI hM (by omega), rfl, rfl, rfl⟩⟩) hP9 hD9 (trivial) hS) hS dX4_setBound_113 (show 0 ≤ 0 from by first | exact Nat.le_refl _ | decide | omega) (show 0 ≤ 0 from by first | exact Nat.le_refl _ | decide | omega)
            · refine lv_iconst (v := nI 1) hx hb dX4_setBound_74 (by decide) ?_
              refine lv_goto (tgt := 79) hx hb dX4_setBound_75 (by decide) ?_
              refine lv_iconst (v := nI 2) hx hb dX4_setBound_79 (by decide) ?_
              have hF := hF_of (wc := [(m0, .inr (6, [.ref sa, .ref oa, .ref pa, .ref la, .ref za, .ref na, .int (nI u), .int (nI t), .int gw, .int gd, .int gm, .int gr, .int (nI 0), .int gv]))]) hD hS hA [3] rfl
              refine go_ct hS hP hD [3] [0, 1, 2] hF rfl rfl (by decide) (by decide)
                  (va_runV (As := [.int (nI 1), .int (nI 2)]) (rest := []) cf (mX4_isThrown_t l G m0 sa oa pa la za na (nI u) (nI t) gw gd gm gr (nI 0) gv 2  H.size) (cwV 2 hts (lw_V q1650 q1652 qs20 q58 q1653) rfl rfl rfl (by decide +kernel) ⟨Nat.le_of_ble_eq_true rfl, Nat.le_of_ble_eq_true rfl⟩) (preV_of hKB hE hS hF (va_recv hK hP (ci := 6) (q0 := 3) rfl rfl) (va_P.sub hP [3] rfl) ((va_D.sub hD [3] (by decide) rfl).weaken (fun _ _ _ _ => trivial)) trivial) rfl rfl hl.1 rfl (lv_room (Nat.le_of_ble_eq_true rfl)) dX4_setBound_80 ⟨show 0 + 0 ≤ 0 from by first | decide | omega, show 0 + 0 ≤ 0 from by first | decide | omega⟩)
                  (fun u_ H locs hq hph (hP : va_P G.1 CL [(sa, .inl (G.2 0, 830, .inl f)), (ta, .inl (G.2 0, 830, .inl h)), (za, .inl (G.2 0, 6, .inl zf)), (m0, .inr (6, [.ref sa, .ref oa, .ref pa, .ref la, .ref za, .ref na, .int (nI u), .int (nI t), .int gw, .int gd, .int gm, .int gr, .int (nI 2), .int gv]))] H) (hD : va_D A [(sa, .inl (G.2 0, 830, .inl f)), (ta, .inl (G.2 0, 830, .inl h)), (za, .inl (G.2 0, 6, .inl zf)), (m0, .inr (6, [.ref sa, .ref oa, .ref pa, .ref la, .ref za, .ref na, .int (nI u), .int (nI t), .int gw, .int gd, .int gm, .int gr, .int (nI 2), .int gv]))]) hS hfz hfk => ?_)
              refine W.eq (g2 := F0 m 83 ls [.int (nI 1)]) rfl ?_
              refine n_if_eq (tgt := 88) hx hb (by omega) dX4_setBound_83 (by decide) (fun c_655 => absurd c_655 (by omega)) (fun c_655 => ?_)
              refine lv_iconst (v := nI 0) hx hb dX4_setBound_86 (by decide) ?_
              have hq9 : o_setBound B z w = (2, 0, B) := by unfold o_setBound; rw [hir_624, hir_636] <;> first | rfl | rw [if_pos (by omega)] | (rw [if_pos (by omega)]; rfl) | (dsimp only; rw [if_pos (by omega)]) | (dsimp only; rw [if_pos (by omega)]; rfl)
              have hP : va_P G.1 CL [(sa, .inl (G.2 0, 830, .inl f)), (ta, .inl (G.2 0, 830, .inl h)), (za, .inl (G.2 0, 6, .inl zf)), (m0, .inr (6, [.ref sa, .ref oa, .ref pa, .ref la, .ref za, .ref na, .int (nI u), .int (nI t), .int gw, .int gd, .int gm, .int gr, .int (nI ((o_setBound B z w).1)), .int gv]))] H := by rw [hq9]; exact hP
              have hD : va_D A [(sa, .inl (G.2 0, 830, .inl f)), (ta, .inl (G.2 0, 830, .inl h)), (za, .inl (G.2 0, 6, .inl zf)), (m0, .inr (6, [.ref sa, .ref oa, .ref pa, .ref la, .ref za, .ref na, .int (nI u), .int (nI t), .int gw, .int gd, .int gm, .int gr, .int (nI ((o_setBound B z w).1)), .int gv]))] := by rw [hq9]; exact hD
              have hP9 : va_P G.1 CL [(m0, .inr (6, [.ref sa, .ref oa, .ref pa, .ref la, .ref za, .ref na, .int (nI u), .int (nI t), .int gw, .int gd, .int gm, .int gr, .int (nI ((o_setBound B z w).1)), .int gv])), (sa, .inl (G.2 0, 830, .inl f)), (ta, .inl (G.2 0, 830, .inl h)), (za, .inl (G.2 0, 6, .inl zf))] H := hP.sub [3, 0, 1, 2] rfl
              have hD9 : va_D A [(m0, .inr (6, [.ref sa, .ref oa, .ref pa, .ref la, .ref za, .ref na, .int (nI u), .int (nI t), .int gw, .int gd, .int gm, .int gr, .int (nI ((o_setBound B z w).1)), .int gv])), (sa, .inl (G.2 0, 830, .inl f)), (ta, .inl (G.2 0, 830, .inl h)), (za, .inl (G.2 0, 6, .inl zf))] := hD.sub [3, 0, 1, 2] (by decide) rfl
              exact end_i hx hb hr hlk (rfl) (qc_of ⟨nI 0, f, t, u, h, zf⟩ (v := some (.int (nI 0))) (by rfl) (by rw [hq9]; exact ⟨fun _ => ⟨rfl, rfl, rfl, rfl⟩, fun z => absurd (show (2 : Nat) = 0 from z) (by decide)⟩) hP9 hD9 (trivial) hS) hS dX4_setBound_87 (show 0 ≤ 0 from by first | exact Nat.le_refl _ | decide | omega) (show 0 ≤ 0 from by first | exact Nat.le_refl _ | decide | omega)

set_option maxHeartbeats 4000000 in
theorem mX4_setWeight (l : Launch) (G : Gt) (m0 : Nat) (sa : Nat) (oa : Nat) (pa : Nat) (la : Nat) (za : Nat) (na : Nat) (gw : Int32) (gd : Int32) (gm : Int32) (gr : Int32) (gh : Int32) (gv : Int32) (f : Nat → Int32) (B : Bk) (t : Nat) (u : Nat) (ta : Nat) (h : Nat → Int32) (og : Nat → Option Nat) (zf : Nat → Int32) (z : Int32) (w : Int32) (hM : MR f B) (hI : Inv B) (ht : t < 6) (hu : u ≤ 6) (hog : og ((t + 1) % 6) = some ta) : CT l G yX4_setWeight cX4_setWeight 4 (some .int) ({ frames := 2, cells := 0, slots := 0, locals := 41 } : Room) [.ref m0, .int z, .int w] [(m0, .inr (6, [.ref sa, .ref oa, .ref pa, .ref la, .ref za, .ref na, .int (nI u), .int (nI t), .int gw, .int gd, .int gm, .int gr, .int gh, .int gv])), (sa, .inl (G.2 0, 830, .inl f)), (ta, .inl (G.2 0, 830, .inl h)), (za, .inl (G.2 0, 6, .inl zf))] (fun (A : Nat → Prop) (H : Heap) => roW G A H [(oa, .inl (G.2 7, 6, .inr (.inr (.inr (.inr og)))))]) (S := Int32 × (Nat → Int32) × Nat × Nat × (Nat → Int32) × (Nat → Int32)) (fun (u_ : Int32 × (Nat → Int32) × Nat × Nat × (Nat → Int32) × (Nat → Int32)) => some (.int u_.1)) (fun (u_ : Int32 × (Nat → Int32) × Nat × Nat × (Nat → Int32) × (Nat → Int32)) => MutP (o_setWeight B z w) f t u h u_.1 u_.2.1 u_.2.2.1 u_.2.2.2.1 u_.2.2.2.2.1) (fun (u_ : Int32 × (Nat → Int32) × Nat × Nat × (Nat → Int32) × (Nat → Int32)) => [(m0, .inr (6, [.ref sa, .ref oa, .ref pa, .ref la, .ref za, .ref na, .int (nI u_.2.2.2.1), .int (nI u_.2.2.1), .int gw, .int gd, .int gm, .int gr, .int (nI ((o_setWeight B z w).1)), .int gv])), (sa, .inl (G.2 0, 830, .inl u_.2.1)), (ta, .inl (G.2 0, 830, .inl u_.2.2.2.2.1)), (za, .inl (G.2 0, 6, .inl u_.2.2.2.2.2))]) (fun (u_ : Int32 × (Nat → Int32) × Nat × Nat × (Nat → Int32) × (Nat → Int32)) (H : Heap) => True) := by
  refine CT.of (by decide) (Nat.le_of_ble_eq_true rfl) ?_
  intro p e s m below meth c ls A H locs h9 hH0 hP hS
  obtain ⟨cf, hr, hlk, hnm, hKB, hE, -, hD, -, hA, hAw, hR0, hl⟩ := h9
  have hx := cf.1
  have hb := cf.2.1
  have hml := cf.2.2.1
  have hown : s.vm.findClass RX4 = some m.cls := cf.2.2.2.1
  have hts := cf.2.2.2.2
  have hK := hKB.1
  have hl : lv_has ls 4 [(0, .ref m0), (1, .int z), (2, .int w)] := hl
  have iN := iv_sN hI
  have iT := iv_tN hI
  have iD := iv_bD hI
  have iE := iv_bE hI
  have iW := iv_id hI
  refine lv_aload_n hx hb dX4_setWeight_0 rfl (lv_at hl 0 rfl) ?_
  refine lv_iload_n hx hb dX4_setWeight_1 rfl (lv_at hl 1 rfl) ?_
  refine lv_iconst (v := nI 1) hx hb dX4_setWeight_2 (by decide) ?_
  refine lv_iconst (v := nI 5) hx hb dX4_setWeight_3 (by decide) ?_
  have hF := hF_of (wc := []) hD hS hA [] rfl
  refine go_ct hS hP hD [] [0, 1, 2, 3] hF rfl rfl (by decide) (by decide)
      (va_runS (As := [.int z, .int (nI 1), .int (nI 5)]) (rest := [.ref m0]) cf (mX4_isIn l G z (nI 1) (nI 5)  H.size) (va_cwS 3 hts (lw_S q1647 q1648 q58 q1649) rfl rfl rfl (by decide +kernel) ⟨Nat.le_of_ble_eq_true rfl, Nat.le_of_ble_eq_true rfl⟩) (preS_of hKB hE hS hF (va_P.sub hP [] rfl) ((va_D.sub hD [] (by decide) rfl).weaken (fun _ _ _ _ => trivial)) trivial) rfl rfl hl.1 rfl (lv_room (Nat.le_of_ble_eq_true rfl)) dX4_setWeight_4 ⟨show 0 + 0 ≤ 0 from by first | decide | omega, show 0 + 0 ≤ 0 from by first | decide | omega⟩)
      (fun u_ H locs hq hph (hP : va_P G.1 CL [(m0, .inr (6, [.ref sa, .ref oa, .ref pa, .ref la, .ref za, .ref na, .int (nI u), .int (nI t), .int gw, .int gd, .int gm, .int gr, .int gh, .int gv])), (sa, .inl (G.2 0, 830, .inl f)), (ta, .inl (G.2 0, 830, .inl h)), (za, .inl (G.2 0, 6, .inl zf))] H) (hD : va_D A [(m0, .inr (6, [.ref sa, .ref oa, .ref pa, .ref la, .ref za, .ref na, .int (nI u), .int (nI t), .int gw, .int gd, .int gm, .int gr, .int gh, .int gv])), (sa, .inl (G.2 0, 830, .inl f)), (ta, .inl (G.2 0, 830, .inl h)), (za, .inl (G.2 0, 6, .inl zf))]) hS hfz hfk => ?_)
  obtain ⟨b_656, rfl⟩ : ∃ z, z = u_ := ⟨_, rfl⟩
  have hP : va_P G.1 CL [(m0, .inr (6, [.ref sa, .ref oa, .ref pa, .ref la, .ref za, .ref na, .int (nI u), .int (nI t), .int gw, .int gd, .int gm, .int gr, .int gh, .int gv])), (sa, .inl (G.2 0, 830, .inl f)), (ta, .inl (G.2 0, 830, .inl h)), (za, .inl (G.2 0, 6, .inl zf))] H := hP
  have hD : va_D A [(m0, .inr (6, [.ref sa, .ref oa, .ref pa, .ref la, .ref za, .ref na, .int (nI u), .int (nI t), .int gw, .int gd, .int gm, .int gr, .int gh, .int gv])), (sa, .inl (G.2 0, 830, .inl f)), (ta, .inl (G.2 0, 830, .inl h)), (za, .inl (G.2 0, 6, .inl zf))] := hD
  have hq_657 : (b_656 = true ↔ (nI 1) ≤ z ∧ z ≤ (nI 5)) := hq
  refine W.eq (g2 := F0 m 7 ls [.int (bI b_656), .ref m0]) rfl ?_
  cases b_656
  · refine lv_ton (n := 0) rfl ?_
    have hir_658 : inR z 1 5 = none := inR_none (fun z => absurd (hq_657.mpr z) (by decide))
    refine n_if_eq (tgt := 20) hx hb (by omega) dX4_setWeight_7 (by decide) (fun c_659 => ?_) (fun c_659 => absurd c_659 (by omega))
    refine lv_iconst (v := nI 1) hx hb dX4_setWeight_20 (by decide) ?_
    refine lv_goto (tgt := 25) hx hb dX4_setWeight_21 (by decide) ?_
    refine lv_iconst (v := nI 1) hx hb dX4_setWeight_25 (by decide) ?_
    have hF := hF_of (wc := [(m0, .inr (6, [.ref sa, .ref oa, .ref pa, .ref la, .ref za, .ref na, .int (nI u), .int (nI t), .int gw, .int gd, .int gm, .int gr, .int gh, .int gv]))]) hD hS hA [0] rfl
    refine go_ct hS hP hD [0] [1, 2, 3] hF rfl rfl (by decide) (by decide)
        (va_runV (As := [.int (nI 1), .int (nI 1)]) (rest := []) cf (mX4_isThrown_t l G m0 sa oa pa la za na (nI u) (nI t) gw gd gm gr gh gv 1  H.size) (cwV 2 hts (lw_V q1650 q1652 qs20 q58 q1653) rfl rfl rfl (by decide +kernel) ⟨Nat.le_of_ble_eq_true rfl, Nat.le_of_ble_eq_true rfl⟩) (preV_of hKB hE hS hF (va_recv hK hP (ci := 6) (q0 := 0) rfl rfl) (va_P.sub hP [0] rfl) ((va_D.sub hD [0] (by decide) rfl).weaken (fun _ _ _ _ => trivial)) trivial) rfl rfl hl.1 rfl (lv_room (Nat.le_of_ble_eq_true rfl)) dX4_setWeight_26 ⟨show 0 + 0 ≤ 0 from by first | decide | omega, show 0 + 0 ≤ 0 from by first | decide | omega⟩)
        (fun u_ H locs hq hph (hP : va_P G.1 CL [(sa, .inl (G.2 0, 830, .inl f)), (ta, .inl (G.2 0, 830, .inl h)), (za, .inl (G.2 0, 6, .inl zf)), (m0, .inr (6, [.ref sa, .ref oa, .ref pa, .ref la, .ref za, .ref na, .int (nI u), .int (nI t), .int gw, .int gd, .int gm, .int gr, .int (nI 1), .int gv]))] H) (hD : va_D A [(sa, .inl (G.2 0, 830, .inl f)), (ta, .inl (G.2 0, 830, .inl h)), (za, .inl (G.2 0, 6, .inl zf)), (m0, .inr (6, [.ref sa, .ref oa, .ref pa, .ref la, .ref za, .ref na, .int (nI u), .int (nI t), .int gw, .int gd, .int gm, .int gr, .int (nI 1), .int gv]))]) hS hfz hfk => ?_)
    refine W.eq (g2 := F0 m 29 ls [.int (nI 1)]) rfl ?_
    refine n_if_eq (tgt := 34) hx hb (by omega) dX4_setWeight_29 (by decide) (fun c_660 => absurd c_660 (by omega)) (fun c_660 => ?_)
    refine lv_iconst (v := nI 0) hx hb dX4_setWeight_32 (by decide) ?_
    have hq9 : o_setWeight B z w = (1, 0, B) := by unfold o_setWeight; rw [hir_658] <;> rfl
    have hP : va_P G.1 CL [(sa, .inl (G.2 0, 830, .inl f)), (ta, .inl (G.2 0, 830, .inl h)), (za, .inl (G.2 0, 6, .inl zf)), (m0, .inr (6, [.ref sa, .ref oa, .ref pa, .ref la, .ref za, .ref na, .int (nI u), .int (nI t), .int gw, .int gd, .int gm, .int gr, .int (nI ((o_setWeight B z w).1)), .int gv]))] H := by rw [hq9]; exact hP
    have hD : va_D A [(sa, .inl (G.2 0, 830, .inl f)), (ta, .inl (G.2 0, 830, .inl h)), (za, .inl (G.2 0, 6, .inl zf)), (m0, .inr (6, [.ref sa, .ref oa, .ref pa, .ref la, .ref za, .ref na, .int (nI u), .int (nI t), .int gw, .int gd, .int gm, .int gr, .int (nI ((o_setWeight B z w).1)), .int gv]))] := by rw [hq9]; exact hD
    have hP9 : va_P G.1 CL [(m0, .inr (6, [.ref sa, .ref oa, .ref pa, .ref la, .ref za, .ref na, .int (nI u), .int (nI t), .int gw, .int gd, .int gm, .int gr, .int (nI ((o_setWeight B z w).1)), .int gv])), (sa, .inl (G.2 0, 830, .inl f)), (ta, .inl (G.2 0, 830, .inl h)), (za, .inl (G.2 0, 6, .inl zf))] H := hP.sub [3, 0, 1, 2] rfl
    have hD9 : va_D A [(m0, .inr (6, [.ref sa, .ref oa, .ref pa, .ref la, .ref za, .ref na, .int (nI u), .int (nI t), .int gw, .int gd, .int gm, .int gr, .int (nI ((o_setWeight B z w).1)), .int gv])), (sa, .inl (G.2 0, 830, .inl f)), (ta, .inl (G.2 0, 830, .inl h)), (za, .inl (G.2 0, 6, .inl zf))] := hD.sub [3, 0, 1, 2] (by decide) rfl
    exact end_i hx hb hr hlk (rfl) (qc_of ⟨nI 0, f, t, u, h, zf⟩ (v := some (.int (nI 0))) (by rfl) (by rw [hq9]; exact ⟨fun _ => ⟨rfl, rfl, rfl, rfl⟩, fun z => absurd (show (1 : Nat) = 0 from z) (by decide)⟩) hP9 hD9 (trivial) hS) hS dX4_setWeight_33 (show 0 ≤ 0 from by first | exact Nat.le_refl _ | decide | omega) (show 0 ≤ 0 from by first | exact Nat.le_refl _ | decide | omega)
  · refine lv_ton (n := 1) rfl ?_
    have hin_661 : nI 1 ≤ z ∧ z ≤ nI 5 := hq_657.mp rfl
    obtain ⟨d_662, hv_663, h_664, h_665⟩ := in_nat (lo := 1) (hi := 5) (by omega) (by omega) hin_661.1 hin_661.2
    have hir_666 : inR z 1 5 = some d_662 := inR_some hv_663 h_664 h_665 (by omega)
    have hl : lv_has ls 4 [(0, .ref m0), (1, .int (nI d_662)), (2, .int w)] := by
      have e9 : ((.int (nI d_662)) : Value) = .int z := by rw [hv_663]
      rw [e9]; exact hl
    refine n_if_eq (tgt := 20) hx hb (by omega) dX4_setWeight_7 (by decide) (fun c_667 => absurd c_667 (by omega)) (fun c_667 => ?_)
    refine lv_iload_n hx hb dX4_setWeight_10 rfl (lv_at hl 2 rfl) ?_
    refine lv_iconst (v := nI 0) hx hb dX4_setWeight_11 (by decide) ?_
    refine lv_bipush (v := nI 100) hx hb dX4_setWeight_12 (by decide) ?_
    have hF := hF_of (wc := []) hD hS hA [] rfl
    refine go_ct hS hP hD [] [0, 1, 2, 3] hF rfl rfl (by decide) (by decide)
        (va_runS (As := [.int w, .int (nI 0), .int (nI 100)]) (rest := [.ref m0]) cf (mX4_isIn l G w (nI 0) (nI 100)  H.size) (va_cwS 3 hts (lw_S q1647 q1648 q58 q1649) rfl rfl rfl (by decide +kernel) ⟨Nat.le_of_ble_eq_true rfl, Nat.le_of_ble_eq_true rfl⟩) (preS_of hKB hE hS hF (va_P.sub hP [] rfl) ((va_D.sub hD [] (by decide) rfl).weaken (fun _ _ _ _ => trivial)) trivial) rfl rfl hl.1 rfl (lv_room (Nat.le_of_ble_eq_true rfl)) dX4_setWeight_14 ⟨show 0 + 0 ≤ 0 from by first | decide | omega, show 0 + 0 ≤ 0 from by first | decide | omega⟩)
        (fun u_ H locs hq hph (hP : va_P G.1 CL [(m0, .inr (6, [.ref sa, .ref oa, .ref pa, .ref la, .ref za, .ref na, .int (nI u), .int (nI t), .int gw, .int gd, .int gm, .int gr, .int gh, .int gv])), (sa, .inl (G.2 0, 830, .inl f)), (ta, .inl (G.2 0, 830, .inl h)), (za, .inl (G.2 0, 6, .inl zf))] H) (hD : va_D A [(m0, .inr (6, [.ref sa, .ref oa, .ref pa, .ref la, .ref za, .ref na, .int (nI u), .int (nI t), .int gw, .int gd, .int gm, .int gr, .int gh, .int gv])), (sa, .inl (G.2 0, 830, .inl f)), (ta, .inl (G.2 0, 830, .inl h)), (za, .inl (G.2 0, 6, .inl zf))]) hS hfz hfk => ?_)
    obtain ⟨b_668, rfl⟩ : ∃ z, z = u_ := ⟨_, rfl⟩
    have hP : va_P G.1 CL [(m0, .inr (6, [.ref sa, .ref oa, .ref pa, .ref la, .ref za, .ref na, .int (nI u), .int (nI t), .int gw, .int gd, .int gm, .int gr, .int gh, .int gv])), (sa, .inl (G.2 0, 830, .inl f)), (ta, .inl (G.2 0, 830, .inl h)), (za, .inl (G.2 0, 6, .inl zf))] H := hP
    have hD : va_D A [(m0, .inr (6, [.ref sa, .ref oa, .ref pa, .ref la, .ref za, .ref na, .int (nI u), .int (nI t), .int gw, .int gd, .int gm, .int gr, .int gh, .int gv])), (sa, .inl (G.2 0, 830, .inl f)), (ta, .inl (G.2 0, 830, .inl h)), (za, .inl (G.2 0, 6, .inl zf))] := hD
    have hq_669 : (b_668 = true ↔ (nI 0) ≤ w ∧ w ≤ (nI 100)) := hq
    refine W.eq (g2 := F0 m 17 ls [.int (bI b_668), .ref m0]) rfl ?_
    cases b_668
    · refine lv_ton (n := 0) rfl ?_
      have hir_670 : inR w 0 100 = none := inR_none (fun z => absurd (hq_669.mpr z) (by decide))
      refine n_if_ne (tgt := 24) hx hb (by omega) dX4_setWeight_17 (by decide) (fun c_671 => absurd c_671 (by omega)) (fun c_671 => ?_)
      refine lv_iconst (v := nI 1) hx hb dX4_setWeight_20 (by decide) ?_
      refine lv_goto (tgt := 25) hx hb dX4_setWeight_21 (by decide) ?_
      refine lv_iconst (v := nI 1) hx hb dX4_setWeight_25 (by decide) ?_
      have hF := hF_of (wc := [(m0, .inr (6, [.ref sa, .ref oa, .ref pa, .ref la, .ref za, .ref na, .int (nI u), .int (nI t), .int gw, .int gd, .int gm, .int gr, .int gh, .int gv]))]) hD hS hA [0] rfl
      refine go_ct hS hP hD [0] [1, 2, 3] hF rfl rfl (by decide) (by decide)
          (va_runV (As := [.int (nI 1), .int (nI 1)]) (rest := []) cf (mX4_isThrown_t l G m0 sa oa pa la za na (nI u) (nI t) gw gd gm gr gh gv 1  H.size) (cwV 2 hts (lw_V q1650 q1652 qs20 q58 q1653) rfl rfl rfl (by decide +kernel) ⟨Nat.le_of_ble_eq_true rfl, Nat.le_of_ble_eq_true rfl⟩) (preV_of hKB hE hS hF (va_recv hK hP (ci := 6) (q0 := 0) rfl rfl) (va_P.sub hP [0] rfl) ((va_D.sub hD [0] (by decide) rfl).weaken (fun _ _ _ _ => trivial)) trivial) rfl rfl hl.1 rfl (lv_room (Nat.le_of_ble_eq_true rfl)) dX4_setWeight_26 ⟨show 0 + 0 ≤ 0 from by first | decide | omega, show 0 + 0 ≤ 0 from by first | decide | omega⟩)
          (fun u_ H locs hq hph (hP : va_P G.1 CL [(sa, .inl (G.2 0, 830, .inl f)), (ta, .inl (G.2 0, 830, .inl h)), (za, .inl (G.2 0, 6, .inl zf)), (m0, .inr (6, [.ref sa, .ref oa, .ref pa, .ref la, .ref za, .ref na, .int (nI u), .int (nI t), .int gw, .int gd, .int gm, .int gr, .int (nI 1), .int gv]))] H) (hD : va_D A [(sa, .inl (G.2 0, 830, .inl f)), (ta, .inl (G.2 0, 830, .inl h)), (za, .inl (G.2 0, 6, .inl zf)), (m0, .inr (6, [.ref sa, .ref oa, .ref pa, .ref la, .ref za, .ref na, .int (nI u), .int (nI t), .int gw, .int gd, .int gm, .int gr, .int (nI 1), .int gv]))]) hS hfz hfk => ?_)
      refine W.eq (g2 := F0 m 29 ls [.int (nI 1)]) rfl ?_
      refine n_if_eq (tgt := 34) hx hb (by omega) dX4_setWeight_29 (by decide) (fun c_672 => absurd c_672 (by omega)) (fun c_672 => ?_)
      refine lv_iconst (v := nI 0) hx hb dX4_setWeight_32 (by decide) ?_
      have hq9 : o_setWeight B z w = (1, 0, B) := by unfold o_setWeight; rw [hir_666, hir_670] <;> rfl
      have hP : va_P G.1 CL [(sa, .inl (G.2 0, 830, .inl f)), (ta, .inl (G.2 0, 830, .inl h)), (za, .inl (G.2 0, 6, .inl zf)), (m0, .inr (6, [.ref sa, .ref oa, .ref pa, .ref la, .ref za, .ref na, .int (nI u), .int (nI t), .int gw, .int gd, .int gm, .int gr, .int (nI ((o_setWeight B z w).1)), .int gv]))] H := by rw [hq9]; exact hP
      have hD : va_D A [(sa, .inl (G.2 0, 830, .inl f)), (ta, .inl (G.2 0, 830, .inl h)), (za, .inl (G.2 0, 6, .inl zf)), (m0, .inr (6, [.ref sa, .ref oa, .ref pa, .ref la, .ref za, .ref na, .int (nI u), .int (nI t), .int gw, .int gd, .int gm, .int gr, .int (nI ((o_setWeight B z w).1)), .int gv]))] := by rw [hq9]; exact hD
      have hP9 : va_P G.1 CL [(m0, .inr (6, [.ref sa, .ref oa, .ref pa, .ref la, .ref za, .ref na, .int (nI u), .int (nI t), .int gw, .int gd, .int gm, .int gr, .int (nI ((o_setWeight B z w).1)), .int gv])), (sa, .inl (G.2 0, 830, .inl f)), (ta, .inl (G.2 0, 830, .inl h)), (za, .inl (G.2 0, 6, .inl zf))] H := hP.sub [3, 0, 1, 2] rfl
      have hD9 : va_D A [(m0, .inr (6, [.ref sa, .ref oa, .ref pa, .ref la, .ref za, .ref na, .int (nI u), .int (nI t), .int gw, .int gd, .int gm, .int gr, .int (nI ((o_setWeight B z w).1)), .int gv])), (sa, .inl (G.2 0, 830, .inl f)), (ta, .inl (G.2 0, 830, .inl h)), (za, .inl (G.2 0, 6, .inl zf))] := hD.sub [3, 0, 1, 2] (by decide) rfl
      exact end_i hx hb hr hlk (rfl) (qc_of ⟨nI 0, f, t, u, h, zf⟩ (v := some (.int (nI 0))) (by rfl) (by rw [hq9]; exact ⟨fun _ => ⟨rfl, rfl, rfl, rfl⟩, fun z => absurd (show (1 : Nat) = 0 from z) (by decide)⟩) hP9 hD9 (trivial) hS) hS dX4_setWeight_33 (show 0 ≤ 0 from by first | exact Nat.le_refl _ | decide | omega) (show 0 ≤ 0 from by first | exact Nat.le_refl _ | decide | omega)
    · refine lv_ton (n := 1) rfl ?_
      have hin_673 : nI 0 ≤ w ∧ w ≤ nI 100 := hq_669.mp rfl
      obtain ⟨d_674, hv_675, h_676, h_677⟩ := in_nat (lo := 0) (hi := 100) (by omega) (by omega) hin_673.1 hin_673.2
      have hir_678 : inR w 0 100 = some d_674 := inR_some hv_675 h_676 h_677 (by omega)
      have hl : lv_has ls 4 [(0, .ref m0), (1, .int (nI d_662)), (2, .int (nI d_674))] := by
        have e9 : ((.int (nI d_674)) : Value) = .int w := by rw [hv_675]
        rw [e9]; exact hl
      refine n_if_ne (tgt := 24) hx hb (by omega) dX4_setWeight_17 (by decide) (fun c_679 => ?_) (fun c_679 => absurd c_679 (by omega))
      refine lv_iconst (v := nI 0) hx hb dX4_setWeight_24 (by decide) ?_
      refine lv_iconst (v := nI 1) hx hb dX4_setWeight_25 (by decide) ?_
      have hF := hF_of (wc := [(m0, .inr (6, [.ref sa, .ref oa, .ref pa, .ref la, .ref za, .ref na, .int (nI u), .int (nI t), .int gw, .int gd, .int gm, .int gr, .int gh, .int gv]))]) hD hS hA [0] rfl
      refine go_ct hS hP hD [0] [1, 2, 3] hF rfl rfl (by decide) (by decide)
          (va_runV (As := [.int (nI 0), .int (nI 1)]) (rest := []) cf (mX4_isThrown_f l G m0 sa oa pa la za na (nI u) (nI t) gw gd gm gr gh gv 1  H.size) (cwV 2 hts (lw_V q1650 q1652 qs20 q58 q1653) rfl rfl rfl (by decide +kernel) ⟨Nat.le_of_ble_eq_true rfl, Nat.le_of_ble_eq_true rfl⟩) (preV_of hKB hE hS hF (va_recv hK hP (ci := 6) (q0 := 0) rfl rfl) (va_P.sub hP [0] rfl) ((va_D.sub hD [0] (by decide) rfl).weaken (fun _ _ _ _ => trivial)) trivial) rfl rfl hl.1 rfl (lv_room (Nat.le_of_ble_eq_true rfl)) dX4_setWeight_26 ⟨show 0 + 0 ≤ 0 from by first | decide | omega, show 0 + 0 ≤ 0 from by first | decide | omega⟩)
          (fun u_ H locs hq hph (hP : va_P G.1 CL [(sa, .inl (G.2 0, 830, .inl f)), (ta, .inl (G.2 0, 830, .inl h)), (za, .inl (G.2 0, 6, .inl zf)), (m0, .inr (6, [.ref sa, .ref oa, .ref pa, .ref la, .ref za, .ref na, .int (nI u), .int (nI t), .int gw, .int gd, .int gm, .int gr, .int (nI 0), .int gv]))] H) (hD : va_D A [(sa, .inl (G.2 0, 830, .inl f)), (ta, .inl (G.2 0, 830, .inl h)), (za, .inl (G.2 0, 6, .inl zf)), (m0, .inr (6, [.ref sa, .ref oa, .ref pa, .ref la, .ref za, .ref na, .int (nI u), .int (nI t), .int gw, .int gd, .int gm, .int gr, .int (nI 0), .int gv]))]) hS hfz hfk => ?_)
      refine W.eq (g2 := F0 m 29 ls [.int (nI 0)]) rfl ?_
      refine n_if_eq (tgt := 34) hx hb (by omega) dX4_setWeight_29 (by decide) (fun c_680 => ?_) (fun c_680 => absurd c_680 (by omega))
      refine lv_aload_n hx hb dX4_setWeight_34 rfl (lv_at hl 0 rfl) ?_
      have hF := hF_of (wc := [(m0, .inr (6, [.ref sa, .ref oa, .ref pa, .ref la, .ref za, .ref na, .int (nI u), .int (nI t), .int gw, .int gd, .int gm, .int gr, .int (nI 0), .int gv])), (ta, .inl (G.2 0, 830, .inl h))]) hD hS hA [3, 1] rfl
      have hro_681 : roW G (va_A [(m0, .inr (6, [.ref sa, .ref oa, .ref pa, .ref la, .ref za, .ref na, .int (nI u), .int (nI t), .int gw, .int gd, .int gm, .int gr, .int (nI 0), .int gv])), (ta, .inl (G.2 0, 830, .inl h))] H.size) H [(oa, .inl (G.2 7, 6, .inr (.inr (.inr (.inr og))))), (sa, .inl (G.2 0, 830, .inl f))] := (((hR0.kp hF hS.2.1).sub (ws' := [(oa, .inl (G.2 7, 6, .inr (.inr (.inr (.inr og)))))]) [0] rfl).app (roW.of (w' := [(sa, .inl (G.2 0, 830, .inl f))]) hP hD [3, 1] [0] rfl rfl (by decide)))
      refine go_ct hS hP hD [3, 1] [0, 2] hF rfl rfl (by decide) (by decide)
          (va_runV (As := []) (rest := []) cf (mX4_keeps l G m0 sa oa pa la za na gw gd gm gr (nI 0) gv f t u ta h og (show t < 6 from by first | assumption | omega) (show u ≤ 6 from by first | assumption | omega) (show og ((t + 1) % 6) = some ta from by first | assumption | omega) H.size) (cwV 0 hts (lw_V q1654 q1656 qs21 q58 q1657) rfl rfl rfl (by decide +kernel) ⟨Nat.le_of_ble_eq_true rfl, Nat.le_of_ble_eq_true rfl⟩) (preV_of hKB hE hS hF (va_recv hK hP (ci := 6) (q0 := 3) rfl rfl) (va_P.sub hP [3, 1] rfl) ((va_D.sub hD [3, 1] (by decide) rfl).weaken (fun _ _ _ _ => trivial)) hro_681) rfl rfl hl.1 rfl (lv_room (Nat.le_of_ble_eq_true rfl)) dX4_setWeight_35 ⟨show 0 + 0 ≤ 0 from by first | decide | omega, show 0 + 0 ≤ 0 from by first | decide | omega⟩)
          (fun u_ H locs hq hph (hP : va_P G.1 CL [(sa, .inl (G.2 0, 830, .inl f)), (za, .inl (G.2 0, 6, .inl zf)), (m0, .inr (6, [.ref sa, .ref oa, .ref pa, .ref la, .ref za, .ref na, .int (nI (min 6 (u + 1))), .int (nI ((t + 1) % 6)), .int gw, .int gd, .int gm, .int gr, .int (nI 0), .int gv])), (ta, .inl (G.2 0, 830, .inl f))] H) (hD : va_D A [(sa, .inl (G.2 0, 830, .inl f)), (za, .inl (G.2 0, 6, .inl zf)), (m0, .inr (6, [.ref sa, .ref oa, .ref pa, .ref la, .ref za, .ref na, .int (nI (min 6 (u + 1))), .int (nI ((t + 1) % 6)), .int gw, .int gd, .int gm, .int gr, .int (nI 0), .int gv])), (ta, .inl (G.2 0, 830, .inl f))]) hS hfz hfk => ?_)
      refine W.eq (g2 := F0 m 38 ls []) rfl ?_
      refine lv_aload_n hx hb dX4_setWeight_38 rfl (lv_at hl 0 rfl) ?_
      refine va_get hx hb hts in_X4 hown hK hP 2 rfl rfl 0 (by decide) (hts _ q1596) (fun _ h => h) rfl dX4_setWeight_39 ?_
      refine lv_bipush (v := nI 14) hx hb dX4_setWeight_42 (by decide) ?_
      refine lv_iload_n hx hb dX4_setWeight_44 rfl (lv_at hl 1 rfl) ?_
      refine lv_iadd hx hb dX4_setWeight_45 ?_
      refine lv_ton (n := d_662 + 14) (nadd (by omega)) ?_
      refine r_iald (v := nI (bW B d_662)) hx hb hK hP 0 0 rfl rfl (i := d_662 + 14) (by omega) (by omega) (hM.weight (z := d_662) (by omega) (by omega)) dX4_setWeight_46 ?_
      refine lv_istore_n (lv' := [(3, .int (nI (bW B d_662))), (0, .ref m0), (1, .int (nI d_662)), (2, .int (nI d_674))]) hx hb dX4_setWeight_47 rfl hl (by decide) rfl (fun ls hl => ?_)
      refine lv_aload_n hx hb dX4_setWeight_48 rfl (lv_at hl 1 rfl) ?_
      refine va_get hx hb hts in_X4 hown hK hP 2 rfl rfl 0 (by decide) (hts _ q1596) (fun _ h => h) rfl dX4_setWeight_49 ?_
      refine lv_bipush (v := nI 14) hx hb dX4_setWeight_52 (by decide) ?_
      refine lv_iload_n hx hb dX4_setWeight_54 rfl (lv_at hl 2 rfl) ?_
      refine lv_iadd hx hb dX4_setWeight_55 ?_
      refine lv_ton (n := d_662 + 14) (nadd (by omega)) ?_
      refine lv_iload_n hx hb dX4_setWeight_56 rfl (lv_at hl 3 rfl) ?_
      refine r_iast hx hb hK hP hD hS 0 0 rfl rfl (i := d_662 + 14) (by omega) (by omega) dX4_setWeight_57 (fun H locs (hP : va_P G.1 CL [(sa, .inl (G.2 0, 830, .inl (upd f (d_662 + 14) (nI d_674)))), (za, .inl (G.2 0, 6, .inl zf)), (m0, .inr (6, [.ref sa, .ref oa, .ref pa, .ref la, .ref za, .ref na, .int (nI (min 6 (u + 1))), .int (nI ((t + 1) % 6)), .int gw, .int gd, .int gm, .int gr, .int (nI 0), .int gv])), (ta, .inl (G.2 0, 830, .inl f))] H) (hD : va_D A [(sa, .inl (G.2 0, 830, .inl (upd f (d_662 + 14) (nI d_674)))), (za, .inl (G.2 0, 6, .inl zf)), (m0, .inr (6, [.ref sa, .ref oa, .ref pa, .ref la, .ref za, .ref na, .int (nI (min 6 (u + 1))), .int (nI ((t + 1) % 6)), .int gw, .int gd, .int gm, .int gr, .int (nI 0), .int gv])), (ta, .inl (G.2 0, 830, .inl f))]) hS => ?_)
      refine lv_iload_n hx hb dX4_setWeight_58 rfl (lv_at hl 0 rfl) ?_
      have hq9 : o_setWeight B z w = (0, nI (bW B d_662), wW B (updN (bW B) d_662 d_674)) := by unfold o_setWeight; rw [hir_666, hir_678] <;> rfl
      have hP : va_P G.1 CL [(sa, .inl (G.2 0, 830, .inl (upd f (d_662 + 14) (nI d_674)))), (za, .inl (G.2 0, 6, .inl zf)), (m0, .inr (6, [.ref sa, .ref oa, .ref pa, .ref la, .ref za, .ref na, .int (nI (min 6 (u + 1))), .int (nI ((t + 1) % 6)), .int gw, .int gd, .int gm, .int gr, .int (nI ((o_setWeight B z w).1)), .int gv])), (ta, .inl (G.2 0, 830, .inl f))] H := by rw [hq9]; exact hP
      have hD : va_D A [(sa, .inl (G.2 0, 830, .inl (upd f (d_662 + 14) (nI d_674)))), (za, .inl (G.2 0, 6, .inl zf)), (m0, .inr (6, [.ref sa, .ref oa, .ref pa, .ref la, .ref za, .ref na, .int (nI (min 6 (u + 1))), .int (nI ((t + 1) % 6)), .int gw, .int gd, .int gm, .int gr, .int (nI ((o_setWeight B z w).1)), .int gv])), (ta, .inl (G.2 0, 830, .inl f))] := by rw [hq9]; exact hD
      have hP9 : va_P G.1 CL [(m0, .inr (6, [.ref sa, .ref oa, .ref pa, .ref la, .ref za, .ref na, .int (nI (min 6 (u + 1))), .int (nI ((t + 1) % 6)), .int gw, .int gd, .int gm, .int gr, .int (nI ((o_setWeight B z w).1)), .int gv])), (sa, .inl (G.2 0, 830, .inl (upd f (d_662 + 14) (nI d_674)))), (ta, .inl (G.2 0, 830, .inl f)), (za, .inl (G.2 0, 6, .inl zf))] H := hP.sub [2, 0, 3, 1] rfl
      have hD9 : va_D A [(m0, .inr (6, [.ref sa, .ref oa, .ref pa, .ref la, .ref za, .ref na, .int (nI (min 6 (u + 1))), .int (nI ((t + 1) % 6)), .int gw, .int gd, .int gm, .int gr, .int (nI ((o_setWeight B z w).1)), .int gv])), (sa, .inl (G.2 0, 830, .inl (upd f (d_662 + 14) (nI d_674)))), (ta, .inl (G.2 0, 830, .inl f)), (za, .inl (G.2 0, 6, .inl zf))] := hD.sub [2, 0, 3, 1] (by decide) rfl
      exact end_i hx hb hr hlk (rfl) (qc_of ⟨nI (bW B d_662), upd f (d_662 + 14) (nI d_674), ((t + 1) % 6), (min 6 (u + 1)), f, zf⟩ (v := some (.int (nI (bW B d_662)))) (by rfl) (by rw [hq9]; exact ⟨fun z => absurd rfl z, fun _ => ⟨rfl, MR_weight9 hI hM (by omega), rfl, rfl, rfl⟩⟩) hP9 hD9 (trivial) hS) hS dX4_setWeight_59 (show 0 ≤ 0 from by first | exact Nat.le_refl _ | decide | omega) (show 0 ≤ 0 from by first | exact Nat.le_refl _ | decide | omega)

set_option maxHeartbeats 4000000 in
theorem mX4_addSession (l : Launch) (G : Gt) (m0 : Nat) (sa : Nat) (oa : Nat) (pa : Nat) (la : Nat) (za : Nat) (na : Nat) (gw : Int32) (gd : Int32) (gm : Int32) (gr : Int32) (gh : Int32) (gv : Int32) (f : Nat → Int32) (B : Bk) (t : Nat) (u : Nat) (ta : Nat) (h : Nat → Int32) (og : Nat → Option Nat) (zf : Nat → Int32) (d : Int32) (hM : MR f B) (hI : Inv B) (ht : t < 6) (hu : u ≤ 6) (hog : og ((t + 1) % 6) = some ta) : CT l G yX4_addSession cX4_addSession 3 (some .int) ({ frames := 3, cells := 0, slots := 0, locals := 55 } : Room) [.ref m0, .int d] [(m0, .inr (6, [.ref sa, .ref oa, .ref pa, .ref la, .ref za, .ref na, .int (nI u), .int (nI t), .int gw, .int gd, .int gm, .int gr, .int gh, .int gv])), (sa, .inl (G.2 0, 830, .inl f)), (ta, .inl (G.2 0, 830, .inl h)), (za, .inl (G.2 0, 6, .inl zf))] (fun (A : Nat → Prop) (H : Heap) => roW G A H [(oa, .inl (G.2 7, 6, .inr (.inr (.inr (.inr og)))))]) (S := Int32 × (Nat → Int32) × Nat × Nat × (Nat → Int32) × (Nat → Int32)) (fun (u_ : Int32 × (Nat → Int32) × Nat × Nat × (Nat → Int32) × (Nat → Int32)) => some (.int u_.1)) (fun (u_ : Int32 × (Nat → Int32) × Nat × Nat × (Nat → Int32) × (Nat → Int32)) => MutP (o_addSes B d) f t u h u_.1 u_.2.1 u_.2.2.1 u_.2.2.2.1 u_.2.2.2.2.1) (fun (u_ : Int32 × (Nat → Int32) × Nat × Nat × (Nat → Int32) × (Nat → Int32)) => [(m0, .inr (6, [.ref sa, .ref oa, .ref pa, .ref la, .ref za, .ref na, .int (nI u_.2.2.2.1), .int (nI u_.2.2.1), .int gw, .int gd, .int gm, .int gr, .int (nI ((o_addSes B d).1)), .int gv])), (sa, .inl (G.2 0, 830, .inl u_.2.1)), (ta, .inl (G.2 0, 830, .inl u_.2.2.2.2.1)), (za, .inl (G.2 0, 6, .inl u_.2.2.2.2.2))]) (fun (u_ : Int32 × (Nat → Int32) × Nat × Nat × (Nat → Int32) × (Nat → Int32)) (H : Heap) => True) := by
  refine CT.of (by decide) (Nat.le_of_ble_eq_true rfl) ?_
  intro p e s m below meth c ls A H locs h9 hH0 hP hS
  obtain ⟨cf, hr, hlk, hnm, hKB, hE, -, hD, -, hA, hAw, hR0, hl⟩ := h9
  have hx := cf.1
  have hb := cf.2.1
  have hml := cf.2.2.1
  have hown : s.vm.findClass RX4 = some m.cls := cf.2.2.2.1
  have hts := cf.2.2.2.2
  have hK := hKB.1
  have hl : lv_has ls 3 [(0, .ref m0), (1, .int d)] := hl
  have iN := iv_sN hI
  have iT := iv_tN hI
  have iD := iv_bD hI
  have iE := iv_bE hI
  have iW := iv_id hI
  refine lv_aload_n hx hb dX4_addSession_0 rfl (lv_at hl 0 rfl) ?_
  refine lv_aload_n hx hb dX4_addSession_1 rfl (lv_at hl 0 rfl) ?_
  refine lv_iload_n hx hb dX4_addSession_2 rfl (lv_at hl 1 rfl) ?_
  have hF := hF_of (wc := []) hD hS hA [] rfl
  have hro_682 : va_P G.1 CL [(m0, .inr (6, [.ref sa, .ref oa, .ref pa, .ref la, .ref za, .ref na, .int (nI u), .int (nI t), .int gw, .int gd, .int gm, .int gr, .int gh, .int gv])), (sa, .inl (G.2 0, 830, .inl f))] H := (va_P.sub hP [0, 1] rfl)
  refine go_ct hS hP hD [] [0, 1, 2, 3] hF rfl rfl (by decide) (by decide)
      (va_runV (As := [.int d]) (rest := [.ref m0]) cf (mX4_isNoDay l G m0 sa oa pa la za na (nI u) (nI t) gw gd gm gr gh gv f B d (show MR f B from by first | assumption | omega) (show Inv B from by first | assumption | omega) H.size) (cwV 1 hts (lw_V q1667 q1669 qs22 q58 q1670) rfl rfl rfl (by decide +kernel) ⟨Nat.le_of_ble_eq_true rfl, Nat.le_of_ble_eq_true rfl⟩) (preV_of hKB hE hS hF (va_recv hK hP (ci := 6) (q0 := 0) rfl rfl) (va_P.sub hP [] rfl) ((va_D.sub hD [] (by decide) rfl).weaken (fun _ _ _ _ => trivial)) (roW.nil hro_682)) rfl rfl hl.1 rfl (lv_room (Nat.le_of_ble_eq_true rfl)) dX4_addSession_3 ⟨show 0 + 0 ≤ 0 from by first | decide | omega, show 0 + 0 ≤ 0 from by first | decide | omega⟩)
      (fun u_ H locs hq hph (hP : va_P G.1 CL [(m0, .inr (6, [.ref sa, .ref oa, .ref pa, .ref la, .ref za, .ref na, .int (nI u), .int (nI t), .int gw, .int gd, .int gm, .int gr, .int gh, .int gv])), (sa, .inl (G.2 0, 830, .inl f)), (ta, .inl (G.2 0, 830, .inl h)), (za, .inl (G.2 0, 6, .inl zf))] H) (hD : va_D A [(m0, .inr (6, [.ref sa, .ref oa, .ref pa, .ref la, .ref za, .ref na, .int (nI u), .int (nI t), .int gw, .int gd, .int gm, .int gr, .int gh, .int gv])), (sa, .inl (G.2 0, 830, .inl f)), (ta, .inl (G.2 0, 830, .inl h)), (za, .inl (G.2 0, 6, .inl zf))]) hS hfz hfk => ?_)
  obtain ⟨b_683, rfl⟩ : ∃ z, z = u_ := ⟨_, rfl⟩
  have hP : va_P G.1 CL [(m0, .inr (6, [.ref sa, .ref oa, .ref pa, .ref la, .ref za, .ref na, .int (nI u), .int (nI t), .int gw, .int gd, .int gm, .int gr, .int gh, .int gv])), (sa, .inl (G.2 0, 830, .inl f)), (ta, .inl (G.2 0, 830, .inl h)), (za, .inl (G.2 0, 6, .inl zf))] H := hP
  have hD : va_D A [(m0, .inr (6, [.ref sa, .ref oa, .ref pa, .ref la, .ref za, .ref na, .int (nI u), .int (nI t), .int gw, .int gd, .int gm, .int gr, .int gh, .int gv])), (sa, .inl (G.2 0, 830, .inl f)), (ta, .inl (G.2 0, 830, .inl h)), (za, .inl (G.2 0, 6, .inl zf))] := hD
  have hq_684 : (b_683 = true ↔ ¬ (nI 0 ≤ d ∧ d ≤ nI (bD B))) := hq
  refine W.eq (g2 := F0 m 6 ls [.int (bI b_683), .ref m0]) rfl ?_
  cases b_683
  · refine lv_ton (n := 0) rfl ?_
    have hin_685 : nI 0 ≤ d ∧ d ≤ nI (bD B) := Classical.not_not.mp (fun z => absurd (hq_684.mpr z) (by decide))
    obtain ⟨d_686, hv_687, h_688, h_689⟩ := in_nat (lo := 0) (hi := bD B) (by omega) (by omega) hin_685.1 hin_685.2
    have hir_690 : inR d 0 (bD B) = some d_686 := inR_some hv_687 h_688 h_689 (by omega)
    have hl : lv_has ls 3 [(0, .ref m0), (1, .int (nI d_686))] := by
      have e9 : ((.int (nI d_686)) : Value) = .int d := by rw [hv_687]
      rw [e9]; exact hl
    refine lv_iconst (v := nI 1) hx hb dX4_addSession_6 (by decide) ?_
    have hF := hF_of (wc := [(m0, .inr (6, [.ref sa, .ref oa, .ref pa, .ref la, .ref za, .ref na, .int (nI u), .int (nI t), .int gw, .int gd, .int gm, .int gr, .int gh, .int gv]))]) hD hS hA [0] rfl
    refine go_ct hS hP hD [0] [1, 2, 3] hF rfl rfl (by decide) (by decide)
        (va_runV (As := [.int (nI 0), .int (nI 1)]) (rest := []) cf (mX4_isThrown_f l G m0 sa oa pa la za na (nI u) (nI t) gw gd gm gr gh gv 1  H.size) (cwV 2 hts (lw_V q1650 q1652 qs20 q58 q1653) rfl rfl rfl (by decide +kernel) ⟨Nat.le_of_ble_eq_true rfl, Nat.le_of_ble_eq_true rfl⟩) (preV_of hKB hE hS hF (va_recv hK hP (ci := 6) (q0 := 0) rfl rfl) (va_P.sub hP [0] rfl) ((va_D.sub hD [0] (by decide) rfl).weaken (fun _ _ _ _ => trivial)) trivial) rfl rfl hl.1 rfl (lv_room (Nat.le_of_ble_eq_true rfl)) dX4_addSession_7 ⟨show 0 + 0 ≤ 0 from by first | decide | omega, show 0 + 0 ≤ 0 from by first | decide | omega⟩)
        (fun u_ H locs hq hph (hP : va_P G.1 CL [(sa, .inl (G.2 0, 830, .inl f)), (ta, .inl (G.2 0, 830, .inl h)), (za, .inl (G.2 0, 6, .inl zf)), (m0, .inr (6, [.ref sa, .ref oa, .ref pa, .ref la, .ref za, .ref na, .int (nI u), .int (nI t), .int gw, .int gd, .int gm, .int gr, .int (nI 0), .int gv]))] H) (hD : va_D A [(sa, .inl (G.2 0, 830, .inl f)), (ta, .inl (G.2 0, 830, .inl h)), (za, .inl (G.2 0, 6, .inl zf)), (m0, .inr (6, [.ref sa, .ref oa, .ref pa, .ref la, .ref za, .ref na, .int (nI u), .int (nI t), .int gw, .int gd, .int gm, .int gr, .int (nI 0), .int gv]))]) hS hfz hfk => ?_)
    refine W.eq (g2 := F0 m 10 ls [.int (nI 0)]) rfl ?_
    refine n_if_ne (tgt := 37) hx hb (by omega) dX4_addSession_10 (by decide) (fun c_691 => absurd c_691 (by omega)) (fun c_691 => ?_)
    refine lv_aload_n hx hb dX4_addSession_13 rfl (lv_at hl 0 rfl) ?_
    refine lv_aload_n hx hb dX4_addSession_14 rfl (lv_at hl 0 rfl) ?_
    refine va_get hx hb hts in_X4 hown hK hP 3 rfl rfl 0 (by decide) (hts _ q1596) (fun _ h => h) rfl dX4_addSession_15 ?_
    refine lv_iconst (v := nI 2) hx hb dX4_addSession_18 (by decide) ?_
    refine r_iald (v := nI (sN B)) hx hb hK hP 0 0 rfl rfl (i := 2) (by omega) (by omega) (hM.many) dX4_addSession_19 ?_
    refine lv_bipush (v := nI 40) hx hb dX4_addSession_20 (by decide) ?_
    refine n_icmp_ne (tgt := 29) hx hb (by omega) (by omega) dX4_addSession_22 (by decide) (fun c_692 => ?_) (fun c_692 => ?_)
    · refine lv_iconst (v := nI 0) hx hb dX4_addSession_29 (by decide) ?_
      refine lv_iconst (v := nI 2) hx hb dX4_addSession_30 (by decide) ?_
      have hF := hF_of (wc := [(m0, .inr (6, [.ref sa, .ref oa, .ref pa, .ref la, .ref za, .ref na, .int (nI u), .int (nI t), .int gw, .int gd, .int gm, .int gr, .int (nI 0), .int gv]))]) hD hS hA [3] rfl
      refine go_ct hS hP hD [3] [0, 1, 2] hF rfl rfl (by decide) (by decide)
          (va_runV (As := [.int (nI 0), .int (nI 2)]) (rest := []) cf (mX4_isThrown_f l G m0 sa oa pa la za na (nI u) (nI t) gw gd gm gr (nI 0) gv 2  H.size) (cwV 2 hts (lw_V q1650 q1652 qs20 q58 q1653) rfl rfl rfl (by decide +kernel) ⟨Nat.le_of_ble_eq_true rfl, Nat.le_of_ble_eq_true rfl⟩) (preV_of hKB hE hS hF (va_recv hK hP (ci := 6) (q0 := 3) rfl rfl) (va_P.sub hP [3] rfl) ((va_D.sub hD [3] (by decide) rfl).weaken (fun _ _ _ _ => trivial)) trivial) rfl rfl hl.1 rfl (lv_room (Nat.le_of_ble_eq_true rfl)) dX4_addSession_31 ⟨show 0 + 0 ≤ 0 from by first | decide | omega, show 0 + 0 ≤ 0 from by first | decide | omega⟩)
          (fun u_ H locs hq hph (hP : va_P G.1 CL [(sa, .inl (G.2 0, 830, .inl f)), (ta, .inl (G.2 0, 830, .inl h)), (za, .inl (G.2 0, 6, .inl zf)), (m0, .inr (6, [.ref sa, .ref oa, .ref pa, .ref la, .ref za, .ref na, .int (nI u), .int (nI t), .int gw, .int gd, .int gm, .int gr, .int (nI 0), .int gv]))] H) (hD : va_D A [(sa, .inl (G.2 0, 830, .inl f)), (ta, .inl (G.2 0, 830, .inl h)), (za, .inl (G.2 0, 6, .inl zf)), (m0, .inr (6, [.ref sa, .ref oa, .ref pa, .ref la, .ref za, .ref na, .int (nI u), .int (nI t), .int gw, .int gd, .int gm, .int gr, .int (nI 0), .int gv]))]) hS hfz hfk => ?_)
      refine W.eq (g2 := F0 m 34 ls [.int (nI 0)]) rfl ?_
      refine n_if_eq (tgt := 39) hx hb (by omega) dX4_addSession_34 (by decide) (fun c_693 => ?_) (fun c_693 => absurd c_693 (by omega))
      refine lv_aload_n hx hb dX4_addSession_39 rfl (lv_at hl 0 rfl) ?_
      have hF := hF_of (wc := [(m0, .inr (6, [.ref sa, .ref oa, .ref pa, .ref la, .ref za, .ref na, .int (nI u), .int (nI t), .int gw, .int gd, .int gm, .int gr, .int (nI 0), .int gv])), (ta, .inl (G.2 0, 830, .inl h))]) hD hS hA [3, 1] rfl
      have hro_694 : roW G (va_A [(m0, .inr (6, [.ref sa, .ref oa, .ref pa, .ref la, .ref za, .ref na, .int (nI u), .int (nI t), .int gw, .int gd, .int gm, .int gr, .int (nI 0), .int gv])), (ta, .inl (G.2 0, 830, .inl h))] H.size) H [(oa, .inl (G.2 7, 6, .inr (.inr (.inr (.inr og))))), (sa, .inl (G.2 0, 830, .inl f))] := (((hR0.kp hF hS.2.1).sub (ws' := [(oa, .inl (G.2 7, 6, .inr (.inr (.inr (.inr og)))))]) [0] rfl).app (roW.of (w' := [(sa, .inl (G.2 0, 830, .inl f))]) hP hD [3, 1] [0] rfl rfl (by decide)))
      refine go_ct hS hP hD [3, 1] [0, 2] hF rfl rfl (by decide) (by decide)
          (va_runV (As := []) (rest := []) cf (mX4_keeps l G m0 sa oa pa la za na gw gd gm gr (nI 0) gv f t u ta h og (show t < 6 from by first | assumption | omega) (show u ≤ 6 from by first | assumption | omega) (show og ((t + 1) % 6) = some ta from by first | assumption | omega) H.size) (cwV 0 hts (lw_V q1654 q1656 qs21 q58 q1657) rfl rfl rfl (by decide +kernel) ⟨Nat.le_of_ble_eq_true rfl, Nat.le_of_ble_eq_true rfl⟩) (preV_of hKB hE hS hF (va_recv hK hP (ci := 6) (q0 := 3) rfl rfl) (va_P.sub hP [3, 1] rfl) ((va_D.sub hD [3, 1] (by decide) rfl).weaken (fun _ _ _ _ => trivial)) hro_694) rfl rfl hl.1 rfl (lv_room (Nat.le_of_ble_eq_true rfl)) dX4_addSession_40 ⟨show 0 + 0 ≤ 0 from by first | decide | omega, show 0 + 0 ≤ 0 from by first | decide | omega⟩)
          (fun u_ H locs hq hph (hP : va_P G.1 CL [(sa, .inl (G.2 0, 830, .inl f)), (za, .inl (G.2 0, 6, .inl zf)), (m0, .inr (6, [.ref sa, .ref oa, .ref pa, .ref la, .ref za, .ref na, .int (nI (min 6 (u + 1))), .int (nI ((t + 1) % 6)), .int gw, .int gd, .int gm, .int gr, .int (nI 0), .int gv])), (ta, .inl (G.2 0, 830, .inl f))] H) (hD : va_D A [(sa, .inl (G.2 0, 830, .inl f)), (za, .inl (G.2 0, 6, .inl zf)), (m0, .inr (6, [.ref sa, .ref oa, .ref pa, .ref la, .ref za, .ref na, .int (nI (min 6 (u + 1))), .int (nI ((t + 1) % 6)), .int gw, .int gd, .int gm, .int gr, .int (nI 0), .int gv])), (ta, .inl (G.2 0, 830, .inl f))]) hS hfz hfk => ?_)
      refine W.eq (g2 := F0 m 43 ls []) rfl ?_
      refine lv_aload_n hx hb dX4_addSession_43 rfl (lv_at hl 0 rfl) ?_
      refine lv_aload_n hx hb dX4_addSession_44 rfl (lv_at hl 0 rfl) ?_
      refine va_get hx hb hts in_X4 hown hK hP 2 rfl rfl 0 (by decide) (hts _ q1596) (fun _ h => h) rfl dX4_addSession_45 ?_
      refine lv_iconst (v := nI 2) hx hb dX4_addSession_48 (by decide) ?_
      refine r_iald (v := nI (sN B)) hx hb hK hP 0 0 rfl rfl (i := 2) (by omega) (by omega) (hM.many) dX4_addSession_49 ?_
      have hF := hF_of (wc := []) hD hS hA [] rfl
      refine go_ct hS hP hD [] [0, 1, 2, 3] hF rfl rfl (by decide) (by decide)
          (va_runV (As := [.int (nI (sN B))]) (rest := []) cf (mX4_at l G m0 (sN B)  H.size) (cwV 1 hts (lw_V q1687 q1689 qs27 q58 q1690) rfl rfl rfl (by decide +kernel) ⟨Nat.le_of_ble_eq_true rfl, Nat.le_of_ble_eq_true rfl⟩) (preV_of hKB hE hS hF (va_recv hK hP (ci := 6) (q0 := 2) rfl rfl) (va_P.sub hP [] rfl) ((va_D.sub hD [] (by decide) rfl).weaken (fun _ _ _ _ => trivial)) trivial) rfl rfl hl.1 rfl (lv_room (Nat.le_of_ble_eq_true rfl)) dX4_addSession_50 ⟨show 0 + 0 ≤ 0 from by first | decide | omega, show 0 + 0 ≤ 0 from by first | decide | omega⟩)
          (fun u_ H locs hq hph (hP : va_P G.1 CL [(sa, .inl (G.2 0, 830, .inl f)), (za, .inl (G.2 0, 6, .inl zf)), (m0, .inr (6, [.ref sa, .ref oa, .ref pa, .ref la, .ref za, .ref na, .int (nI (min 6 (u + 1))), .int (nI ((t + 1) % 6)), .int gw, .int gd, .int gm, .int gr, .int (nI 0), .int gv])), (ta, .inl (G.2 0, 830, .inl f))] H) (hD : va_D A [(sa, .inl (G.2 0, 830, .inl f)), (za, .inl (G.2 0, 6, .inl zf)), (m0, .inr (6, [.ref sa, .ref oa, .ref pa, .ref la, .ref za, .ref na, .int (nI (min 6 (u + 1))), .int (nI ((t + 1) % 6)), .int gw, .int gd, .int gm, .int gr, .int (nI 0), .int gv])), (ta, .inl (G.2 0, 830, .inl f))]) hS hfz hfk => ?_)
      refine W.eq (g2 := F0 m 53 ls [.int (nI (19 * (sN B) + 70))]) rfl ?_
      refine lv_istore_n (lv' := [(2, .int (nI (19 * (sN B) + 70))), (0, .ref m0), (1, .int (nI d_686))]) hx hb dX4_addSession_53 rfl hl (by decide) rfl (fun ls hl => ?_)
      refine lv_aload_n hx hb dX4_addSession_54 rfl (lv_at hl 1 rfl) ?_
      refine va_get hx hb hts in_X4 hown hK hP 2 rfl rfl 0 (by decide) (hts _ q1596) (fun _ h => h) rfl dX4_addSession_55 ?_
      refine lv_iload_n hx hb dX4_addSession_58 rfl (lv_at hl 0 rfl) ?_
      refine lv_aload_n hx hb dX4_addSession_59 rfl (lv_at hl 1 rfl) ?_
      refine va_get hx hb hts in_X4 hown hK hP 2 rfl rfl 0 (by decide) (hts _ q1596) (fun _ h => h) rfl dX4_addSession_60 ?_
      refine lv_iconst (v := nI 1) hx hb dX4_addSession_63 (by decide) ?_
      refine r_iald (v := nI (bI9 B)) hx hb hK hP 0 0 rfl rfl (i := 1) (by omega) (by omega) (hM.next) dX4_addSession_64 ?_
      refine r_iast hx hb hK hP hD hS 0 0 rfl rfl (i := 19 * (sN B) + 70) (by omega) (by omega) dX4_addSession_65 (fun H locs (hP : va_P G.1 CL [(sa, .inl (G.2 0, 830, .inl (upd f (19 * (sN B) + 70) (nI (bI9 B))))), (za, .inl (G.2 0, 6, .inl zf)), (m0, .inr (6, [.ref sa, .ref oa, .ref pa, .ref la, .ref za, .ref na, .int (nI (min 6 (u + 1))), .int (nI ((t + 1) % 6)), .int gw, .int gd, .int gm, .int gr, .int (nI 0), .int gv])), (ta, .inl (G.2 0, 830, .inl f))] H) (hD : va_D A [(sa, .inl (G.2 0, 830, .inl (upd f (19 * (sN B) + 70) (nI (bI9 B))))), (za, .inl (G.2 0, 6, .inl zf)), (m0, .inr (6, [.ref sa, .ref oa, .ref pa, .ref la, .ref za, .ref na, .int (nI (min 6 (u + 1))), .int (nI ((t + 1) % 6)), .int gw, .int gd, .int gm, .int gr, .int (nI 0), .int gv])), (ta, .inl (G.2 0, 830, .inl f))]) hS => ?_)
      refine lv_aload_n hx hb dX4_addSession_66 rfl (lv_at hl 1 rfl) ?_
      refine va_get hx hb hts in_X4 hown hK hP 2 rfl rfl 0 (by decide) (hts _ q1596) (fun _ h => h) rfl dX4_addSession_67 ?_
      refine lv_iload_n hx hb dX4_addSession_70 rfl (lv_at hl 0 rfl) ?_
      refine lv_iconst (v := nI 1) hx hb dX4_addSession_71 (by decide) ?_
      refine lv_iadd hx hb dX4_addSession_72 ?_
      refine lv_ton (n := 19 * (sN B) + 71) (nadd (by omega)) ?_
      refine lv_iload_n hx hb dX4_addSession_73 rfl (lv_at hl 2 rfl) ?_
      refine r_iast hx hb hK hP hD hS 0 0 rfl rfl (i := 19 * (sN B) + 71) (by omega) (by omega) dX4_addSession_74 (fun H locs (hP : va_P G.1 CL [(sa, .inl (G.2 0, 830, .inl (upd (upd f (19 * (sN B) + 70) (nI (bI9 B))) (19 * (sN B) + 71) (nI d_686)))), (za, .inl (G.2 0, 6, .inl zf)), (m0, .inr (6, [.ref sa, .ref oa, .ref pa, .ref la, .ref za, .ref na, .int (nI (min 6 (u + 1))), .int (nI ((t + 1) % 6)), .int gw, .int gd, .int gm, .int gr, .int (nI 0), .int gv])), (ta, .inl (G.2 0, 830, .inl f))] H) (hD : va_D A [(sa, .inl (G.2 0, 830, .inl (upd (upd f (19 * (sN B) + 70) (nI (bI9 B))) (19 * (sN B) + 71) (nI d_686)))), (za, .inl (G.2 0, 6, .inl zf)), (m0, .inr (6, [.ref sa, .ref oa, .ref pa, .ref la, .ref za, .ref na, .int (nI (min 6 (u + 1))), .int (nI ((t + 1) % 6)), .int gw, .int gd, .int gm, .int gr, .int (nI 0), .int gv])), (ta, .inl (G.2 0, 830, .inl f))]) hS => ?_)
      refine lv_aload_n hx hb dX4_addSession_75 rfl (lv_at hl 1 rfl) ?_
      refine va_get hx hb hts in_X4 hown hK hP 2 rfl rfl 0 (by decide) (hts _ q1596) (fun _ h => h) rfl dX4_addSession_76 ?_
      refine lv_iload_n hx hb dX4_addSession_79 rfl (lv_at hl 0 rfl) ?_
      refine lv_iconst (v := nI 2) hx hb dX4_addSession_80 (by decide) ?_
      refine lv_iadd hx hb dX4_addSession_81 ?_
      refine lv_ton (n := 19 * (sN B) + 72) (nadd (by omega)) ?_
      refine lv_iconst (v := nI 0) hx hb dX4_addSession_82 (by decide) ?_
      refine r_iast hx hb hK hP hD hS 0 0 rfl rfl (i := 19 * (sN B) + 72) (by omega) (by omega) dX4_addSession_83 (fun H locs (hP : va_P G.1 CL [(sa, .inl (G.2 0, 830, .inl (upd (upd (upd f (19 * (sN B) + 70) (nI (bI9 B))) (19 * (sN B) + 71) (nI d_686)) (19 * (sN B) + 72) (nI 0)))), (za, .inl (G.2 0, 6, .inl zf)), (m0, .inr (6, [.ref sa, .ref oa, .ref pa, .ref la, .ref za, .ref na, .int (nI (min 6 (u + 1))), .int (nI ((t + 1) % 6)), .int gw, .int gd, .int gm, .int gr, .int (nI 0), .int gv])), (ta, .inl (G.2 0, 830, .inl f))] H) (hD : va_D A [(sa, .inl (G.2 0, 830, .inl (upd (upd (upd f (19 * (sN B) + 70) (nI (bI9 B))) (19 * (sN B) + 71) (nI d_686)) (19 * (sN B) + 72) (nI 0)))), (za, .inl (G.2 0, 6, .inl zf)), (m0, .inr (6, [.ref sa, .ref oa, .ref pa, .ref la, .ref za, .ref na, .int (nI (min 6 (u + 1))), .int (nI ((t + 1) % 6)), .int gw, .int gd, .int gm, .int gr, .int (nI 0), .int gv])), (ta, .inl (G.2 0, 830, .inl f))]) hS => ?_)
      refine lv_aload_n hx hb dX4_addSession_84 rfl (lv_at hl 1 rfl) ?_
      refine va_get hx hb hts in_X4 hown hK hP 2 rfl rfl 0 (by decide) (hts _ q1596) (fun _ h => h) rfl dX4_addSession_85 ?_
      refine lv_iconst (v := nI 2) hx hb dX4_addSession_88 (by decide) ?_
      refine lv_dup2_11 hx hb dX4_addSession_89 rfl rfl ?_
      refine r_iald (v := nI (sN B)) hx hb hK hP 0 0 rfl rfl (i := 2) (by omega) (by omega) ((pk_un (by omega)).trans ((pk_un (by omega)).trans ((pk_un (by omega)).trans (hM.many)))) dX4_addSession_90 ?_
      refine lv_iconst (v := nI 1) hx hb dX4_addSession_91 (by decide) ?_
      refine lv_iadd hx hb dX4_addSession_92 ?_
      refine lv_ton (n := (sN B) + 1) (nadd (by omega)) ?_
      refine r_iast hx hb hK hP hD hS 0 0 rfl rfl (i := 2) (by omega) (by omega) dX4_addSession_93 (fun H locs (hP : va_P G.1 CL [(sa, .inl (G.2 0, 830, .inl (upd (upd (upd (upd f (19 * (sN B) + 70) (nI (bI9 B))) (19 * (sN B) + 71) (nI d_686)) (19 * (sN B) + 72) (nI 0)) 2 (nI ((sN B) + 1))))), (za, .inl (G.2 0, 6, .inl zf)), (m0, .inr (6, [.ref sa, .ref oa, .ref pa, .ref la, .ref za, .ref na, .int (nI (min 6 (u + 1))), .int (nI ((t + 1) % 6)), .int gw, .int gd, .int gm, .int gr, .int (nI 0), .int gv])), (ta, .inl (G.2 0, 830, .inl f))] H) (hD : va_D A [(sa, .inl (G.2 0, 830, .inl (upd (upd (upd (upd f (19 * (sN B) + 70) (nI (bI9 B))) (19 * (sN B) + 71) (nI d_686)) (19 * (sN B) + 72) (nI 0)) 2 (nI ((sN B) + 1))))), (za, .inl (G.2 0, 6, .inl zf)), (m0, .inr (6, [.ref sa, .ref oa, .ref pa, .ref la, .ref za, .ref na, .int (nI (min 6 (u + 1))), .int (nI ((t + 1) % 6)), .int gw, .int gd, .int gm, .int gr, .int (nI 0), .int gv])), (ta, .inl (G.2 0, 830, .inl f))]) hS => ?_)
      refine lv_aload_n hx hb dX4_addSession_94 rfl (lv_at hl 1 rfl) ?_
      refine va_get hx hb hts in_X4 hown hK hP 2 rfl rfl 0 (by decide) (hts _ q1596) (fun _ h => h) rfl dX4_addSession_95 ?_
      refine lv_iconst (v := nI 1) hx hb dX4_addSession_98 (by decide) ?_
      refine lv_dup2_11 hx hb dX4_addSession_99 rfl rfl ?_
      refine r_iald (v := nI (bI9 B)) hx hb hK hP 0 0 rfl rfl (i := 1) (by omega) (by omega) ((pk_un (by omega)).trans ((pk_un (by omega)).trans ((pk_un (by omega)).trans ((pk_un (by omega)).trans (hM.next))))) dX4_addSession_100 ?_
      refine lv_iconst (v := nI 1) hx hb dX4_addSession_101 (by decide) ?_
      refine lv_iadd hx hb dX4_addSession_102 ?_
      refine lv_ton (n := (bI9 B) + 1) (nadd (by omega)) ?_
      refine r_iast hx hb hK hP hD hS 0 0 rfl rfl (i := 1) (by omega) (by omega) dX4_addSession_103 (fun H locs (hP : va_P G.1 CL [(sa, .inl (G.2 0, 830, .inl (upd (upd (upd (upd (upd f (19 * (sN B) + 70) (nI (bI9 B))) (19 * (sN B) + 71) (nI d_686)) (19 * (sN B) + 72) (nI 0)) 2 (nI ((sN B) + 1))) 1 (nI ((bI9 B) + 1))))), (za, .inl (G.2 0, 6, .inl zf)), (m0, .inr (6, [.ref sa, .ref oa, .ref pa, .ref la, .ref za, .ref na, .int (nI (min 6 (u + 1))), .int (nI ((t + 1) % 6)), .int gw, .int gd, .int gm, .int gr, .int (nI 0), .int gv])), (ta, .inl (G.2 0, 830, .inl f))] H) (hD : va_D A [(sa, .inl (G.2 0, 830, .inl (upd (upd (upd (upd (upd f (19 * (sN B) + 70) (nI (bI9 B))) (19 * (sN B) + 71) (nI d_686)) (19 * (sN B) + 72) (nI 0)) 2 (nI ((sN B) + 1))) 1 (nI ((bI9 B) + 1))))), (za, .inl (G.2 0, 6, .inl zf)), (m0, .inr (6, [.ref sa, .ref oa, .ref pa, .ref la, .ref za, .ref na, .int (nI (min 6 (u + 1))), .int (nI ((t + 1) % 6)), .int gw, .int gd, .int gm, .int gr, .int (nI 0), .int gv])), (ta, .inl (G.2 0, 830, .inl f))]) hS => ?_)
      refine lv_aload_n hx hb dX4_addSession_104 rfl (lv_at hl 1 rfl) ?_
      refine va_get hx hb hts in_X4 hown hK hP 2 rfl rfl 0 (by decide) (hts _ q1596) (fun _ h => h) rfl dX4_addSession_105 ?_
      refine lv_iload_n hx hb dX4_addSession_108 rfl (lv_at hl 0 rfl) ?_
      refine r_iald (v := nI (bI9 B)) hx hb hK hP 0 0 rfl rfl (i := 19 * (sN B) + 70) (by omega) (by omega) ((pk_un (by omega)).trans ((pk_un (by omega)).trans ((pk_un (by omega)).trans ((pk_un (by omega)).trans (pk_us))))) dX4_addSession_109 ?_
      have hq9 : o_addSes B d = (0, nI (bI9 B), wI (wS B (bS B ++ [(bI9 B, d_686, [])])) (bI9 B + 1)) := by unfold o_addSes; rw [hir_690] <;> first | rfl | rw [if_neg (by omega)] | (rw [if_neg (by omega)]; rfl) | (dsimp only; rw [if_neg (by omega)]) | (dsimp only; rw [if_neg (by omega)]; rfl)
      have hP : va_P G.1 CL [(sa, .inl (G.2 0, 830, .inl (upd (upd (upd (upd (upd f (19 * (sN B) + 70) (nI (bI9 B))) (19 * (sN B) + 71) (nI d_686)) (19 * (sN B) + 72) (nI 0)) 2 (nI ((sN B) + 1))) 1 (nI ((bI9 B) + 1))))), (za, .inl (G.2 0, 6, .inl zf)), (m0, .inr (6, [.ref sa, .ref oa, .ref pa, .ref la, .ref za, .ref na, .int (nI (min 6 (u + 1))), .int (nI ((t + 1) % 6)), .int gw, .int gd, .int gm, .int gr, .int (nI ((o_addSes B d).1)), .int gv])), (ta, .inl (G.2 0, 830, .inl f))] H := by rw [hq9]; exact hP
      have hD : va_D A [(sa, .inl (G.2 0, 830, .inl (upd (upd (upd (upd (upd f (19 * (sN B) + 70) (nI (bI9 B))) (19 * (sN B) + 71) (nI d_686)) (19 * (sN B) + 72) (nI 0)) 2 (nI ((sN B) + 1))) 1 (nI ((bI9 B) + 1))))), (za, .inl (G.2 0, 6, .inl zf)), (m0, .inr (6, [.ref sa, .ref oa, .ref pa, .ref la, .ref za, .ref na, .int (nI (min 6 (u + 1))), .int (nI ((t + 1) % 6)), .int gw, .int gd, .int gm, .int gr, .int (nI ((o_addSes B d).1)), .int gv])), (ta, .inl (G.2 0, 830, .inl f))] := by rw [hq9]; exact hD
      have hP9 : va_P G.1 CL [(m0, .inr (6, [.ref sa, .ref oa, .ref pa, .ref la, .ref za, .ref na, .int (nI (min 6 (u + 1))), .int (nI ((t + 1) % 6)), .int gw, .int gd, .int gm, .int gr, .int (nI ((o_addSes B d).1)), .int gv])), (sa, .inl (G.2 0, 830, .inl (upd (upd (upd (upd (upd f (19 * (sN B) + 70) (nI (bI9 B))) (19 * (sN B) + 71) (nI d_686)) (19 * (sN B) + 72) (nI 0)) 2 (nI ((sN B) + 1))) 1 (nI ((bI9 B) + 1))))), (ta, .inl (G.2 0, 830, .inl f)), (za, .inl (G.2 0, 6, .inl zf))] H := hP.sub [2, 0, 3, 1] rfl
      have hD9 : va_D A [(m0, .inr (6, [.ref sa, .ref oa, .ref pa, .ref la, .ref za, .ref na, .int (nI (min 6 (u + 1))), .int (nI ((t + 1) % 6)), .int gw, .int gd, .int gm, .int gr, .int (nI ((o_addSes B d).1)), .int gv])), (sa, .inl (G.2 0, 830, .inl (upd (upd (upd (upd (upd f (19 * (sN B) + 70) (nI (bI9 B))) (19 * (sN B) + 71) (nI d_686)) (19 * (sN B) + 72) (nI 0)) 2 (nI ((sN B) + 1))) 1 (nI ((bI9 B) + 1))))), (ta, .inl (G.2 0, 830, .inl f)), (za, .inl (G.2 0, 6, .inl zf))] := hD.sub [2, 0, 3, 1] (by decide) rfl
      exact end_i hx hb hr hlk (rfl) (qc_of ⟨nI (bI9 B), upd (upd (upd (upd (upd f (19 * (sN B) + 70) (nI (bI9 B))) (19 * (sN B) + 71) (nI d_686)) (19 * (sN B) + 72) (nI 0)) 2 (nI ((sN B) + 1))) 1 (nI ((bI9 B) + 1)), ((t + 1) % 6), (min 6 (u + 1)), f, zf⟩ (v := some (.int (nI (bI9 B)))) (by rfl) (by rw [hq9]; exact ⟨fun z => absurd rfl z, fun _ => ⟨rfl, MR_addSes hI hM (by omega), rfl, rfl, rfl⟩⟩) hP9 hD9 (trivial) hS) hS dX4_addSession_110 (show 0 ≤ 0 from by first | exact Nat.le_refl _ | decide | omega) (show 0 ≤ 0 from by first | exact Nat.le_refl _ | decide | omega)
    · refine lv_iconst (v := nI 1) hx hb dX4_addSession_25 (by decide) ?_
      refine lv_goto (tgt := 30) hx hb dX4_addSession_26 (by decide) ?_
      refine lv_iconst (v := nI 2) hx hb dX4_addSession_30 (by decide) ?_
      have hF := hF_of (wc := [(m0, .inr (6, [.ref sa, .ref oa, .ref pa, .ref la, .ref za, .ref na, .int (nI u), .int (nI t), .int gw, .int gd, .int gm, .int gr, .int (nI 0), .int gv]))]) hD hS hA [3] rfl
      refine go_ct hS hP hD [3] [0, 1, 2] hF rfl rfl (by decide) (by decide)
          (va_runV (As := [.int (nI 1), .int (nI 2)]) (rest := []) cf (mX4_isThrown_t l G m0 sa oa pa la za na (nI u) (nI t) gw gd gm gr (nI 0) gv 2  H.size) (cwV 2 hts (lw_V q1650 q1652 qs20 q58 q1653) rfl rfl rfl (by decide +kernel) ⟨Nat.le_of_ble_eq_true rfl, Nat.le_of_ble_eq_true rfl⟩) (preV_of hKB hE hS hF (va_recv hK hP (ci := 6) (q0 := 3) rfl rfl) (va_P.sub hP [3] rfl) ((va_D.sub hD [3] (by decide) rfl).weaken (fun _ _ _ _ => trivial)) trivial) rfl rfl hl.1 rfl (lv_room (Nat.le_of_ble_eq_true rfl)) dX4_addSession_31 ⟨show 0 + 0 ≤ 0 from by first | decide | omega, show 0 + 0 ≤ 0 from by first | decide | omega⟩)
          (fun u_ H locs hq hph (hP : va_P G.1 CL [(sa, .inl (G.2 0, 830, .inl f)), (ta, .inl (G.2 0, 830, .inl h)), (za, .inl (G.2 0, 6, .inl zf)), (m0, .inr (6, [.ref sa, .ref oa, .ref pa, .ref la, .ref za, .ref na, .int (nI u), .int (nI t), .int gw, .int gd, .int gm, .int gr, .int (nI 2), .int gv]))] H) (hD : va_D A [(sa, .inl (G.2 0, 830, .inl f)), (ta, .inl (G.2 0, 830, .inl h)), (za, .inl (G.2 0, 6, .inl zf)), (m0, .inr (6, [.ref sa, .ref oa, .ref pa, .ref la, .ref za, .ref na, .int (nI u), .int (nI t), .int gw, .int gd, .int gm, .int gr, .int (nI 2), .int gv]))]) hS hfz hfk => ?_)
      refine W.eq (g2 := F0 m 34 ls [.int (nI 1)]) rfl ?_
      refine n_if_eq (tgt := 39) hx hb (by omega) dX4_addSession_34 (by decide) (fun c_695 => absurd c_695 (by omega)) (fun c_695 => ?_)
      refine lv_iconst (v := nI 0) hx hb dX4_addSession_37 (by decide) ?_
      have hq9 : o_addSes B d = (2, 0, B) := by unfold o_addSes; rw [hir_690] <;> first | rfl | rw [if_pos (by omega)] | (rw [if_pos (by omega)]; rfl) | (dsimp only; rw [if_pos (by omega)]) | (dsimp only; rw [if_pos (by omega)]; rfl)
      have hP : va_P G.1 CL [(sa, .inl (G.2 0, 830, .inl f)), (ta, .inl (G.2 0, 830, .inl h)), (za, .inl (G.2 0, 6, .inl zf)), (m0, .inr (6, [.ref sa, .ref oa, .ref pa, .ref la, .ref za, .ref na, .int (nI u), .int (nI t), .int gw, .int gd, .int gm, .int gr, .int (nI ((o_addSes B d).1)), .int gv]))] H := by rw [hq9]; exact hP
      have hD : va_D A [(sa, .inl (G.2 0, 830, .inl f)), (ta, .inl (G.2 0, 830, .inl h)), (za, .inl (G.2 0, 6, .inl zf)), (m0, .inr (6, [.ref sa, .ref oa, .ref pa, .ref la, .ref za, .ref na, .int (nI u), .int (nI t), .int gw, .int gd, .int gm, .int gr, .int (nI ((o_addSes B d).1)), .int gv]))] := by rw [hq9]; exact hD
      have hP9 : va_P G.1 CL [(m0, .inr (6, [.ref sa, .ref oa, .ref pa, .ref la, .ref za, .ref na, .int (nI u), .int (nI t), .int gw, .int gd, .int gm, .int gr, .int (nI ((o_addSes B d).1)), .int gv])), (sa, .inl (G.2 0, 830, .inl f)), (ta, .inl (G.2 0, 830, .inl h)), (za, .inl (G.2 0, 6, .inl zf))] H := hP.sub [3, 0, 1, 2] rfl
      have hD9 : va_D A [(m0, .inr (6, [.ref sa, .ref oa, .ref pa, .ref la, .ref za, .ref na, .int (nI u), .int (nI t), .int gw, .int gd, .int gm, .int gr, .int (nI ((o_addSes B d).1)), .int gv])), (sa, .inl (G.2 0, 830, .inl f)), (ta, .inl (G.2 0, 830, .inl h)), (za, .inl (G.2 0, 6, .inl zf))] := hD.sub [3, 0, 1, 2] (by decide) rfl
      exact end_i hx hb hr hlk (rfl) (qc_of ⟨nI 0, f, t, u, h, zf⟩ (v := some (.int (nI 0))) (by rfl) (by rw [hq9]; exact ⟨fun _ => ⟨rfl, rfl, rfl, rfl⟩, fun z => absurd (show (2 : Nat) = 0 from z) (by decide)⟩) hP9 hD9 (trivial) hS) hS dX4_addSession_38 (show 0 ≤ 0 from by first | exact Nat.le_refl _ | decide | omega) (show 0 ≤ 0 from by first | exact Nat.le_refl _ | decide | omega)
  · refine lv_ton (n := 1) rfl ?_
    have hir_696 : inR d 0 (bD B) = none := inR_none (fun z => absurd z (hq_684.mp rfl))
    refine lv_iconst (v := nI 1) hx hb dX4_addSession_6 (by decide) ?_
    have hF := hF_of (wc := [(m0, .inr (6, [.ref sa, .ref oa, .ref pa, .ref la, .ref za, .ref na, .int (nI u), .int (nI t), .int gw, .int gd, .int gm, .int gr, .int gh, .int gv]))]) hD hS hA [0] rfl
    refine go_ct hS hP hD [0] [1, 2, 3] hF rfl rfl (by decide) (by decide)
        (va_runV (As := [.int (nI 1), .int (nI 1)]) (rest := []) cf (mX4_isThrown_t l G m0 sa oa pa la za na (nI u) (nI t) gw gd gm gr gh gv 1  H.size) (cwV 2 hts (lw_V q1650 q1652 qs20 q58 q1653) rfl rfl rfl (by decide +kernel) ⟨Nat.le_of_ble_eq_true rfl, Nat.le_of_ble_eq_true rfl⟩) (preV_of hKB hE hS hF (va_recv hK hP (ci := 6) (q0 := 0) rfl rfl) (va_P.sub hP [0] rfl) ((va_D.sub hD [0] (by decide) rfl).weaken (fun _ _ _ _ => trivial)) trivial) rfl rfl hl.1 rfl (lv_room (Nat.le_of_ble_eq_true rfl)) dX4_addSession_7 ⟨show 0 + 0 ≤ 0 from by first | decide | omega, show 0 + 0 ≤ 0 from by first | decide | omega⟩)
        (fun u_ H locs hq hph (hP : va_P G.1 CL [(sa, .inl (G.2 0, 830, .inl f)), (ta, .inl (G.2 0, 830, .inl h)), (za, .inl (G.2 0, 6, .inl zf)), (m0, .inr (6, [.ref sa, .ref oa, .ref pa, .ref la, .ref za, .ref na, .int (nI u), .int (nI t), .int gw, .int gd, .int gm, .int gr, .int (nI 1), .int gv]))] H) (hD : va_D A [(sa, .inl (G.2 0, 830, .inl f)), (ta, .inl (G.2 0, 830, .inl h)), (za, .inl (G.2 0, 6, .inl zf)), (m0, .inr (6, [.ref sa, .ref oa, .ref pa, .ref la, .ref za, .ref na, .int (nI u), .int (nI t), .int gw, .int gd, .int gm, .int gr, .int (nI 1), .int gv]))]) hS hfz hfk => ?_)
    refine W.eq (g2 := F0 m 10 ls [.int (nI 1)]) rfl ?_
    refine n_if_ne (tgt := 37) hx hb (by omega) dX4_addSession_10 (by decide) (fun c_697 => ?_) (fun c_697 => absurd c_697 (by omega))
    refine lv_iconst (v := nI 0) hx hb dX4_addSession_37 (by decide) ?_
    have hq9 : o_addSes B d = (1, 0, B) := by unfold o_addSes; rw [hir_696] <;> rfl
    have hP : va_P G.1 CL [(sa, .inl (G.2 0, 830, .inl f)), (ta, .inl (G.2 0, 830, .inl h)), (za, .inl (G.2 0, 6, .inl zf)), (m0, .inr (6, [.ref sa, .ref oa, .ref pa, .ref la, .ref za, .ref na, .int (nI u), .int (nI t), .int gw, .int gd, .int gm, .int gr, .int (nI ((o_addSes B d).1)), .int gv]))] H := by rw [hq9]; exact hP
    have hD : va_D A [(sa, .inl (G.2 0, 830, .inl f)), (ta, .inl (G.2 0, 830, .inl h)), (za, .inl (G.2 0, 6, .inl zf)), (m0, .inr (6, [.ref sa, .ref oa, .ref pa, .ref la, .ref za, .ref na, .int (nI u), .int (nI t), .int gw, .int gd, .int gm, .int gr, .int (nI ((o_addSes B d).1)), .int gv]))] := by rw [hq9]; exact hD
    have hP9 : va_P G.1 CL [(m0, .inr (6, [.ref sa, .ref oa, .ref pa, .ref la, .ref za, .ref na, .int (nI u), .int (nI t), .int gw, .int gd, .int gm, .int gr, .int (nI ((o_addSes B d).1)), .int gv])), (sa, .inl (G.2 0, 830, .inl f)), (ta, .inl (G.2 0, 830, .inl h)), (za, .inl (G.2 0, 6, .inl zf))] H := hP.sub [3, 0, 1, 2] rfl
    have hD9 : va_D A [(m0, .inr (6, [.ref sa, .ref oa, .ref pa, .ref la, .ref za, .ref na, .int (nI u), .int (nI t), .int gw, .int gd, .int gm, .int gr, .int (nI ((o_addSes B d).1)), .int gv])), (sa, .inl (G.2 0, 830, .inl f)), (ta, .inl (G.2 0, 830, .inl h)), (za, .inl (G.2 0, 6, .inl zf))] := hD.sub [3, 0, 1, 2] (by decide) rfl
    exact end_i hx hb hr hlk (rfl) (qc_of ⟨nI 0, f, t, u, h, zf⟩ (v := some (.int (nI 0))) (by rfl) (by rw [hq9]; exact ⟨fun _ => ⟨rfl, rfl, rfl, rfl⟩, fun z => absurd (show (1 : Nat) = 0 from z) (by decide)⟩) hP9 hD9 (trivial) hS) hS dX4_addSession_38 (show 0 ≤ 0 from by first | exact Nat.le_refl _ | decide | omega) (show 0 ≤ 0 from by first | exact Nat.le_refl _ | decide | omega)

set_option maxHeartbeats 4000000 in
theorem mX4_addPart (l : Launch) (G : Gt) (m0 : Nat) (sa : Nat) (oa : Nat) (pa : Nat) (la : Nat) (za : Nat) (na : Nat) (gw : Int32) (gd : Int32) (gm : Int32) (gr : Int32) (gh : Int32) (gv : Int32) (f : Nat → Int32) (B : Bk) (t : Nat) (u : Nat) (ta : Nat) (h : Nat → Int32) (og : Nat → Option Nat) (zf : Nat → Int32) (id : Int32) (mn : Int32) (it : Int32) (hM : MR f B) (hI : Inv B) (ht : t < 6) (hu : u ≤ 6) (hog : og ((t + 1) % 6) = some ta) : CT l G yX4_addPart cX4_addPart 6 (some .int) ({ frames := 3, cells := 0, slots := 0, locals := 56 } : Room) [.ref m0, .int id, .int mn, .int it] [(m0, .inr (6, [.ref sa, .ref oa, .ref pa, .ref la, .ref za, .ref na, .int (nI u), .int (nI t), .int gw, .int gd, .int gm, .int gr, .int gh, .int gv])), (sa, .inl (G.2 0, 830, .inl f)), (ta, .inl (G.2 0, 830, .inl h)), (za, .inl (G.2 0, 6, .inl zf))] (fun (A : Nat → Prop) (H : Heap) => roW G A H [(oa, .inl (G.2 7, 6, .inr (.inr (.inr (.inr og)))))]) (S := Int32 × (Nat → Int32) × Nat × Nat × (Nat → Int32) × (Nat → Int32)) (fun (u_ : Int32 × (Nat → Int32) × Nat × Nat × (Nat → Int32) × (Nat → Int32)) => some (.int u_.1)) (fun (u_ : Int32 × (Nat → Int32) × Nat × Nat × (Nat → Int32) × (Nat → Int32)) => MutP (o_addPart B id mn it) f t u h u_.1 u_.2.1 u_.2.2.1 u_.2.2.2.1 u_.2.2.2.2.1) (fun (u_ : Int32 × (Nat → Int32) × Nat × Nat × (Nat → Int32) × (Nat → Int32)) => [(m0, .inr (6, [.ref sa, .ref oa, .ref pa, .ref la, .ref za, .ref na, .int (nI u_.2.2.2.1), .int (nI u_.2.2.1), .int gw, .int gd, .int gm, .int gr, .int (nI ((o_addPart B id mn it).1)), .int gv])), (sa, .inl (G.2 0, 830, .inl u_.2.1)), (ta, .inl (G.2 0, 830, .inl u_.2.2.2.2.1)), (za, .inl (G.2 0, 6, .inl u_.2.2.2.2.2))]) (fun (u_ : Int32 × (Nat → Int32) × Nat × Nat × (Nat → Int32) × (Nat → Int32)) (H : Heap) => True) := by
  refine CT.of (by decide) (Nat.le_of_ble_eq_true rfl) ?_
  intro p e s m below meth c ls A H locs h9 hH0 hP hS
  obtain ⟨cf, hr, hlk, hnm, hKB, hE, -, hD, -, hA, hAw, hR0, hl⟩ := h9
  have hx := cf.1
  have hb := cf.2.1
  have hml := cf.2.2.1
  have hown : s.vm.findClass RX4 = some m.cls := cf.2.2.2.1
  have hts := cf.2.2.2.2
  have hK := hKB.1
  have hl : lv_has ls 6 [(0, .ref m0), (1, .int id), (2, .int mn), (3, .int it)] := hl
  have iN := iv_sN hI
  have iT := iv_tN hI
  have iD := iv_bD hI
  have iE := iv_bE hI
  have iW := iv_id hI
  refine lv_aload_n hx hb dX4_addPart_0 rfl (lv_at hl 0 rfl) ?_
  refine lv_iload_n hx hb dX4_addPart_1 rfl (lv_at hl 1 rfl) ?_
  have hF := hF_of (wc := []) hD hS hA [] rfl
  have hro_698 : va_P G.1 CL [(m0, .inr (6, [.ref sa, .ref oa, .ref pa, .ref la, .ref za, .ref na, .int (nI u), .int (nI t), .int gw, .int gd, .int gm, .int gr, .int gh, .int gv])), (sa, .inl (G.2 0, 830, .inl f))] H := (va_P.sub hP [0, 1] rfl)
  refine go_ct hS hP hD [] [0, 1, 2, 3] hF rfl rfl (by decide) (by decide)
      (va_runV (As := [.int id]) (rest := []) cf (mX4_place l G m0 sa oa pa la za na (nI u) (nI t) gw gd gm gr gh gv f B id (show MR f B from by first | assumption | omega) (show Inv B from by first | assumption | omega) H.size) (cwV 1 hts (lw_V q1739 q1741 qs30 q58 q1742) rfl rfl rfl (by decide +kernel) ⟨Nat.le_of_ble_eq_true rfl, Nat.le_of_ble_eq_true rfl⟩) (preV_of hKB hE hS hF (va_recv hK hP (ci := 6) (q0 := 0) rfl rfl) (va_P.sub hP [] rfl) ((va_D.sub hD [] (by decide) rfl).weaken (fun _ _ _ _ => trivial)) (roW.nil hro_698)) rfl rfl hl.1 rfl (lv_room (Nat.le_of_ble_eq_true rfl)) dX4_addPart_2 ⟨show 0 + 0 ≤ 0 from by first | decide | omega, show 0 + 0 ≤ 0 from by first | decide | omega⟩)
      (fun u_ H locs hq hph (hP : va_P G.1 CL [(m0, .inr (6, [.ref sa, .ref oa, .ref pa, .ref la, .ref za, .ref na, .int (nI u), .int (nI t), .int gw, .int gd, .int gm, .int gr, .int gh, .int gv])), (sa, .inl (G.2 0, 830, .inl f)), (ta, .inl (G.2 0, 830, .inl h)), (za, .inl (G.2 0, 6, .inl zf))] H) (hD : va_D A [(m0, .inr (6, [.ref sa, .ref oa, .ref pa, .ref la, .ref za, .ref na, .int (nI u), .int (nI t), .int gw, .int gd, .int gm, .int gr, .int gh, .int gv])), (sa, .inl (G.2 0, 830, .inl f)), (ta, .inl (G.2 0, 830, .inl h)), (za, .inl (G.2 0, 6, .inl zf))]) hS hfz hfk => ?_)
  obtain ⟨fo_699, rfl⟩ : ∃ z, z = u_ := ⟨_, rfl⟩
  have hP : va_P G.1 CL [(m0, .inr (6, [.ref sa, .ref oa, .ref pa, .ref la, .ref za, .ref na, .int (nI u), .int (nI t), .int gw, .int gd, .int gm, .int gr, .int gh, .int gv])), (sa, .inl (G.2 0, 830, .inl f)), (ta, .inl (G.2 0, 830, .inl h)), (za, .inl (G.2 0, 6, .inl zf))] H := hP
  have hD : va_D A [(m0, .inr (6, [.ref sa, .ref oa, .ref pa, .ref la, .ref za, .ref na, .int (nI u), .int (nI t), .int gw, .int gd, .int gm, .int gr, .int gh, .int gv])), (sa, .inl (G.2 0, 830, .inl f)), (ta, .inl (G.2 0, 830, .inl h)), (za, .inl (G.2 0, 6, .inl zf))] := hD
  have hq_700 : PL B id (sN B) fo_699 := hq
  refine W.eq (g2 := F0 m 5 ls [.int (oI fo_699)]) rfl ?_
  have hix_701 := ixS_eq hI hq_700
  rcases fo_699 with _ | k_702
  · refine lv_toi (y := (-1)) rfl ?_
    refine lv_istore (lv' := [(4, .int (-1)), (0, .ref m0), (1, .int id), (2, .int mn), (3, .int it)]) hx hb dX4_addPart_5 hl (by decide) rfl (fun ls hl => ?_)
    refine lv_aload_n hx hb dX4_addPart_7 rfl (lv_at hl 1 rfl) ?_
    refine lv_iload hx hb dX4_addPart_8 (lv_at hl 0 rfl) ?_
    refine lv_if_ge (tgt := 17) hx hb dX4_addPart_10 (by decide) (fun c_703 => absurd c_703 (by decide)) (fun c_703 => ?_)
    refine lv_iconst (v := nI 1) hx hb dX4_addPart_13 (by decide) ?_
    refine lv_goto (tgt := 18) hx hb dX4_addPart_14 (by decide) ?_
    refine lv_iconst (v := nI 1) hx hb dX4_addPart_18 (by decide) ?_
    have hF := hF_of (wc := [(m0, .inr (6, [.ref sa, .ref oa, .ref pa, .ref la, .ref za, .ref na, .int (nI u), .int (nI t), .int gw, .int gd, .int gm, .int gr, .int gh, .int gv]))]) hD hS hA [0] rfl
    refine go_ct hS hP hD [0] [1, 2, 3] hF rfl rfl (by decide) (by decide)
        (va_runV (As := [.int (nI 1), .int (nI 1)]) (rest := []) cf (mX4_isThrown_t l G m0 sa oa pa la za na (nI u) (nI t) gw gd gm gr gh gv 1  H.size) (cwV 2 hts (lw_V q1650 q1652 qs20 q58 q1653) rfl rfl rfl (by decide +kernel) ⟨Nat.le_of_ble_eq_true rfl, Nat.le_of_ble_eq_true rfl⟩) (preV_of hKB hE hS hF (va_recv hK hP (ci := 6) (q0 := 0) rfl rfl) (va_P.sub hP [0] rfl) ((va_D.sub hD [0] (by decide) rfl).weaken (fun _ _ _ _ => trivial)) trivial) rfl rfl hl.1 rfl (lv_room (Nat.le_of_ble_eq_true rfl)) dX4_addPart_19 ⟨show 0 + 0 ≤ 0 from by first | decide | omega, show 0 + 0 ≤ 0 from by first | decide | omega⟩)
        (fun u_ H locs hq hph (hP : va_P G.1 CL [(sa, .inl (G.2 0, 830, .inl f)), (ta, .inl (G.2 0, 830, .inl h)), (za, .inl (G.2 0, 6, .inl zf)), (m0, .inr (6, [.ref sa, .ref oa, .ref pa, .ref la, .ref za, .ref na, .int (nI u), .int (nI t), .int gw, .int gd, .int gm, .int gr, .int (nI 1), .int gv]))] H) (hD : va_D A [(sa, .inl (G.2 0, 830, .inl f)), (ta, .inl (G.2 0, 830, .inl h)), (za, .inl (G.2 0, 6, .inl zf)), (m0, .inr (6, [.ref sa, .ref oa, .ref pa, .ref la, .ref za, .ref na, .int (nI u), .int (nI t), .int gw, .int gd, .int gm, .int gr, .int (nI 1), .int gv]))]) hS hfz hfk => ?_)
    refine W.eq (g2 := F0 m 22 ls [.int (nI 1)]) rfl ?_
    refine n_if_ne (tgt := 104) hx hb (by omega) dX4_addPart_22 (by decide) (fun c_704 => ?_) (fun c_704 => absurd c_704 (by omega))
    refine lv_iconst (v := nI 0) hx hb dX4_addPart_104 (by decide) ?_
    have hq9 : o_addPart B id mn it = (1, 0, B) := by unfold o_addPart; rw [hix_701] <;> rfl
    have hP : va_P G.1 CL [(sa, .inl (G.2 0, 830, .inl f)), (ta, .inl (G.2 0, 830, .inl h)), (za, .inl (G.2 0, 6, .inl zf)), (m0, .inr (6, [.ref sa, .ref oa, .ref pa, .ref la, .ref za, .ref na, .int (nI u), .int (nI t), .int gw, .int gd, .int gm, .int gr, .int (nI ((o_addPart B id mn it).1)), .int gv]))] H := by rw [hq9]; exact hP
    have hD : va_D A [(sa, .inl (G.2 0, 830, .inl f)), (ta, .inl (G.2 0, 830, .inl h)), (za, .inl (G.2 0, 6, .inl zf)), (m0, .inr (6, [.ref sa, .ref oa, .ref pa, .ref la, .ref za, .ref na, .int (nI u), .int (nI t), .int gw, .int gd, .int gm, .int gr, .int (nI ((o_addPart B id mn it).1)), .int gv]))] := by rw [hq9]; exact hD
    have hP9 : va_P G.1 CL [(m0, .inr (6, [.ref sa, .ref oa, .ref pa, .ref la, .ref za, .ref na, .int (nI u), .int (nI t), .int gw, .int gd, .int gm, .int gr, .int (nI ((o_addPart B id mn it).1)), .int gv])), (sa, .inl (G.2 0, 830, .inl f)), (ta, .inl (G.2 0, 830, .inl h)), (za, .inl (G.2 0, 6, .inl zf))] H := hP.sub [3, 0, 1, 2] rfl
    have hD9 : va_D A [(m0, .inr (6, [.ref sa, .ref oa, .ref pa, .ref la, .ref za, .ref na, .int (nI u), .int (nI t), .int gw, .int gd, .int gm, .int gr, .int (nI ((o_addPart B id mn it).1)), .int gv])), (sa, .inl (G.2 0, 830, .inl f)), (ta, .inl (G.2 0, 830, .inl h)), (za, .inl (G.2 0, 6, .inl zf))] := hD.sub [3, 0, 1, 2] (by decide) rfl
    exact end_i hx hb hr hlk (rfl) (qc_of ⟨nI 0, f, t, u, h, zf⟩ (v := some (.int (nI 0))) (by rfl) (by rw [hq9]; exact ⟨fun _ => ⟨rfl, rfl, rfl, rfl⟩, fun z => absurd (show (1 : Nat) = 0 from z) (by decide)⟩) hP9 hD9 (trivial) hS) hS dX4_addPart_105 (show 0 ≤ 0 from by first | exact Nat.le_refl _ | decide | omega) (show 0 ≤ 0 from by first | exact Nat.le_refl _ | decide | omega)
  · refine lv_ton (n := k_702) rfl ?_
    have hkk : k_702 < sN B := (hq_700).1
    refine lv_istore (lv' := [(4, .int (nI k_702)), (0, .ref m0), (1, .int id), (2, .int mn), (3, .int it)]) hx hb dX4_addPart_5 hl (by decide) rfl (fun ls hl => ?_)
    refine lv_aload_n hx hb dX4_addPart_7 rfl (lv_at hl 1 rfl) ?_
    refine lv_iload hx hb dX4_addPart_8 (lv_at hl 0 rfl) ?_
    refine n_if_ge (tgt := 17) hx hb (by omega) dX4_addPart_10 (by decide) ?_
    refine lv_iconst (v := nI 0) hx hb dX4_addPart_17 (by decide) ?_
    refine lv_iconst (v := nI 1) hx hb dX4_addPart_18 (by decide) ?_
    have hF := hF_of (wc := [(m0, .inr (6, [.ref sa, .ref oa, .ref pa, .ref la, .ref za, .ref na, .int (nI u), .int (nI t), .int gw, .int gd, .int gm, .int gr, .int gh, .int gv]))]) hD hS hA [0] rfl
    refine go_ct hS hP hD [0] [1, 2, 3] hF rfl rfl (by decide) (by decide)
        (va_runV (As := [.int (nI 0), .int (nI 1)]) (rest := []) cf (mX4_isThrown_f l G m0 sa oa pa la za na (nI u) (nI t) gw gd gm gr gh gv 1  H.size) (cwV 2 hts (lw_V q1650 q1652 qs20 q58 q1653) rfl rfl rfl (by decide +kernel) ⟨Nat.le_of_ble_eq_true rfl, Nat.le_of_ble_eq_true rfl⟩) (preV_of hKB hE hS hF (va_recv hK hP (ci := 6) (q0 := 0) rfl rfl) (va_P.sub hP [0] rfl) ((va_D.sub hD [0] (by decide) rfl).weaken (fun _ _ _ _ => trivial)) trivial) rfl rfl hl.1 rfl (lv_room (Nat.le_of_ble_eq_true rfl)) dX4_addPart_19 ⟨show 0 + 0 ≤ 0 from by first | decide | omega, show 0 + 0 ≤ 0 from by first | decide | omega⟩)
        (fun u_ H locs hq hph (hP : va_P G.1 CL [(sa, .inl (G.2 0, 830, .inl f)), (ta, .inl (G.2 0, 830, .inl h)), (za, .inl (G.2 0, 6, .inl zf)), (m0, .inr (6, [.ref sa, .ref oa, .ref pa, .ref la, .ref za, .ref na, .int (nI u), .int (nI t), .int gw, .int gd, .int gm, .int gr, .int (nI 0), .int gv]))] H) (hD : va_D A [(sa, .inl (G.2 0, 830, .inl f)), (ta, .inl (G.2 0, 830, .inl h)), (za, .inl (G.2 0, 6, .inl zf)), (m0, .inr (6, [.ref sa, .ref oa, .ref pa, .ref la, .ref za, .ref na, .int (nI u), .int (nI t), .int gw, .int gd, .int gm, .int gr, .int (nI 0), .int gv]))]) hS hfz hfk => ?_)
    refine W.eq (g2 := F0 m 22 ls [.int (nI 0)]) rfl ?_
    refine n_if_ne (tgt := 104) hx hb (by omega) dX4_addPart_22 (by decide) (fun c_705 => absurd c_705 (by omega)) (fun c_705 => ?_)
    refine lv_aload_n hx hb dX4_addPart_25 rfl (lv_at hl 1 rfl) ?_
    refine lv_iload_n hx hb dX4_addPart_26 rfl (lv_at hl 3 rfl) ?_
    refine lv_iconst (v := nI 1) hx hb dX4_addPart_27 (by decide) ?_
    refine lv_bipush (v := nI 120) hx hb dX4_addPart_28 (by decide) ?_
    have hF := hF_of (wc := []) hD hS hA [] rfl
    refine go_ct hS hP hD [] [0, 1, 2, 3] hF rfl rfl (by decide) (by decide)
        (va_runS (As := [.int mn, .int (nI 1), .int (nI 120)]) (rest := [.ref m0]) cf (mX4_isIn l G mn (nI 1) (nI 120)  H.size) (va_cwS 3 hts (lw_S q1647 q1648 q58 q1649) rfl rfl rfl (by decide +kernel) ⟨Nat.le_of_ble_eq_true rfl, Nat.le_of_ble_eq_true rfl⟩) (preS_of hKB hE hS hF (va_P.sub hP [] rfl) ((va_D.sub hD [] (by decide) rfl).weaken (fun _ _ _ _ => trivial)) trivial) rfl rfl hl.1 rfl (lv_room (Nat.le_of_ble_eq_true rfl)) dX4_addPart_30 ⟨show 0 + 0 ≤ 0 from by first | decide | omega, show 0 + 0 ≤ 0 from by first | decide | omega⟩)
        (fun u_ H locs hq hph (hP : va_P G.1 CL [(sa, .inl (G.2 0, 830, .inl f)), (ta, .inl (G.2 0, 830, .inl h)), (za, .inl (G.2 0, 6, .inl zf)), (m0, .inr (6, [.ref sa, .ref oa, .ref pa, .ref la, .ref za, .ref na, .int (nI u), .int (nI t), .int gw, .int gd, .int gm, .int gr, .int (nI 0), .int gv]))] H) (hD : va_D A [(sa, .inl (G.2 0, 830, .inl f)), (ta, .inl (G.2 0, 830, .inl h)), (za, .inl (G.2 0, 6, .inl zf)), (m0, .inr (6, [.ref sa, .ref oa, .ref pa, .ref la, .ref za, .ref na, .int (nI u), .int (nI t), .int gw, .int gd, .int gm, .int gr, .int (nI 0), .int gv]))]) hS hfz hfk => ?_)
    obtain ⟨b_706, rfl⟩ : ∃ z, z = u_ := ⟨_, rfl⟩
    have hP : va_P G.1 CL [(sa, .inl (G.2 0, 830, .inl f)), (ta, .inl (G.2 0, 830, .inl h)), (za, .inl (G.2 0, 6, .inl zf)), (m0, .inr (6, [.ref sa, .ref oa, .ref pa, .ref la, .ref za, .ref na, .int (nI u), .int (nI t), .int gw, .int gd, .int gm, .int gr, .int (nI 0), .int gv]))] H := hP
    have hD : va_D A [(sa, .inl (G.2 0, 830, .inl f)), (ta, .inl (G.2 0, 830, .inl h)), (za, .inl (G.2 0, 6, .inl zf)), (m0, .inr (6, [.ref sa, .ref oa, .ref pa, .ref la, .ref za, .ref na, .int (nI u), .int (nI t), .int gw, .int gd, .int gm, .int gr, .int (nI 0), .int gv]))] := hD
    have hq_707 : (b_706 = true ↔ (nI 1) ≤ mn ∧ mn ≤ (nI 120)) := hq
    refine W.eq (g2 := F0 m 33 ls [.int (bI b_706), .ref m0]) rfl ?_
    cases b_706
    · refine lv_ton (n := 0) rfl ?_
      have hir_708 : inR mn 1 120 = none := inR_none (fun z => absurd (hq_707.mpr z) (by decide))
      refine n_if_eq (tgt := 47) hx hb (by omega) dX4_addPart_33 (by decide) (fun c_709 => ?_) (fun c_709 => absurd c_709 (by omega))
      refine lv_iconst (v := nI 1) hx hb dX4_addPart_47 (by decide) ?_
      refine lv_goto (tgt := 52) hx hb dX4_addPart_48 (by decide) ?_
      refine lv_iconst (v := nI 2) hx hb dX4_addPart_52 (by decide) ?_
      have hF := hF_of (wc := [(m0, .inr (6, [.ref sa, .ref oa, .ref pa, .ref la, .ref za, .ref na, .int (nI u), .int (nI t), .int gw, .int gd, .int gm, .int gr, .int (nI 0), .int gv]))]) hD hS hA [3] rfl
      refine go_ct hS hP hD [3] [0, 1, 2] hF rfl rfl (by decide) (by decide)
          (va_runV (As := [.int (nI 1), .int (nI 2)]) (rest := []) cf (mX4_isThrown_t l G m0 sa oa pa la za na (nI u) (nI t) gw gd gm gr (nI 0) gv 2  H.size) (cwV 2 hts (lw_V q1650 q1652 qs20 q58 q1653) rfl rfl rfl (by decide +kernel) ⟨Nat.le_of_ble_eq_true rfl, Nat.le_of_ble_eq_true rfl⟩) (preV_of hKB hE hS hF (va_recv hK hP (ci := 6) (q0 := 3) rfl rfl) (va_P.sub hP [3] rfl) ((va_D.sub hD [3] (by decide) rfl).weaken (fun _ _ _ _ => trivial)) trivial) rfl rfl hl.1 rfl (lv_room (Nat.le_of_ble_eq_true rfl)) dX4_addPart_53 ⟨show 0 + 0 ≤ 0 from by first | decide | omega, show 0 + 0 ≤ 0 from by first | decide | omega⟩)
          (fun u_ H locs hq hph (hP : va_P G.1 CL [(sa, .inl (G.2 0, 830, .inl f)), (ta, .inl (G.2 0, 830, .inl h)), (za, .inl (G.2 0, 6, .inl zf)), (m0, .inr (6, [.ref sa, .ref oa, .ref pa, .ref la, .ref za, .ref na, .int (nI u), .int (nI t), .int gw, .int gd, .int gm, .int gr, .int (nI 2), .int gv]))] H) (hD : va_D A [(sa, .inl (G.2 0, 830, .inl f)), (ta, .inl (G.2 0, 830, .inl h)), (za, .inl (G.2 0, 6, .inl zf)), (m0, .inr (6, [.ref sa, .ref oa, .ref pa, .ref la, .ref za, .ref na, .int (nI u), .int (nI t), .int gw, .int gd, .int gm, .int gr, .int (nI 2), .int gv]))]) hS hfz hfk => ?_)
      refine W.eq (g2 := F0 m 56 ls [.int (nI 1)]) rfl ?_
      refine n_if_ne (tgt := 104) hx hb (by omega) dX4_addPart_56 (by decide) (fun c_710 => ?_) (fun c_710 => absurd c_710 (by omega))
      refine lv_iconst (v := nI 0) hx hb dX4_addPart_104 (by decide) ?_
      have hq9 : o_addPart B id mn it = (2, 0, B) := by unfold o_addPart; rw [hix_701] <;> (try dsimp only) <;> rw [hir_708] <;> rfl
      have hP : va_P G.1 CL [(sa, .inl (G.2 0, 830, .inl f)), (ta, .inl (G.2 0, 830, .inl h)), (za, .inl (G.2 0, 6, .inl zf)), (m0, .inr (6, [.ref sa, .ref oa, .ref pa, .ref la, .ref za, .ref na, .int (nI u), .int (nI t), .int gw, .int gd, .int gm, .int gr, .int (nI ((o_addPart B id mn it).1)), .int gv]))] H := by rw [hq9]; exact hP
      have hD : va_D A [(sa, .inl (G.2 0, 830, .inl f)), (ta, .inl (G.2 0, 830, .inl h)), (za, .inl (G.2 0, 6, .inl zf)), (m0, .inr (6, [.ref sa, .ref oa, .ref pa, .ref la, .ref za, .ref na, .int (nI u), .int (nI t), .int gw, .int gd, .int gm, .int gr, .int (nI ((o_addPart B id mn it).1)), .int gv]))] := by rw [hq9]; exact hD
      have hP9 : va_P G.1 CL [(m0, .inr (6, [.ref sa, .ref oa, .ref pa, .ref la, .ref za, .ref na, .int (nI u), .int (nI t), .int gw, .int gd, .int gm, .int gr, .int (nI ((o_addPart B id mn it).1)), .int gv])), (sa, .inl (G.2 0, 830, .inl f)), (ta, .inl (G.2 0, 830, .inl h)), (za, .inl (G.2 0, 6, .inl zf))] H := hP.sub [3, 0, 1, 2] rfl
      have hD9 : va_D A [(m0, .inr (6, [.ref sa, .ref oa, .ref pa, .ref la, .ref za, .ref na, .int (nI u), .int (nI t), .int gw, .int gd, .int gm, .int gr, .int (nI ((o_addPart B id mn it).1)), .int gv])), (sa, .inl (G.2 0, 830, .inl f)), (ta, .inl (G.2 0, 830, .inl h)), (za, .inl (G.2 0, 6, .inl zf))] := hD.sub [3, 0, 1, 2] (by decide) rfl
      exact end_i hx hb hr hlk (rfl) (qc_of ⟨nI 0, f, t, u, h, zf⟩ (v := some (.int (nI 0))) (by rfl) (by rw [hq9]; exact ⟨fun _ => ⟨rfl, rfl, rfl, rfl⟩, fun z => absurd (show (2 : Nat) = 0 from z) (by decide)⟩) hP9 hD9 (trivial) hS) hS dX4_addPart_105 (show 0 ≤ 0 from by first | exact Nat.le_refl _ | decide | omega) (show 0 ≤ 0 from by first | exact Nat.le_refl _ | decide | omega)
    · refine lv_ton (n := 1) rfl ?_
      have hin_711 : nI 1 ≤ mn ∧ mn ≤ nI 120 := hq_707.mp rfl
      obtain ⟨d_712, hv_713, h_714, h_715⟩ := in_nat (lo := 1) (hi := 120) (by omega) (by omega) hin_711.1 hin_711.2
      have hir_716 : inR mn 1 120 = some d_712 := inR_some hv_713 h_714 h_715 (by omega)
      have hl : lv_has ls 6 [(4, .int (nI k_702)), (0, .ref m0), (1, .int id), (2, .int (nI d_712)), (3, .int it)] := by
        have e9 : ((.int (nI d_712)) : Value) = .int mn := by rw [hv_713]
        rw [e9]; exact hl
      refine n_if_eq (tgt := 47) hx hb (by omega) dX4_addPart_33 (by decide) (fun c_717 => absurd c_717 (by omega)) (fun c_717 => ?_)
      refine lv_iload_n hx hb dX4_addPart_36 rfl (lv_at hl 4 rfl) ?_
      refine lv_iconst (v := nI 0) hx hb dX4_addPart_37 (by decide) ?_
      refine lv_sipush (v := nI 500) hx hb dX4_addPart_38 (by decide) ?_
      have hF := hF_of (wc := []) hD hS hA [] rfl
      refine go_ct hS hP hD [] [0, 1, 2, 3] hF rfl rfl (by decide) (by decide)
          (va_runS (As := [.int it, .int (nI 0), .int (nI 500)]) (rest := [.ref m0]) cf (mX4_isIn l G it (nI 0) (nI 500)  H.size) (va_cwS 3 hts (lw_S q1647 q1648 q58 q1649) rfl rfl rfl (by decide +kernel) ⟨Nat.le_of_ble_eq_true rfl, Nat.le_of_ble_eq_true rfl⟩) (preS_of hKB hE hS hF (va_P.sub hP [] rfl) ((va_D.sub hD [] (by decide) rfl).weaken (fun _ _ _ _ => trivial)) trivial) rfl rfl hl.1 rfl (lv_room (Nat.le_of_ble_eq_true rfl)) dX4_addPart_41 ⟨show 0 + 0 ≤ 0 from by first | decide | omega, show 0 + 0 ≤ 0 from by first | decide | omega⟩)
          (fun u_ H locs hq hph (hP : va_P G.1 CL [(sa, .inl (G.2 0, 830, .inl f)), (ta, .inl (G.2 0, 830, .inl h)), (za, .inl (G.2 0, 6, .inl zf)), (m0, .inr (6, [.ref sa, .ref oa, .ref pa, .ref la, .ref za, .ref na, .int (nI u), .int (nI t), .int gw, .int gd, .int gm, .int gr, .int (nI 0), .int gv]))] H) (hD : va_D A [(sa, .inl (G.2 0, 830, .inl f)), (ta, .inl (G.2 0, 830, .inl h)), (za, .inl (G.2 0, 6, .inl zf)), (m0, .inr (6, [.ref sa, .ref oa, .ref pa, .ref la, .ref za, .ref na, .int (nI u), .int (nI t), .int gw, .int gd, .int gm, .int gr, .int (nI 0), .int gv]))]) hS hfz hfk => ?_)
      obtain ⟨b_718, rfl⟩ : ∃ z, z = u_ := ⟨_, rfl⟩
      have hP : va_P G.1 CL [(sa, .inl (G.2 0, 830, .inl f)), (ta, .inl (G.2 0, 830, .inl h)), (za, .inl (G.2 0, 6, .inl zf)), (m0, .inr (6, [.ref sa, .ref oa, .ref pa, .ref la, .ref za, .ref na, .int (nI u), .int (nI t), .int gw, .int gd, .int gm, .int gr, .int (nI 0), .int gv]))] H := hP
      have hD : va_D A [(sa, .inl (G.2 0, 830, .inl f)), (ta, .inl (G.2 0, 830, .inl h)), (za, .inl (G.2 0, 6, .inl zf)), (m0, .inr (6, [.ref sa, .ref oa, .ref pa, .ref la, .ref za, .ref na, .int (nI u), .int (nI t), .int gw, .int gd, .int gm, .int gr, .int (nI 0), .int gv]))] := hD
      have hq_719 : (b_718 = true ↔ (nI 0) ≤ it ∧ it ≤ (nI 500)) := hq
      refine W.eq (g2 := F0 m 44 ls [.int (bI b_718), .ref m0]) rfl ?_
      cases b_718
      · refine lv_ton (n := 0) rfl ?_
        have hir_720 : inR it 0 500 = none := inR_none (fun z => absurd (hq_719.mpr z) (by decide))
        refine n_if_ne (tgt := 51) hx hb (by omega) dX4_addPart_44 (by decide) (fun c_721 => absurd c_721 (by omega)) (fun c_721 => ?_)
        refine lv_iconst (v := nI 1) hx hb dX4_addPart_47 (by decide) ?_
        refine lv_goto (tgt := 52) hx hb dX4_addPart_48 (by decide) ?_
        refine lv_iconst (v := nI 2) hx hb dX4_addPart_52 (by decide) ?_
        have hF := hF_of (wc := [(m0, .inr (6, [.ref sa, .ref oa, .ref pa, .ref la, .ref za, .ref na, .int (nI u), .int (nI t), .int gw, .int gd, .int gm, .int gr, .int (nI 0), .int gv]))]) hD hS hA [3] rfl
        refine go_ct hS hP hD [3] [0, 1, 2] hF rfl rfl (by decide) (by decide)
            (va_runV (As := [.int (nI 1), .int (nI 2)]) (rest := []) cf (mX4_isThrown_t l G m0 sa oa pa la za na (nI u) (nI t) gw gd gm gr (nI 0) gv 2  H.size) (cwV 2 hts (lw_V q1650 q1652 qs20 q58 q1653) rfl rfl rfl (by decide +kernel) ⟨Nat.le_of_ble_eq_true rfl, Nat.le_of_ble_eq_true rfl⟩) (preV_of hKB hE hS hF (va_recv hK hP (ci := 6) (q0 := 3) rfl rfl) (va_P.sub hP [3] rfl) ((va_D.sub hD [3] (by decide) rfl).weaken (fun _ _ _ _ => trivial)) trivial) rfl rfl hl.1 rfl (lv_room (Nat.le_of_ble_eq_true rfl)) dX4_addPart_53 ⟨show 0 + 0 ≤ 0 from by first | decide | omega, show 0 + 0 ≤ 0 from by first | decide | omega⟩)
            (fun u_ H locs hq hph (hP : va_P G.1 CL [(sa, .inl (G.2 0, 830, .inl f)), (ta, .inl (G.2 0, 830, .inl h)), (za, .inl (G.2 0, 6, .inl zf)), (m0, .inr (6, [.ref sa, .ref oa, .ref pa, .ref la, .ref za, .ref na, .int (nI u), .int (nI t), .int gw, .int gd, .int gm, .int gr, .int (nI 2), .int gv]))] H) (hD : va_D A [(sa, .inl (G.2 0, 830, .inl f)), (ta, .inl (G.2 0, 830, .inl h)), (za, .inl (G.2 0, 6, .inl zf)), (m0, .inr (6, [.ref sa, .ref oa, .ref pa, .ref la, .ref za, .ref na, .int (nI u), .int (nI t), .int gw, .int gd, .int gm, .int gr, .int (nI 2), .int gv]))]) hS hfz hfk => ?_)
        refine W.eq (g2 := F0 m 56 ls [.int (nI 1)]) rfl ?_
        refine n_if_ne (tgt := 104) hx hb (by omega) dX4_addPart_56 (by decide) (fun c_722 => ?_) (fun c_722 => absurd c_722 (by omega))
        refine lv_iconst (v := nI 0) hx hb dX4_addPart_104 (by decide) ?_
        have hq9 : o_addPart B id mn it = (2, 0, B) := by unfold o_addPart; rw [hix_701] <;> (try dsimp only) <;> rw [hir_716, hir_720] <;> rfl
        have hP : va_P G.1 CL [(sa, .inl (G.2 0, 830, .inl f)), (ta, .inl (G.2 0, 830, .inl h)), (za, .inl (G.2 0, 6, .inl zf)), (m0, .inr (6, [.ref sa, .ref oa, .ref pa, .ref la, .ref za, .ref na, .int (nI u), .int (nI t), .int gw, .int gd, .int gm, .int gr, .int (nI ((o_addPart B id mn it).1)), .int gv]))] H := by rw [hq9]; exact hP
        have hD : va_D A [(sa, .inl (G.2 0, 830, .inl f)), (ta, .inl (G.2 0, 830, .inl h)), (za, .inl (G.2 0, 6, .inl zf)), (m0, .inr (6, [.ref sa, .ref oa, .ref pa, .ref la, .ref za, .ref na, .int (nI u), .int (nI t), .int gw, .int gd, .int gm, .int gr, .int (nI ((o_addPart B id mn it).1)), .int gv]))] := by rw [hq9]; exact hD
        have hP9 : va_P G.1 CL [(m0, .inr (6, [.ref sa, .ref oa, .ref pa, .ref la, .ref za, .ref na, .int (nI u), .int (nI t), .int gw, .int gd, .int gm, .int gr, .int (nI ((o_addPart B id mn it).1)), .int gv])), (sa, .inl (G.2 0, 830, .inl f)), (ta, .inl (G.2 0, 830, .inl h)), (za, .inl (G.2 0, 6, .inl zf))] H := hP.sub [3, 0, 1, 2] rfl
        have hD9 : va_D A [(m0, .inr (6, [.ref sa, .ref oa, .ref pa, .ref la, .ref za, .ref na, .int (nI u), .int (nI t), .int gw, .int gd, .int gm, .int gr, .int (nI ((o_addPart B id mn it).1)), .int gv])), (sa, .inl (G.2 0, 830, .inl f)), (ta, .inl (G.2 0, 830, .inl h)), (za, .inl (G.2 0, 6, .inl zf))] := hD.sub [3, 0, 1, 2] (by decide) rfl
        exact end_i hx hb hr hlk (rfl) (qc_of ⟨nI 0, f, t, u, h, zf⟩ (v := some (.int (nI 0))) (by rfl) (by rw [hq9]; exact ⟨fun _ => ⟨rfl, rfl, rfl, rfl⟩, fun z => absurd (show (2 : Nat) = 0 from z) (by decide)⟩) hP9 hD9 (trivial) hS) hS dX4_addPart_105 (show 0 ≤ 0 from by first | exact Nat.le_refl _ | decide | omega) (show 0 ≤ 0 from by first | exact Nat.le_refl _ | decide | omega)
      · refine lv_ton (n := 1) rfl ?_
        have hin_723 : nI 0 ≤ it ∧ it ≤ nI 500 := hq_719.mp rfl
        obtain ⟨d_724, hv_725, h_726, h_727⟩ := in_nat (lo := 0) (hi := 500) (by omega) (by omega) hin_723.1 hin_723.2
        have hir_728 : inR it 0 500 = some d_724 := inR_some hv_725 h_726 h_727 (by omega)
        have hl : lv_has ls 6 [(4, .int (nI k_702)), (0, .ref m0), (1, .int id), (2, .int (nI d_712)), (3, .int (nI d_724))] := by
          have e9 : ((.int (nI d_724)) : Value) = .int it := by rw [hv_725]
          rw [e9]; exact hl
        refine n_if_ne (tgt := 51) hx hb (by omega) dX4_addPart_44 (by decide) (fun c_729 => ?_) (fun c_729 => absurd c_729 (by omega))
        refine lv_iconst (v := nI 0) hx hb dX4_addPart_51 (by decide) ?_
        refine lv_iconst (v := nI 2) hx hb dX4_addPart_52 (by decide) ?_
        have hF := hF_of (wc := [(m0, .inr (6, [.ref sa, .ref oa, .ref pa, .ref la, .ref za, .ref na, .int (nI u), .int (nI t), .int gw, .int gd, .int gm, .int gr, .int (nI 0), .int gv]))]) hD hS hA [3] rfl
        refine go_ct hS hP hD [3] [0, 1, 2] hF rfl rfl (by decide) (by decide)
            (va_runV (As := [.int (nI 0), .int (nI 2)]) (rest := []) cf (mX4_isThrown_f l G m0 sa oa pa la za na (nI u) (nI t) gw gd gm gr (nI 0) gv 2  H.size) (cwV 2 hts (lw_V q1650 q1652 qs20 q58 q1653) rfl rfl rfl (by decide +kernel) ⟨Nat.le_of_ble_eq_true rfl, Nat.le_of_ble_eq_true rfl⟩) (preV_of hKB hE hS hF (va_recv hK hP (ci := 6) (q0 := 3) rfl rfl) (va_P.sub hP [3] rfl) ((va_D.sub hD [3] (by decide) rfl).weaken (fun _ _ _ _ => trivial)) trivial) rfl rfl hl.1 rfl (lv_room (Nat.le_of_ble_eq_true rfl)) dX4_addPart_53 ⟨show 0 + 0 ≤ 0 from by first | decide | omega, show 0 + 0 ≤ 0 from by first | decide | omega⟩)
            (fun u_ H locs hq hph (hP : va_P G.1 CL [(sa, .inl (G.2 0, 830, .inl f)), (ta, .inl (G.2 0, 830, .inl h)), (za, .inl (G.2 0, 6, .inl zf)), (m0, .inr (6, [.ref sa, .ref oa, .ref pa, .ref la, .ref za, .ref na, .int (nI u), .int (nI t), .int gw, .int gd, .int gm, .int gr, .int (nI 0), .int gv]))] H) (hD : va_D A [(sa, .inl (G.2 0, 830, .inl f)), (ta, .inl (G.2 0, 830, .inl h)), (za, .inl (G.2 0, 6, .inl zf)), (m0, .inr (6, [.ref sa, .ref oa, .ref pa, .ref la, .ref za, .ref na, .int (nI u), .int (nI t), .int gw, .int gd, .int gm, .int gr, .int (nI 0), .int gv]))]) hS hfz hfk => ?_)
        refine W.eq (g2 := F0 m 56 ls [.int (nI 0)]) rfl ?_
        refine n_if_ne (tgt := 104) hx hb (by omega) dX4_addPart_56 (by decide) (fun c_730 => absurd c_730 (by omega)) (fun c_730 => ?_)
        obtain ⟨iS1, iS2, iS3, iS4, iS5⟩ := iv_ses hI hkk
        refine lv_aload_n hx hb dX4_addPart_59 rfl (lv_at hl 1 rfl) ?_
        refine lv_aload_n hx hb dX4_addPart_60 rfl (lv_at hl 1 rfl) ?_
        refine va_get hx hb hts in_X4 hown hK hP 3 rfl rfl 0 (by decide) (hts _ q1596) (fun _ h => h) rfl dX4_addPart_61 ?_
        refine lv_aload_n hx hb dX4_addPart_64 rfl (lv_at hl 1 rfl) ?_
        refine lv_iload hx hb dX4_addPart_65 (lv_at hl 0 rfl) ?_
        have hF := hF_of (wc := []) hD hS hA [] rfl
        refine go_ct hS hP hD [] [0, 1, 2, 3] hF rfl rfl (by decide) (by decide)
            (va_runV (As := [.int (nI k_702)]) (rest := [.ref sa, .ref m0]) cf (mX4_at l G m0 k_702  H.size) (cwV 1 hts (lw_V q1687 q1689 qs27 q58 q1690) rfl rfl rfl (by decide +kernel) ⟨Nat.le_of_ble_eq_true rfl, Nat.le_of_ble_eq_true rfl⟩) (preV_of hKB hE hS hF (va_recv hK hP (ci := 6) (q0 := 3) rfl rfl) (va_P.sub hP [] rfl) ((va_D.sub hD [] (by decide) rfl).weaken (fun _ _ _ _ => trivial)) trivial) rfl rfl hl.1 rfl (lv_room (Nat.le_of_ble_eq_true rfl)) dX4_addPart_67 ⟨show 0 + 0 ≤ 0 from by first | decide | omega, show 0 + 0 ≤ 0 from by first | decide | omega⟩)
            (fun u_ H locs hq hph (hP : va_P G.1 CL [(sa, .inl (G.2 0, 830, .inl f)), (ta, .inl (G.2 0, 830, .inl h)), (za, .inl (G.2 0, 6, .inl zf)), (m0, .inr (6, [.ref sa, .ref oa, .ref pa, .ref la, .ref za, .ref na, .int (nI u), .int (nI t), .int gw, .int gd, .int gm, .int gr, .int (nI 0), .int gv]))] H) (hD : va_D A [(sa, .inl (G.2 0, 830, .inl f)), (ta, .inl (G.2 0, 830, .inl h)), (za, .inl (G.2 0, 6, .inl zf)), (m0, .inr (6, [.ref sa, .ref oa, .ref pa, .ref la, .ref za, .ref na, .int (nI u), .int (nI t), .int gw, .int gd, .int gm, .int gr, .int (nI 0), .int gv]))]) hS hfz hfk => ?_)
        refine W.eq (g2 := F0 m 70 ls [.int (nI (19 * k_702 + 70)), .ref sa, .ref m0]) rfl ?_
        refine lv_iconst (v := nI 2) hx hb dX4_addPart_70 (by decide) ?_
        refine lv_iadd hx hb dX4_addPart_71 ?_
        refine lv_ton (n := 19 * k_702 + 72) (nadd (by omega)) ?_
        refine r_iald (v := nI (nP (sAt B k_702))) hx hb hK hP 0 0 rfl rfl (i := 19 * k_702 + 72) (by omega) (by omega) (hM.snp (k := k_702) (by omega)) dX4_addPart_72 ?_
        refine lv_bipush (v := nI 8) hx hb dX4_addPart_73 (by decide) ?_
        refine n_icmp_eq (tgt := 92) hx hb (by omega) (by omega) dX4_addPart_75 (by decide) (fun c_731 => ?_) (fun c_731 => ?_)
        · refine lv_iconst (v := nI 1) hx hb dX4_addPart_92 (by decide) ?_
          refine lv_goto (tgt := 97) hx hb dX4_addPart_93 (by decide) ?_
          refine lv_iconst (v := nI 3) hx hb dX4_addPart_97 (by decide) ?_
          have hF := hF_of (wc := [(m0, .inr (6, [.ref sa, .ref oa, .ref pa, .ref la, .ref za, .ref na, .int (nI u), .int (nI t), .int gw, .int gd, .int gm, .int gr, .int (nI 0), .int gv]))]) hD hS hA [3] rfl
          refine go_ct hS hP hD [3] [0, 1, 2] hF rfl rfl (by decide) (by decide)
              (va_runV (As := [.int (nI 1), .int (nI 3)]) (rest := []) cf (mX4_isThrown_t l G m0 sa oa pa la za na (nI u) (nI t) gw gd gm gr (nI 0) gv 3  H.size) (cwV 2 hts (lw_V q1650 q1652 qs20 q58 q1653) rfl rfl rfl (by decide +kernel) ⟨Nat.le_of_ble_eq_true rfl, Nat.le_of_ble_eq_true rfl⟩) (preV_of hKB hE hS hF (va_recv hK hP (ci := 6) (q0 := 3) rfl rfl) (va_P.sub hP [3] rfl) ((va_D.sub hD [3] (by decide) rfl).weaken (fun _ _ _ _ => trivial)) trivial) rfl rfl hl.1 rfl (lv_room (Nat.le_of_ble_eq_true rfl)) dX4_addPart_98 ⟨show 0 + 0 ≤ 0 from by first | decide | omega, show 0 + 0 ≤ 0 from by first | decide | omega⟩)
              (fun u_ H locs hq hph (hP : va_P G.1 CL [(sa, .inl (G.2 0, 830, .inl f)), (ta, .inl (G.2 0, 830, .inl h)), (za, .inl (G.2 0, 6, .inl zf)), (m0, .inr (6, [.ref sa, .ref oa, .ref pa, .ref la, .ref za, .ref na, .int (nI u), .int (nI t), .int gw, .int gd, .int gm, .int gr, .int (nI 3), .int gv]))] H) (hD : va_D A [(sa, .inl (G.2 0, 830, .inl f)), (ta, .inl (G.2 0, 830, .inl h)), (za, .inl (G.2 0, 6, .inl zf)), (m0, .inr (6, [.ref sa, .ref oa, .ref pa, .ref la, .ref za, .ref na, .int (nI u), .int (nI t), .int gw, .int gd, .int gm, .int gr, .int (nI 3), .int gv]))]) hS hfz hfk => ?_)
          refine W.eq (g2 := F0 m 101 ls [.int (nI 1)]) rfl ?_
          refine n_if_eq (tgt := 106) hx hb (by omega) dX4_addPart_101 (by decide) (fun c_732 => absurd c_732 (by omega)) (fun c_732 => ?_)
          refine lv_iconst (v := nI 0) hx hb dX4_addPart_104 (by decide) ?_
          have hq9 : o_addPart B id mn it = (3, 0, B) := by unfold o_addPart; rw [hix_701] <;> (try dsimp only) <;> rw [hir_716, hir_728] <;> (try dsimp only) <;> rw [if_pos (by omega)] <;> rfl
          have hP : va_P G.1 CL [(sa, .inl (G.2 0, 830, .inl f)), (ta, .inl (G.2 0, 830, .inl h)), (za, .inl (G.2 0, 6, .inl zf)), (m0, .inr (6, [.ref sa, .ref oa, .ref pa, .ref la, .ref za, .ref na, .int (nI u), .int (nI t), .int gw, .int gd, .int gm, .int gr, .int (nI ((o_addPart B id mn it).1)), .int gv]))] H := by rw [hq9]; exact hP
          have hD : va_D A [(sa, .inl (G.2 0, 830, .inl f)), (ta, .inl (G.2 0, 830, .inl h)), (za, .inl (G.2 0, 6, .inl zf)), (m0, .inr (6, [.ref sa, .ref oa, .ref pa, .ref la, .ref za, .ref na, .int (nI u), .int (nI t), .int gw, .int gd, .int gm, .int gr, .int (nI ((o_addPart B id mn it).1)), .int gv]))] := by rw [hq9]; exact hD
          have hP9 : va_P G.1 CL [(m0, .inr (6, [.ref sa, .ref oa, .ref pa, .ref la, .ref za, .ref na, .int (nI u), .int (nI t), .int gw, .int gd, .int gm, .int gr, .int (nI ((o_addPart B id mn it).1)), .int gv])), (sa, .inl (G.2 0, 830, .inl f)), (ta, .inl (G.2 0, 830, .inl h)), (za, .inl (G.2 0, 6, .inl zf))] H := hP.sub [3, 0, 1, 2] rfl
          have hD9 : va_D A [(m0, .inr (6, [.ref sa, .ref oa, .ref pa, .ref la, .ref za, .ref na, .int (nI u), .int (nI t), .int gw, .int gd, .int gm, .int gr, .int (nI ((o_addPart B id mn it).1)), .int gv])), (sa, .inl (G.2 0, 830, .inl f)), (ta, .inl (G.2 0, 830, .inl h)), (za, .inl (G.2 0, 6, .inl zf))] := hD.sub [3, 0, 1, 2] (by decide) rfl
          exact end_i hx hb hr hlk (rfl) (qc_of ⟨nI 0, f, t, u, h, zf⟩ (v := some (.int (nI 0))) (by rfl) (by rw [hq9]; exact ⟨fun _ => ⟨rfl, rfl, rfl, rfl⟩, fun z => absurd (show (3 : Nat) = 0 from z) (by decide)⟩) hP9 hD9 (trivial) hS) hS dX4_addPart_105 (show 0 ≤ 0 from by first | exact Nat.le_refl _ | decide | omega) (show 0 ≤ 0 from by first | exact Nat.le_refl _ | decide | omega)
        · refine lv_aload_n hx hb dX4_addPart_78 rfl (lv_at hl 1 rfl) ?_
          refine lv_iload hx hb dX4_addPart_79 (lv_at hl 0 rfl) ?_
          have hF := hF_of (wc := []) hD hS hA [] rfl
          have hro_733 : va_P G.1 CL [(m0, .inr (6, [.ref sa, .ref oa, .ref pa, .ref la, .ref za, .ref na, .int (nI u), .int (nI t), .int gw, .int gd, .int gm, .int gr, .int (nI 0), .int gv])), (sa, .inl (G.2 0, 830, .inl f))] H := (va_P.sub hP [3, 0] rfl)
          refine go_ct hS hP hD [] [0, 1, 2, 3] hF rfl rfl (by decide) (by decide)
              (va_runV (As := [.int (nI k_702)]) (rest := [.ref m0]) cf (mX4_minutes l G m0 sa oa pa la za na (nI u) (nI t) gw gd gm gr (nI 0) gv f B k_702 (show MR f B from by first | assumption | omega) (show Inv B from by first | assumption | omega) (show k_702 < sN B from by first | assumption | omega) H.size) (cwV 1 hts (lw_V q1743 q1745 qs31 q58 q1746) rfl rfl rfl (by decide +kernel) ⟨Nat.le_of_ble_eq_true rfl, Nat.le_of_ble_eq_true rfl⟩) (preV_of hKB hE hS hF (va_recv hK hP (ci := 6) (q0 := 3) rfl rfl) (va_P.sub hP [] rfl) ((va_D.sub hD [] (by decide) rfl).weaken (fun _ _ _ _ => trivial)) (roW.nil hro_733)) rfl rfl hl.1 rfl (lv_room (Nat.le_of_ble_eq_true rfl)) dX4_addPart_81 ⟨show 0 + 0 ≤ 0 from by first | decide | omega, show 0 + 0 ≤ 0 from by first | decide | omega⟩)
              (fun u_ H locs hq hph (hP : va_P G.1 CL [(sa, .inl (G.2 0, 830, .inl f)), (ta, .inl (G.2 0, 830, .inl h)), (za, .inl (G.2 0, 6, .inl zf)), (m0, .inr (6, [.ref sa, .ref oa, .ref pa, .ref la, .ref za, .ref na, .int (nI u), .int (nI t), .int gw, .int gd, .int gm, .int gr, .int (nI 0), .int gv]))] H) (hD : va_D A [(sa, .inl (G.2 0, 830, .inl f)), (ta, .inl (G.2 0, 830, .inl h)), (za, .inl (G.2 0, 6, .inl zf)), (m0, .inr (6, [.ref sa, .ref oa, .ref pa, .ref la, .ref za, .ref na, .int (nI u), .int (nI t), .int gw, .int gd, .int gm, .int gr, .int (nI 0), .int gv]))]) hS hfz hfk => ?_)
          refine W.eq (g2 := F0 m 84 ls [.int (nI (minOf (sAt B k_702))), .ref m0]) rfl ?_
          refine lv_iload_n hx hb dX4_addPart_84 rfl (lv_at hl 3 rfl) ?_
          refine lv_iadd hx hb dX4_addPart_85 ?_
          refine lv_ton (n := d_712 + (minOf (sAt B k_702))) (nadd (by omega)) ?_
          refine lv_sipush (v := nI 240) hx hb dX4_addPart_86 (by decide) ?_
          refine n_icmp_le (tgt := 96) hx hb (by omega) (by omega) dX4_addPart_89 (by decide) (fun c_734 => ?_) (fun c_734 => ?_)
          · refine lv_iconst (v := nI 0) hx hb dX4_addPart_96 (by decide) ?_
            refine lv_iconst (v := nI 3) hx hb dX4_addPart_97 (by decide) ?_
            have hF := hF_of (wc := [(m0, .inr (6, [.ref sa, .ref oa, .ref pa, .ref la, .ref za, .ref na, .int (nI u), .int (nI t), .int gw, .int gd, .int gm, .int gr, .int (nI 0), .int gv]))]) hD hS hA [3] rfl
            refine go_ct hS hP hD [3] [0, 1, 2] hF rfl rfl (by decide) (by decide)
                (va_runV (As := [.int (nI 0), .int (nI 3)]) (rest := []) cf (mX4_isThrown_f l G m0 sa oa pa la za na (nI u) (nI t) gw gd gm gr (nI 0) gv 3  H.size) (cwV 2 hts (lw_V q1650 q1652 qs20 q58 q1653) rfl rfl rfl (by decide +kernel) ⟨Nat.le_of_ble_eq_true rfl, Nat.le_of_ble_eq_true rfl⟩) (preV_of hKB hE hS hF (va_recv hK hP (ci := 6) (q0 := 3) rfl rfl) (va_P.sub hP [3] rfl) ((va_D.sub hD [3] (by decide) rfl).weaken (fun _ _ _ _ => trivial)) trivial) rfl rfl hl.1 rfl (lv_room (Nat.le_of_ble_eq_true rfl)) dX4_addPart_98 ⟨show 0 + 0 ≤ 0 from by first | decide | omega, show 0 + 0 ≤ 0 from by first | decide | omega⟩)
                (fun u_ H locs hq hph (hP : va_P G.1 CL [(sa, .inl (G.2 0, 830, .inl f)), (ta, .inl (G.2 0, 830, .inl h)), (za, .inl (G.2 0, 6, .inl zf)), (m0, .inr (6, [.ref sa, .ref oa, .ref pa, .ref la, .ref za, .ref na, .int (nI u), .int (nI t), .int gw, .int gd, .int gm, .int gr, .int (nI 0), .int gv]))] H) (hD : va_D A [(sa, .inl (G.2 0, 830, .inl f)), (ta, .inl (G.2 0, 830, .inl h)), (za, .inl (G.2 0, 6, .inl zf)), (m0, .inr (6, [.ref sa, .ref oa, .ref pa, .ref la, .ref za, .ref na, .int (nI u), .int (nI t), .int gw, .int gd, .int gm, .int gr, .int (nI 0), .int gv]))]) hS hfz hfk => ?_)
            refine W.eq (g2 := F0 m 101 ls [.int (nI 0)]) rfl ?_
            refine n_if_eq (tgt := 106) hx hb (by omega) dX4_addPart_101 (by decide) (fun c_735 => ?_) (fun c_735 => absurd c_735 (by omega))
            refine lv_aload_n hx hb dX4_addPart_106 rfl (lv_at hl 1 rfl) ?_
            have hF := hF_of (wc := [(m0, .inr (6, [.ref sa, .ref oa, .ref pa, .ref la, .ref za, .ref na, .int (nI u), .int (nI t), .int gw, .int gd, .int gm, .int gr, .int (nI 0), .int gv])), (ta, .inl (G.2 0, 830, .inl h))]) hD hS hA [3, 1] rfl
            have hro_736 : roW G (va_A [(m0, .inr (6, [.ref sa, .ref oa, .ref pa, .ref la, .ref za, .ref na, .int (nI u), .int (nI t), .int gw, .int gd, .int gm, .int gr, .int (nI 0), .int gv])), (ta, .inl (G.2 0, 830, .inl h))] H.size) H [(oa, .inl (G.2 7, 6, .inr (.inr (.inr (.inr og))))), (sa, .inl (G.2 0, 830, .inl f))] := (((hR0.kp hF hS.2.1).sub (ws' := [(oa, .inl (G.2 7, 6, .inr (.inr (.inr (.inr og)))))]) [0] rfl).app (roW.of (w' := [(sa, .inl (G.2 0, 830, .inl f))]) hP hD [3, 1] [0] rfl rfl (by decide)))
            refine go_ct hS hP hD [3, 1] [0, 2] hF rfl rfl (by decide) (by decide)
                (va_runV (As := []) (rest := []) cf (mX4_keeps l G m0 sa oa pa la za na gw gd gm gr (nI 0) gv f t u ta h og (show t < 6 from by first | assumption | omega) (show u ≤ 6 from by first | assumption | omega) (show og ((t + 1) % 6) = some ta from by first | assumption | omega) H.size) (cwV 0 hts (lw_V q1654 q1656 qs21 q58 q1657) rfl rfl rfl (by decide +kernel) ⟨Nat.le_of_ble_eq_true rfl, Nat.le_of_ble_eq_true rfl⟩) (preV_of hKB hE hS hF (va_recv hK hP (ci := 6) (q0 := 3) rfl rfl) (va_P.sub hP [3, 1] rfl) ((va_D.sub hD [3, 1] (by decide) rfl).weaken (fun _ _ _ _ => trivial)) hro_736) rfl rfl hl.1 rfl (lv_room (Nat.le_of_ble_eq_true rfl)) dX4_addPart_107 ⟨show 0 + 0 ≤ 0 from by first | decide | omega, show 0 + 0 ≤ 0 from by first | decide | omega⟩)
                (fun u_ H locs hq hph (hP : va_P G.1 CL [(sa, .inl (G.2 0, 830, .inl f)), (za, .inl (G.2 0, 6, .inl zf)), (m0, .inr (6, [.ref sa, .ref oa, .ref pa, .ref la, .ref za, .ref na, .int (nI (min 6 (u + 1))), .int (nI ((t + 1) % 6)), .int gw, .int gd, .int gm, .int gr, .int (nI 0), .int gv])), (ta, .inl (G.2 0, 830, .inl f))] H) (hD : va_D A [(sa, .inl (G.2 0, 830, .inl f)), (za, .inl (G.2 0, 6, .inl zf)), (m0, .inr (6, [.ref sa, .ref oa, .ref pa, .ref la, .ref za, .ref na, .int (nI (min 6 (u + 1))), .int (nI ((t + 1) % 6)), .int gw, .int gd, .int gm, .int gr, .int (nI 0), .int gv])), (ta, .inl (G.2 0, 830, .inl f))]) hS hfz hfk => ?_)
            refine W.eq (g2 := F0 m 110 ls []) rfl ?_
            refine lv_aload_n hx hb dX4_addPart_110 rfl (lv_at hl 1 rfl) ?_
            refine va_get hx hb hts in_X4 hown hK hP 2 rfl rfl 0 (by decide) (hts _ q1596) (fun _ h => h) rfl dX4_addPart_111 ?_
            refine lv_aload_n hx hb dX4_addPart_114 rfl (lv_at hl 1 rfl) ?_
            refine lv_iload hx hb dX4_addPart_115 (lv_at hl 0 rfl) ?_
            have hF := hF_of (wc := []) hD hS hA [] rfl
            refine go_ct hS hP hD [] [0, 1, 2, 3] hF rfl rfl (by decide) (by decide)
                (va_runV (As := [.int (nI k_702)]) (rest := [.ref sa]) cf (mX4_at l G m0 k_702  H.size) (cwV 1 hts (lw_V q1687 q1689 qs27 q58 q1690) rfl rfl rfl (by decide +kernel) ⟨Nat.le_of_ble_eq_true rfl, Nat.le_of_ble_eq_true rfl⟩) (preV_of hKB hE hS hF (va_recv hK hP (ci := 6) (q0 := 2) rfl rfl) (va_P.sub hP [] rfl) ((va_D.sub hD [] (by decide) rfl).weaken (fun _ _ _ _ => trivial)) trivial) rfl rfl hl.1 rfl (lv_room (Nat.le_of_ble_eq_true rfl)) dX4_addPart_117 ⟨show 0 + 0 ≤ 0 from by first | decide | omega, show 0 + 0 ≤ 0 from by first | decide | omega⟩)
                (fun u_ H locs hq hph (hP : va_P G.1 CL [(sa, .inl (G.2 0, 830, .inl f)), (za, .inl (G.2 0, 6, .inl zf)), (m0, .inr (6, [.ref sa, .ref oa, .ref pa, .ref la, .ref za, .ref na, .int (nI (min 6 (u + 1))), .int (nI ((t + 1) % 6)), .int gw, .int gd, .int gm, .int gr, .int (nI 0), .int gv])), (ta, .inl (G.2 0, 830, .inl f))] H) (hD : va_D A [(sa, .inl (G.2 0, 830, .inl f)), (za, .inl (G.2 0, 6, .inl zf)), (m0, .inr (6, [.ref sa, .ref oa, .ref pa, .ref la, .ref za, .ref na, .int (nI (min 6 (u + 1))), .int (nI ((t + 1) % 6)), .int gw, .int gd, .int gm, .int gr, .int (nI 0), .int gv])), (ta, .inl (G.2 0, 830, .inl f))]) hS hfz hfk => ?_)
            refine W.eq (g2 := F0 m 120 ls [.int (nI (19 * k_702 + 70)), .ref sa]) rfl ?_
            refine lv_iconst (v := nI 2) hx hb dX4_addPart_120 (by decide) ?_
            refine lv_iadd hx hb dX4_addPart_121 ?_
            refine lv_ton (n := 19 * k_702 + 72) (nadd (by omega)) ?_
            refine r_iald (v := nI (nP (sAt B k_702))) hx hb hK hP 0 0 rfl rfl (i := 19 * k_702 + 72) (by omega) (by omega) (hM.snp (k := k_702) (by omega)) dX4_addPart_122 ?_
            refine lv_istore (lv' := [(5, .int (nI (nP (sAt B k_702)))), (4, .int (nI k_702)), (0, .ref m0), (1, .int id), (2, .int (nI d_712)), (3, .int (nI d_724))]) hx hb dX4_addPart_123 hl (by decide) rfl (fun ls hl => ?_)
            refine lv_aload_n hx hb dX4_addPart_125 rfl (lv_at hl 2 rfl) ?_
            refine va_get hx hb hts in_X4 hown hK hP 2 rfl rfl 0 (by decide) (hts _ q1596) (fun _ h => h) rfl dX4_addPart_126 ?_
            refine lv_aload_n hx hb dX4_addPart_129 rfl (lv_at hl 2 rfl) ?_
            refine lv_iload hx hb dX4_addPart_130 (lv_at hl 1 rfl) ?_
            have hF := hF_of (wc := []) hD hS hA [] rfl
            refine go_ct hS hP hD [] [0, 1, 2, 3] hF rfl rfl (by decide) (by decide)
                (va_runV (As := [.int (nI k_702)]) (rest := [.ref sa]) cf (mX4_at l G m0 k_702  H.size) (cwV 1 hts (lw_V q1687 q1689 qs27 q58 q1690) rfl rfl rfl (by decide +kernel) ⟨Nat.le_of_ble_eq_true rfl, Nat.le_of_ble_eq_true rfl⟩) (preV_of hKB hE hS hF (va_recv hK hP (ci := 6) (q0 := 2) rfl rfl) (va_P.sub hP [] rfl) ((va_D.sub hD [] (by decide) rfl).weaken (fun _ _ _ _ => trivial)) trivial) rfl rfl hl.1 rfl (lv_room (Nat.le_of_ble_eq_true rfl)) dX4_addPart_132 ⟨show 0 + 0 ≤ 0 from by first | decide | omega, show 0 + 0 ≤ 0 from by first | decide | omega⟩)
                (fun u_ H locs hq hph (hP : va_P G.1 CL [(sa, .inl (G.2 0, 830, .inl f)), (za, .inl (G.2 0, 6, .inl zf)), (m0, .inr (6, [.ref sa, .ref oa, .ref pa, .ref la, .ref za, .ref na, .int (nI (min 6 (u + 1))), .int (nI ((t + 1) % 6)), .int gw, .int gd, .int gm, .int gr, .int (nI 0), .int gv])), (ta, .inl (G.2 0, 830, .inl f))] H) (hD : va_D A [(sa, .inl (G.2 0, 830, .inl f)), (za, .inl (G.2 0, 6, .inl zf)), (m0, .inr (6, [.ref sa, .ref oa, .ref pa, .ref la, .ref za, .ref na, .int (nI (min 6 (u + 1))), .int (nI ((t + 1) % 6)), .int gw, .int gd, .int gm, .int gr, .int (nI 0), .int gv])), (ta, .inl (G.2 0, 830, .inl f))]) hS hfz hfk => ?_)
            refine W.eq (g2 := F0 m 135 ls [.int (nI (19 * k_702 + 70)), .ref sa]) rfl ?_
            refine lv_iconst (v := nI 3) hx hb dX4_addPart_135 (by decide) ?_
            refine lv_iadd hx hb dX4_addPart_136 ?_
            refine lv_ton (n := 19 * k_702 + 73) (nadd (by omega)) ?_
            refine lv_iload hx hb dX4_addPart_137 (lv_at hl 0 rfl) ?_
            refine lv_iadd hx hb dX4_addPart_139 ?_
            refine lv_ton (n := 19 * k_702 + (nP (sAt B k_702)) + 73) (nadd (by omega)) ?_
            refine lv_iload_n hx hb dX4_addPart_140 rfl (lv_at hl 4 rfl) ?_
            refine r_iast hx hb hK hP hD hS 0 0 rfl rfl (i := 19 * k_702 + (nP (sAt B k_702)) + 73) (by omega) (by omega) dX4_addPart_141 (fun H locs (hP : va_P G.1 CL [(sa, .inl (G.2 0, 830, .inl (upd f (19 * k_702 + (nP (sAt B k_702)) + 73) (nI d_712)))), (za, .inl (G.2 0, 6, .inl zf)), (m0, .inr (6, [.ref sa, .ref oa, .ref pa, .ref la, .ref za, .ref na, .int (nI (min 6 (u + 1))), .int (nI ((t + 1) % 6)), .int gw, .int gd, .int gm, .int gr, .int (nI 0), .int gv])), (ta, .inl (G.2 0, 830, .inl f))] H) (hD : va_D A [(sa, .inl (G.2 0, 830, .inl (upd f (19 * k_702 + (nP (sAt B k_702)) + 73) (nI d_712)))), (za, .inl (G.2 0, 6, .inl zf)), (m0, .inr (6, [.ref sa, .ref oa, .ref pa, .ref la, .ref za, .ref na, .int (nI (min 6 (u + 1))), .int (nI ((t + 1) % 6)), .int gw, .int gd, .int gm, .int gr, .int (nI 0), .int gv])), (ta, .inl (G.2 0, 830, .inl f))]) hS => ?_)
            refine lv_aload_n hx hb dX4_addPart_142 rfl (lv_at hl 2 rfl) ?_
            refine va_get hx hb hts in_X4 hown hK hP 2 rfl rfl 0 (by decide) (hts _ q1596) (fun _ h => h) rfl dX4_addPart_143 ?_
            refine lv_aload_n hx hb dX4_addPart_146 rfl (lv_at hl 2 rfl) ?_
            refine lv_iload hx hb dX4_addPart_147 (lv_at hl 1 rfl) ?_
            have hF := hF_of (wc := []) hD hS hA [] rfl
            refine go_ct hS hP hD [] [0, 1, 2, 3] hF rfl rfl (by decide) (by decide)
                (va_runV (As := [.int (nI k_702)]) (rest := [.ref sa]) cf (mX4_at l G m0 k_702  H.size) (cwV 1 hts (lw_V q1687 q1689 qs27 q58 q1690) rfl rfl rfl (by decide +kernel) ⟨Nat.le_of_ble_eq_true rfl, Nat.le_of_ble_eq_true rfl⟩) (preV_of hKB hE hS hF (va_recv hK hP (ci := 6) (q0 := 2) rfl rfl) (va_P.sub hP [] rfl) ((va_D.sub hD [] (by decide) rfl).weaken (fun _ _ _ _ => trivial)) trivial) rfl rfl hl.1 rfl (lv_room (Nat.le_of_ble_eq_true rfl)) dX4_addPart_149 ⟨show 0 + 0 ≤ 0 from by first | decide | omega, show 0 + 0 ≤ 0 from by first | decide | omega⟩)
                (fun u_ H locs hq hph (hP : va_P G.1 CL [(sa, .inl (G.2 0, 830, .inl (upd f (19 * k_702 + (nP (sAt B k_702)) + 73) (nI d_712)))), (za, .inl (G.2 0, 6, .inl zf)), (m0, .inr (6, [.ref sa, .ref oa, .ref pa, .ref la, .ref za, .ref na, .int (nI (min 6 (u + 1))), .int (nI ((t + 1) % 6)), .int gw, .int gd, .int gm, .int gr, .int (nI 0), .int gv])), (ta, .inl (G.2 0, 830, .inl f))] H) (hD : va_D A [(sa, .inl (G.2 0, 830, .inl (upd f (19 * k_702 + (nP (sAt B k_702)) + 73) (nI d_712)))), (za, .inl (G.2 0, 6, .inl zf)), (m0, .inr (6, [.ref sa, .ref oa, .ref pa, .ref la, .ref za, .ref na, .int (nI (min 6 (u + 1))), .int (nI ((t + 1) % 6)), .int gw, .int gd, .int gm, .int gr, .int (nI 0), .int gv])), (ta, .inl (G.2 0, 830, .inl f))]) hS hfz hfk => ?_)
            refine W.eq (g2 := F0 m 152 ls [.int (nI (19 * k_702 + 70)), .ref sa]) rfl ?_
            refine lv_iconst (v := nI 3) hx hb dX4_addPart_152 (by decide) ?_
            refine lv_iadd hx hb dX4_addPart_153 ?_
            refine lv_ton (n := 19 * k_702 + 73) (nadd (by omega)) ?_
            refine lv_bipush (v := nI 8) hx hb dX4_addPart_154 (by decide) ?_
            refine lv_iadd hx hb dX4_addPart_156 ?_
            refine lv_ton (n := 19 * k_702 + 81) (nadd (by omega)) ?_
            refine lv_iload hx hb dX4_addPart_157 (lv_at hl 0 rfl) ?_
            refine lv_iadd hx hb dX4_addPart_159 ?_
            refine lv_ton (n := 19 * k_702 + (nP (sAt B k_702)) + 81) (nadd (by omega)) ?_
            refine lv_iload_n hx hb dX4_addPart_160 rfl (lv_at hl 5 rfl) ?_
            refine r_iast hx hb hK hP hD hS 0 0 rfl rfl (i := 19 * k_702 + (nP (sAt B k_702)) + 81) (by omega) (by omega) dX4_addPart_161 (fun H locs (hP : va_P G.1 CL [(sa, .inl (G.2 0, 830, .inl (upd (upd f (19 * k_702 + (nP (sAt B k_702)) + 73) (nI d_712)) (19 * k_702 + (nP (sAt B k_702)) + 81) (nI d_724)))), (za, .inl (G.2 0, 6, .inl zf)), (m0, .inr (6, [.ref sa, .ref oa, .ref pa, .ref la, .ref za, .ref na, .int (nI (min 6 (u + 1))), .int (nI ((t + 1) % 6)), .int gw, .int gd, .int gm, .int gr, .int (nI 0), .int gv])), (ta, .inl (G.2 0, 830, .inl f))] H) (hD : va_D A [(sa, .inl (G.2 0, 830, .inl (upd (upd f (19 * k_702 + (nP (sAt B k_702)) + 73) (nI d_712)) (19 * k_702 + (nP (sAt B k_702)) + 81) (nI d_724)))), (za, .inl (G.2 0, 6, .inl zf)), (m0, .inr (6, [.ref sa, .ref oa, .ref pa, .ref la, .ref za, .ref na, .int (nI (min 6 (u + 1))), .int (nI ((t + 1) % 6)), .int gw, .int gd, .int gm, .int gr, .int (nI 0), .int gv])), (ta, .inl (G.2 0, 830, .inl f))]) hS => ?_)
            refine lv_aload_n hx hb dX4_addPart_162 rfl (lv_at hl 2 rfl) ?_
            refine va_get hx hb hts in_X4 hown hK hP 2 rfl rfl 0 (by decide) (hts _ q1596) (fun _ h => h) rfl dX4_addPart_163 ?_
            refine lv_aload_n hx hb dX4_addPart_166 rfl (lv_at hl 2 rfl) ?_
            refine lv_iload hx hb dX4_addPart_167 (lv_at hl 1 rfl) ?_
            have hF := hF_of (wc := []) hD hS hA [] rfl
            refine go_ct hS hP hD [] [0, 1, 2, 3] hF rfl rfl (by decide) (by decide)
                (va_runV (As := [.int (nI k_702)]) (rest := [.ref sa]) cf (mX4_at l G m0 k_702  H.size) (cwV 1 hts (lw_V q1687 q1689 qs27 q58 q1690) rfl rfl rfl (by decide +kernel) ⟨Nat.le_of_ble_eq_true rfl, Nat.le_of_ble_eq_true rfl⟩) (preV_of hKB hE hS hF (va_recv hK hP (ci := 6) (q0 := 2) rfl rfl) (va_P.sub hP [] rfl) ((va_D.sub hD [] (by decide) rfl).weaken (fun _ _ _ _ => trivial)) trivial) rfl rfl hl.1 rfl (lv_room (Nat.le_of_ble_eq_true rfl)) dX4_addPart_169 ⟨show 0 + 0 ≤ 0 from by first | decide | omega, show 0 + 0 ≤ 0 from by first | decide | omega⟩)
                (fun u_ H locs hq hph (hP : va_P G.1 CL [(sa, .inl (G.2 0, 830, .inl (upd (upd f (19 * k_702 + (nP (sAt B k_702)) + 73) (nI d_712)) (19 * k_702 + (nP (sAt B k_702)) + 81) (nI d_724)))), (za, .inl (G.2 0, 6, .inl zf)), (m0, .inr (6, [.ref sa, .ref oa, .ref pa, .ref la, .ref za, .ref na, .int (nI (min 6 (u + 1))), .int (nI ((t + 1) % 6)), .int gw, .int gd, .int gm, .int gr, .int (nI 0), .int gv])), (ta, .inl (G.2 0, 830, .inl f))] H) (hD : va_D A [(sa, .inl (G.2 0, 830, .inl (upd (upd f (19 * k_702 + (nP (sAt B k_702)) + 73) (nI d_712)) (19 * k_702 + (nP (sAt B k_702)) + 81) (nI d_724)))), (za, .inl (G.2 0, 6, .inl zf)), (m0, .inr (6, [.ref sa, .ref oa, .ref pa, .ref la, .ref za, .ref na, .int (nI (min 6 (u + 1))), .int (nI ((t + 1) % 6)), .int gw, .int gd, .int gm, .int gr, .int (nI 0), .int gv])), (ta, .inl (G.2 0, 830, .inl f))]) hS hfz hfk => ?_)
            refine W.eq (g2 := F0 m 172 ls [.int (nI (19 * k_702 + 70)), .ref sa]) rfl ?_
            refine lv_iconst (v := nI 2) hx hb dX4_addPart_172 (by decide) ?_
            refine lv_iadd hx hb dX4_addPart_173 ?_
            refine lv_ton (n := 19 * k_702 + 72) (nadd (by omega)) ?_
            refine lv_dup2_11 hx hb dX4_addPart_174 rfl rfl ?_
            refine r_iald (v := nI (nP (sAt B k_702))) hx hb hK hP 0 0 rfl rfl (i := 19 * k_702 + 72) (by omega) (by omega) ((pk_un (by omega)).trans ((pk_un (by omega)).trans (hM.snp (k := k_702) (by omega)))) dX4_addPart_175 ?_
            refine lv_iconst (v := nI 1) hx hb dX4_addPart_176 (by decide) ?_
            refine lv_iadd hx hb dX4_addPart_177 ?_
            refine lv_ton (n := (nP (sAt B k_702)) + 1) (nadd (by omega)) ?_
            refine r_iast hx hb hK hP hD hS 0 0 rfl rfl (i := 19 * k_702 + 72) (by omega) (by omega) dX4_addPart_178 (fun H locs (hP : va_P G.1 CL [(sa, .inl (G.2 0, 830, .inl (upd (upd (upd f (19 * k_702 + (nP (sAt B k_702)) + 73) (nI d_712)) (19 * k_702 + (nP (sAt B k_702)) + 81) (nI d_724)) (19 * k_702 + 72) (nI ((nP (sAt B k_702)) + 1))))), (za, .inl (G.2 0, 6, .inl zf)), (m0, .inr (6, [.ref sa, .ref oa, .ref pa, .ref la, .ref za, .ref na, .int (nI (min 6 (u + 1))), .int (nI ((t + 1) % 6)), .int gw, .int gd, .int gm, .int gr, .int (nI 0), .int gv])), (ta, .inl (G.2 0, 830, .inl f))] H) (hD : va_D A [(sa, .inl (G.2 0, 830, .inl (upd (upd (upd f (19 * k_702 + (nP (sAt B k_702)) + 73) (nI d_712)) (19 * k_702 + (nP (sAt B k_702)) + 81) (nI d_724)) (19 * k_702 + 72) (nI ((nP (sAt B k_702)) + 1))))), (za, .inl (G.2 0, 6, .inl zf)), (m0, .inr (6, [.ref sa, .ref oa, .ref pa, .ref la, .ref za, .ref na, .int (nI (min 6 (u + 1))), .int (nI ((t + 1) % 6)), .int gw, .int gd, .int gm, .int gr, .int (nI 0), .int gv])), (ta, .inl (G.2 0, 830, .inl f))]) hS => ?_)
            refine lv_iload hx hb dX4_addPart_179 (lv_at hl 0 rfl) ?_
            refine lv_iconst (v := nI 1) hx hb dX4_addPart_181 (by decide) ?_
            refine lv_iadd hx hb dX4_addPart_182 ?_
            refine lv_ton (n := (nP (sAt B k_702)) + 1) (nadd (by omega)) ?_
            have hq9 : o_addPart B id mn it = (0, nI ((nP (sAt B k_702)) + 1), wS B ((bS B).set k_702 (addP (sAt B k_702) d_712 d_724))) := by unfold o_addPart; rw [hix_701] <;> (try dsimp only) <;> rw [hir_716, hir_728] <;> (try dsimp only) <;> rw [if_neg (by omega)] <;> rfl
            have hP : va_P G.1 CL [(sa, .inl (G.2 0, 830, .inl (upd (upd (upd f (19 * k_702 + (nP (sAt B k_702)) + 73) (nI d_712)) (19 * k_702 + (nP (sAt B k_702)) + 81) (nI d_724)) (19 * k_702 + 72) (nI ((nP (sAt B k_702)) + 1))))), (za, .inl (G.2 0, 6, .inl zf)), (m0, .inr (6, [.ref sa, .ref oa, .ref pa, .ref la, .ref za, .ref na, .int (nI (min 6 (u + 1))), .int (nI ((t + 1) % 6)), .int gw, .int gd, .int gm, .int gr, .int (nI ((o_addPart B id mn it).1)), .int gv])), (ta, .inl (G.2 0, 830, .inl f))] H := by rw [hq9]; exact hP
            have hD : va_D A [(sa, .inl (G.2 0, 830, .inl (upd (upd (upd f (19 * k_702 + (nP (sAt B k_702)) + 73) (nI d_712)) (19 * k_702 + (nP (sAt B k_702)) + 81) (nI d_724)) (19 * k_702 + 72) (nI ((nP (sAt B k_702)) + 1))))), (za, .inl (G.2 0, 6, .inl zf)), (m0, .inr (6, [.ref sa, .ref oa, .ref pa, .ref la, .ref za, .ref na, .int (nI (min 6 (u + 1))), .int (nI ((t + 1) % 6)), .int gw, .int gd, .int gm, .int gr, .int (nI ((o_addPart B id mn it).1)), .int gv])), (ta, .inl (G.2 0, 830, .inl f))] := by rw [hq9]; exact hD
            have hP9 : va_P G.1 CL [(m0, .inr (6, [.ref sa, .ref oa, .ref pa, .ref la, .ref za, .ref na, .int (nI (min 6 (u + 1))), .int (nI ((t + 1) % 6)), .int gw, .int gd, .int gm, .int gr, .int (nI ((o_addPart B id mn it).1)), .int gv])), (sa, .inl (G.2 0, 830, .inl (upd (upd (upd f (19 * k_702 + (nP (sAt B k_702)) + 73) (nI d_712)) (19 * k_702 + (nP (sAt B k_702)) + 81) (nI d_724)) (19 * k_702 + 72) (nI ((nP (sAt B k_702)) + 1))))), (ta, .inl (G.2 0, 830, .inl f)), (za, .inl (G.2 0, 6, .inl zf))] H := hP.sub [2, 0, 3, 1] rfl
            have hD9 : va_D A [(m0, .inr (6, [.ref sa, .ref oa, .ref pa, .ref la, .ref za, .ref na, .int (nI (min 6 (u + 1))), .int (nI ((t + 1) % 6)), .int gw, .int gd, .int gm, .int gr, .int (nI ((o_addPart B id mn it).1)), .int gv])), (sa, .inl (G.2 0, 830, .inl (upd (upd (upd f (19 * k_702 + (nP (sAt B k_702)) + 73) (nI d_712)) (19 * k_702 + (nP (sAt B k_702)) + 81) (nI d_724)) (19 * k_702 + 72) (nI ((nP (sAt B k_702)) + 1))))), (ta, .inl (G.2 0, 830, .inl f)), (za, .inl (G.2 0, 6, .inl zf))] := hD.sub [2, 0, 3, 1] (by decide) rfl
            exact end_i hx hb hr hlk (rfl) (qc_of ⟨nI ((nP (sAt B k_702)) + 1), upd (upd (upd f (19 * k_702 + (nP (sAt B k_702)) + 73) (nI d_712)) (19 * k_702 + (nP (sAt B k_702)) + 81) (nI d_724)) (19 * k_702 + 72) (nI ((nP (sAt B k_702)) + 1)), ((t + 1) % 6), (min 6 (u + 1)), f, zf⟩ (v := some (.int (nI ((nP (sAt B k_702)) + 1)))) (by rfl) (by rw [hq9]; exact ⟨fun z => absurd rfl z, fun _ => ⟨rfl, MR_addPart hI hM hkk (by omega), rfl, rfl, rfl⟩⟩) hP9 hD9 (trivial) hS) hS dX4_addPart_183 (show 0 ≤ 0 from by first | exact Nat.le_refl _ | decide | omega) (show 0 ≤ 0 from by first | exact Nat.le_refl _ | decide | omega)
          · refine lv_iconst (v := nI 1) hx hb dX4_addPart_92 (by decide) ?_
            refine lv_goto (tgt := 97) hx hb dX4_addPart_93 (by decide) ?_
            refine lv_iconst (v := nI 3) hx hb dX4_addPart_97 (by decide) ?_
            have hF := hF_of (wc := [(m0, .inr (6, [.ref sa, .ref oa, .ref pa, .ref la, .ref za, .ref na, .int (nI u), .int (nI t), .int gw, .int gd, .int gm, .int gr, .int (nI 0), .int gv]))]) hD hS hA [3] rfl
            refine go_ct hS hP hD [3] [0, 1, 2] hF rfl rfl (by decide) (by decide)
                (va_runV (As := [.int (nI 1), .int (nI 3)]) (rest := []) cf (mX4_isThrown_t l G m0 sa oa pa la za na (nI u) (nI t) gw gd gm gr (nI 0) gv 3  H.size) (cwV 2 hts (lw_V q1650 q1652 qs20 q58 q1653) rfl rfl rfl (by decide +kernel) ⟨Nat.le_of_ble_eq_true rfl, Nat.le_of_ble_eq_true rfl⟩) (preV_of hKB hE hS hF (va_recv hK hP (ci := 6) (q0 := 3) rfl rfl) (va_P.sub hP [3] rfl) ((va_D.sub hD [3] (by decide) rfl).weaken (fun _ _ _ _ => trivial)) trivial) rfl rfl hl.1 rfl (lv_room (Nat.le_of_ble_eq_true rfl)) dX4_addPart_98 ⟨show 0 + 0 ≤ 0 from by first | decide | omega, show 0 + 0 ≤ 0 from by first | decide | omega⟩)
                (fun u_ H locs hq hph (hP : va_P G.1 CL [(sa, .inl (G.2 0, 830, .inl f)), (ta, .inl (G.2 0, 830, .inl h)), (za, .inl (G.2 0, 6, .inl zf)), (m0, .inr (6, [.ref sa, .ref oa, .ref pa, .ref la, .ref za, .ref na, .int (nI u), .int (nI t), .int gw, .int gd, .int gm, .int gr, .int (nI 3), .int gv]))] H) (hD : va_D A [(sa, .inl (G.2 0, 830, .inl f)), (ta, .inl (G.2 0, 830, .inl h)), (za, .inl (G.2 0, 6, .inl zf)), (m0, .inr (6, [.ref sa, .ref oa, .ref pa, .ref la, .ref za, .ref na, .int (nI u), .int (nI t), .int gw, .int gd, .int gm, .int gr, .int (nI 3), .int gv]))]) hS hfz hfk => ?_)
            refine W.eq (g2 := F0 m 101 ls [.int (nI 1)]) rfl ?_
            refine n_if_eq (tgt := 106) hx hb (by omega) dX4_addPart_101 (by decide) (fun c_737 => absurd c_737 (by omega)) (fun c_737 => ?_)
            refine lv_iconst (v := nI 0) hx hb dX4_addPart_104 (by decide) ?_
            have hq9 : o_addPart B id mn it = (3, 0, B) := by unfold o_addPart; rw [hix_701] <;> (try dsimp only) <;> rw [hir_716, hir_728] <;> (try dsimp only) <;> rw [if_pos (by omega)] <;> rfl
            have hP : va_P G.1 CL [(sa, .inl (G.2 0, 830, .inl f)), (ta, .inl (G.2 0, 830, .inl h)), (za, .inl (G.2 0, 6, .inl zf)), (m0, .inr (6, [.ref sa, .ref oa, .ref pa, .ref la, .ref za, .ref na, .int (nI u), .int (nI t), .int gw, .int gd, .int gm, .int gr, .int (nI ((o_addPart B id mn it).1)), .int gv]))] H := by rw [hq9]; exact hP
            have hD : va_D A [(sa, .inl (G.2 0, 830, .inl f)), (ta, .inl (G.2 0, 830, .inl h)), (za, .inl (G.2 0, 6, .inl zf)), (m0, .inr (6, [.ref sa, .ref oa, .ref pa, .ref la, .ref za, .ref na, .int (nI u), .int (nI t), .int gw, .int gd, .int gm, .int gr, .int (nI ((o_addPart B id mn it).1)), .int gv]))] := by rw [hq9]; exact hD
            have hP9 : va_P G.1 CL [(m0, .inr (6, [.ref sa, .ref oa, .ref pa, .ref la, .ref za, .ref na, .int (nI u), .int (nI t), .int gw, .int gd, .int gm, .int gr, .int (nI ((o_addPart B id mn it).1)), .int gv])), (sa, .inl (G.2 0, 830, .inl f)), (ta, .inl (G.2 0, 830, .inl h)), (za, .inl (G.2 0, 6, .inl zf))] H := hP.sub [3, 0, 1, 2] rfl
            have hD9 : va_D A [(m0, .inr (6, [.ref sa, .ref oa, .ref pa, .ref la, .ref za, .ref na, .int (nI u), .int (nI t), .int gw, .int gd, .int gm, .int gr, .int (nI ((o_addPart B id mn it).1)), .int gv])), (sa, .inl (G.2 0, 830, .inl f)), (ta, .inl (G.2 0, 830, .inl h)), (za, .inl (G.2 0, 6, .inl zf))] := hD.sub [3, 0, 1, 2] (by decide) rfl
            exact end_i hx hb hr hlk (rfl) (qc_of ⟨nI 0, f, t, u, h, zf⟩ (v := some (.int (nI 0))) (by rfl) (by rw [hq9]; exact ⟨fun _ => ⟨rfl, rfl, rfl, rfl⟩, fun z => absurd (show (3 : Nat) = 0 from z) (by decide)⟩) hP9 hD9 (trivial) hS) hS dX4_addPart_105 (show 0 ≤ 0 from by first | exact Nat.le_refl _ | decide | omega) (show 0 ≤ 0 from by first | exact Nat.le_refl _ | decide | omega)

set_option maxHeartbeats 4000000 in
theorem mX4_clearParts (l : Launch) (G : Gt) (m0 : Nat) (sa : Nat) (oa : Nat) (pa : Nat) (la : Nat) (za : Nat) (na : Nat) (gw : Int32) (gd : Int32) (gm : Int32) (gr : Int32) (gh : Int32) (gv : Int32) (f : Nat → Int32) (B : Bk) (t : Nat) (u : Nat) (ta : Nat) (h : Nat → Int32) (og : Nat → Option Nat) (zf : Nat → Int32) (id : Int32) (hM : MR f B) (hI : Inv B) (ht : t < 6) (hu : u ≤ 6) (hog : og ((t + 1) % 6) = some ta) : CT l G yX4_clearParts cX4_clearParts 3 (some .int) ({ frames := 4, cells := 0, slots := 0, locals := 77 } : Room) [.ref m0, .int id] [(m0, .inr (6, [.ref sa, .ref oa, .ref pa, .ref la, .ref za, .ref na, .int (nI u), .int (nI t), .int gw, .int gd, .int gm, .int gr, .int gh, .int gv])), (sa, .inl (G.2 0, 830, .inl f)), (ta, .inl (G.2 0, 830, .inl h)), (za, .inl (G.2 0, 6, .inl zf))] (fun (A : Nat → Prop) (H : Heap) => roW G A H [(oa, .inl (G.2 7, 6, .inr (.inr (.inr (.inr og)))))]) (S := Int32 × (Nat → Int32) × Nat × Nat × (Nat → Int32) × (Nat → Int32)) (fun (u_ : Int32 × (Nat → Int32) × Nat × Nat × (Nat → Int32) × (Nat → Int32)) => some (.int u_.1)) (fun (u_ : Int32 × (Nat → Int32) × Nat × Nat × (Nat → Int32) × (Nat → Int32)) => MutP (o_clear B id) f t u h u_.1 u_.2.1 u_.2.2.1 u_.2.2.2.1 u_.2.2.2.2.1) (fun (u_ : Int32 × (Nat → Int32) × Nat × Nat × (Nat → Int32) × (Nat → Int32)) => [(m0, .inr (6, [.ref sa, .ref oa, .ref pa, .ref la, .ref za, .ref na, .int (nI u_.2.2.2.1), .int (nI u_.2.2.1), .int gw, .int gd, .int gm, .int gr, .int (nI ((o_clear B id).1)), .int gv])), (sa, .inl (G.2 0, 830, .inl u_.2.1)), (ta, .inl (G.2 0, 830, .inl u_.2.2.2.2.1)), (za, .inl (G.2 0, 6, .inl u_.2.2.2.2.2))]) (fun (u_ : Int32 × (Nat → Int32) × Nat × Nat × (Nat → Int32) × (Nat → Int32)) (H : Heap) => True) := by
  refine CT.of (by decide) (Nat.le_of_ble_eq_true rfl) ?_
  intro p e s m below meth c ls A H locs h9 hH0 hP hS
  obtain ⟨cf, hr, hlk, hnm, hKB, hE, -, hD, -, hA, hAw, hR0, hl⟩ := h9
  have hx := cf.1
  have hb := cf.2.1
  have hml := cf.2.2.1
  have hown : s.vm.findClass RX4 = some m.cls := cf.2.2.2.1
  have hts := cf.2.2.2.2
  have hK := hKB.1
  have hl : lv_has ls 3 [(0, .ref m0), (1, .int id)] := hl
  have iN := iv_sN hI
  have iT := iv_tN hI
  have iD := iv_bD hI
  have iE := iv_bE hI
  have iW := iv_id hI
  refine lv_aload_n hx hb dX4_clearParts_0 rfl (lv_at hl 0 rfl) ?_
  refine lv_iload_n hx hb dX4_clearParts_1 rfl (lv_at hl 1 rfl) ?_
  have hF := hF_of (wc := [(m0, .inr (6, [.ref sa, .ref oa, .ref pa, .ref la, .ref za, .ref na, .int (nI u), .int (nI t), .int gw, .int gd, .int gm, .int gr, .int gh, .int gv]))]) hD hS hA [0] rfl
  refine go_ct hS hP hD [0] [1, 2, 3] hF rfl rfl (by decide) (by decide)
      (va_runV (As := [.int id]) (rest := []) cf (mX4_isNoSession l G m0 sa oa pa la za na (nI u) (nI t) gw gd gm gr gh gv f B id (show MR f B from by first | assumption | omega) (show Inv B from by first | assumption | omega) H.size) (cwV 1 hts (lw_V q1751 q1753 qs32 q58 q1754) rfl rfl rfl (by decide +kernel) ⟨Nat.le_of_ble_eq_true rfl, Nat.le_of_ble_eq_true rfl⟩) (preV_of hKB hE hS hF (va_recv hK hP (ci := 6) (q0 := 0) rfl rfl) (va_P.sub hP [0] rfl) ((va_D.sub hD [0] (by decide) rfl).weaken (fun _ _ _ _ => trivial)) (roW.of (w' := [(sa, .inl (G.2 0, 830, .inl f))]) hP hD [0] [1] rfl rfl (by decide))) rfl rfl hl.1 rfl (lv_room (Nat.le_of_ble_eq_true rfl)) dX4_clearParts_2 ⟨show 0 + 0 ≤ 0 from by first | decide | omega, show 0 + 0 ≤ 0 from by first | decide | omega⟩)
      (fun u_ H locs hq hph (hP : va_P G.1 CL [(sa, .inl (G.2 0, 830, .inl f)), (ta, .inl (G.2 0, 830, .inl h)), (za, .inl (G.2 0, 6, .inl zf)), (m0, .inr (6, [.ref sa, .ref oa, .ref pa, .ref la, .ref za, .ref na, .int (nI u), .int (nI t), .int gw, .int gd, .int gm, .int gr, .int (nS u_), .int gv]))] H) (hD : va_D A [(sa, .inl (G.2 0, 830, .inl f)), (ta, .inl (G.2 0, 830, .inl h)), (za, .inl (G.2 0, 6, .inl zf)), (m0, .inr (6, [.ref sa, .ref oa, .ref pa, .ref la, .ref za, .ref na, .int (nI u), .int (nI t), .int gw, .int gd, .int gm, .int gr, .int (nS u_), .int gv]))]) hS hfz hfk => ?_)
  obtain ⟨fo_738, rfl⟩ : ∃ z, z = u_ := ⟨_, rfl⟩
  have hP : va_P G.1 CL [(sa, .inl (G.2 0, 830, .inl f)), (ta, .inl (G.2 0, 830, .inl h)), (za, .inl (G.2 0, 6, .inl zf)), (m0, .inr (6, [.ref sa, .ref oa, .ref pa, .ref la, .ref za, .ref na, .int (nI u), .int (nI t), .int gw, .int gd, .int gm, .int gr, .int (nS fo_738), .int gv]))] H := hP
  have hD : va_D A [(sa, .inl (G.2 0, 830, .inl f)), (ta, .inl (G.2 0, 830, .inl h)), (za, .inl (G.2 0, 6, .inl zf)), (m0, .inr (6, [.ref sa, .ref oa, .ref pa, .ref la, .ref za, .ref na, .int (nI u), .int (nI t), .int gw, .int gd, .int gm, .int gr, .int (nS fo_738), .int gv]))] := hD
  have hq_739 : PL B id (sN B) fo_738 := hq
  refine W.eq (g2 := F0 m 5 ls [.int (nS fo_738)]) rfl ?_
  have hix_741 := ixS_eq hI hq_739
  rcases fo_738 with _ | k_740
  · refine lv_ton (n := 1) rfl ?_
    refine n_if_eq (tgt := 10) hx hb (by omega) dX4_clearParts_5 (by decide) (fun c_742 => absurd c_742 (by omega)) (fun c_742 => ?_)
    refine lv_iconst (v := nI 0) hx hb dX4_clearParts_8 (by decide) ?_
    have hq9 : o_clear B id = (1, 0, B) := by unfold o_clear; rw [hix_741] <;> rfl
    have hP : va_P G.1 CL [(sa, .inl (G.2 0, 830, .inl f)), (ta, .inl (G.2 0, 830, .inl h)), (za, .inl (G.2 0, 6, .inl zf)), (m0, .inr (6, [.ref sa, .ref oa, .ref pa, .ref la, .ref za, .ref na, .int (nI u), .int (nI t), .int gw, .int gd, .int gm, .int gr, .int (nI ((o_clear B id).1)), .int gv]))] H := by rw [hq9]; exact hP
    have hD : va_D A [(sa, .inl (G.2 0, 830, .inl f)), (ta, .inl (G.2 0, 830, .inl h)), (za, .inl (G.2 0, 6, .inl zf)), (m0, .inr (6, [.ref sa, .ref oa, .ref pa, .ref la, .ref za, .ref na, .int (nI u), .int (nI t), .int gw, .int gd, .int gm, .int gr, .int (nI ((o_clear B id).1)), .int gv]))] := by rw [hq9]; exact hD
    have hP9 : va_P G.1 CL [(m0, .inr (6, [.ref sa, .ref oa, .ref pa, .ref la, .ref za, .ref na, .int (nI u), .int (nI t), .int gw, .int gd, .int gm, .int gr, .int (nI ((o_clear B id).1)), .int gv])), (sa, .inl (G.2 0, 830, .inl f)), (ta, .inl (G.2 0, 830, .inl h)), (za, .inl (G.2 0, 6, .inl zf))] H := hP.sub [3, 0, 1, 2] rfl
    have hD9 : va_D A [(m0, .inr (6, [.ref sa, .ref oa, .ref pa, .ref la, .ref za, .ref na, .int (nI u), .int (nI t), .int gw, .int gd, .int gm, .int gr, .int (nI ((o_clear B id).1)), .int gv])), (sa, .inl (G.2 0, 830, .inl f)), (ta, .inl (G.2 0, 830, .inl h)), (za, .inl (G.2 0, 6, .inl zf))] := hD.sub [3, 0, 1, 2] (by decide) rfl
    exact end_i hx hb hr hlk (rfl) (qc_of ⟨nI 0, f, t, u, h, zf⟩ (v := some (.int (nI 0))) (by rfl) (by rw [hq9]; exact ⟨fun _ => ⟨rfl, rfl, rfl, rfl⟩, fun z => absurd (show (1 : Nat) = 0 from z) (by decide)⟩) hP9 hD9 (trivial) hS) hS dX4_clearParts_9 (show 0 ≤ 0 from by first | exact Nat.le_refl _ | decide | omega) (show 0 ≤ 0 from by first | exact Nat.le_refl _ | decide | omega)
  · refine lv_ton (n := 0) rfl ?_
    have hkk : k_740 < sN B := (hq_739).1
    refine n_if_eq (tgt := 10) hx hb (by omega) dX4_clearParts_5 (by decide) (fun c_743 => ?_) (fun c_743 => absurd c_743 (by omega))
    refine lv_aload_n hx hb dX4_clearParts_10 rfl (lv_at hl 0 rfl) ?_
    have hF := hF_of (wc := [(m0, .inr (6, [.ref sa, .ref oa, .ref pa, .ref la, .ref za, .ref na, .int (nI u), .int (nI t), .int gw, .int gd, .int gm, .int gr, .int (nS (some k_740)), .int gv])), (ta, .inl (G.2 0, 830, .inl h))]) hD hS hA [3, 1] rfl
    have hro_744 : roW G (va_A [(m0, .inr (6, [.ref sa, .ref oa, .ref pa, .ref la, .ref za, .ref na, .int (nI u), .int (nI t), .int gw, .int gd, .int gm, .int gr, .int (nS (some k_740)), .int gv])), (ta, .inl (G.2 0, 830, .inl h))] H.size) H [(oa, .inl (G.2 7, 6, .inr (.inr (.inr (.inr og))))), (sa, .inl (G.2 0, 830, .inl f))] := (((hR0.kp hF hS.2.1).sub (ws' := [(oa, .inl (G.2 7, 6, .inr (.inr (.inr (.inr og)))))]) [0] rfl).app (roW.of (w' := [(sa, .inl (G.2 0, 830, .inl f))]) hP hD [3, 1] [0] rfl rfl (by decide)))
    refine go_ct hS hP hD [3, 1] [0, 2] hF rfl rfl (by decide) (by decide)
        (va_runV (As := []) (rest := []) cf (mX4_keeps l G m0 sa oa pa la za na gw gd gm gr (nS (some k_740)) gv f t u ta h og (show t < 6 from by first | assumption | omega) (show u ≤ 6 from by first | assumption | omega) (show og ((t + 1) % 6) = some ta from by first | assumption | omega) H.size) (cwV 0 hts (lw_V q1654 q1656 qs21 q58 q1657) rfl rfl rfl (by decide +kernel) ⟨Nat.le_of_ble_eq_true rfl, Nat.le_of_ble_eq_true rfl⟩) (preV_of hKB hE hS hF (va_recv hK hP (ci := 6) (q0 := 3) rfl rfl) (va_P.sub hP [3, 1] rfl) ((va_D.sub hD [3, 1] (by decide) rfl).weaken (fun _ _ _ _ => trivial)) hro_744) rfl rfl hl.1 rfl (lv_room (Nat.le_of_ble_eq_true rfl)) dX4_clearParts_11 ⟨show 0 + 0 ≤ 0 from by first | decide | omega, show 0 + 0 ≤ 0 from by first | decide | omega⟩)
        (fun u_ H locs hq hph (hP : va_P G.1 CL [(sa, .inl (G.2 0, 830, .inl f)), (za, .inl (G.2 0, 6, .inl zf)), (m0, .inr (6, [.ref sa, .ref oa, .ref pa, .ref la, .ref za, .ref na, .int (nI (min 6 (u + 1))), .int (nI ((t + 1) % 6)), .int gw, .int gd, .int gm, .int gr, .int (nS (some k_740)), .int gv])), (ta, .inl (G.2 0, 830, .inl f))] H) (hD : va_D A [(sa, .inl (G.2 0, 830, .inl f)), (za, .inl (G.2 0, 6, .inl zf)), (m0, .inr (6, [.ref sa, .ref oa, .ref pa, .ref la, .ref za, .ref na, .int (nI (min 6 (u + 1))), .int (nI ((t + 1) % 6)), .int gw, .int gd, .int gm, .int gr, .int (nS (some k_740)), .int gv])), (ta, .inl (G.2 0, 830, .inl f))]) hS hfz hfk => ?_)
    refine W.eq (g2 := F0 m 14 ls []) rfl ?_
    refine lv_aload_n hx hb dX4_clearParts_14 rfl (lv_at hl 0 rfl) ?_
    refine va_get hx hb hts in_X4 hown hK hP 2 rfl rfl 0 (by decide) (hts _ q1596) (fun _ h => h) rfl dX4_clearParts_15 ?_
    refine lv_aload_n hx hb dX4_clearParts_18 rfl (lv_at hl 0 rfl) ?_
    refine lv_aload_n hx hb dX4_clearParts_19 rfl (lv_at hl 0 rfl) ?_
    refine lv_iload_n hx hb dX4_clearParts_20 rfl (lv_at hl 1 rfl) ?_
    have hF := hF_of (wc := []) hD hS hA [] rfl
    have hro_745 : va_P G.1 CL [(m0, .inr (6, [.ref sa, .ref oa, .ref pa, .ref la, .ref za, .ref na, .int (nI (min 6 (u + 1))), .int (nI ((t + 1) % 6)), .int gw, .int gd, .int gm, .int gr, .int (nS (some k_740)), .int gv])), (sa, .inl (G.2 0, 830, .inl f))] H := (va_P.sub hP [2, 0] rfl)
    refine go_ct hS hP hD [] [0, 1, 2, 3] hF rfl rfl (by decide) (by decide)
        (va_runV (As := [.int id]) (rest := [.ref m0, .ref sa]) cf (mX4_place l G m0 sa oa pa la za na (nI (min 6 (u + 1))) (nI ((t + 1) % 6)) gw gd gm gr (nS (some k_740)) gv f B id (show MR f B from by first | assumption | omega) (show Inv B from by first | assumption | omega) H.size) (cwV 1 hts (lw_V q1739 q1741 qs30 q58 q1742) rfl rfl rfl (by decide +kernel) ⟨Nat.le_of_ble_eq_true rfl, Nat.le_of_ble_eq_true rfl⟩) (preV_of hKB hE hS hF (va_recv hK hP (ci := 6) (q0 := 2) rfl rfl) (va_P.sub hP [] rfl) ((va_D.sub hD [] (by decide) rfl).weaken (fun _ _ _ _ => trivial)) (roW.nil hro_745)) rfl rfl hl.1 rfl (lv_room (Nat.le_of_ble_eq_true rfl)) dX4_clearParts_21 ⟨show 0 + 0 ≤ 0 from by first | decide | omega, show 0 + 0 ≤ 0 from by first | decide | omega⟩)
        (fun u_ H locs hq hph (hP : va_P G.1 CL [(sa, .inl (G.2 0, 830, .inl f)), (za, .inl (G.2 0, 6, .inl zf)), (m0, .inr (6, [.ref sa, .ref oa, .ref pa, .ref la, .ref za, .ref na, .int (nI (min 6 (u + 1))), .int (nI ((t + 1) % 6)), .int gw, .int gd, .int gm, .int gr, .int (nS (some k_740)), .int gv])), (ta, .inl (G.2 0, 830, .inl f))] H) (hD : va_D A [(sa, .inl (G.2 0, 830, .inl f)), (za, .inl (G.2 0, 6, .inl zf)), (m0, .inr (6, [.ref sa, .ref oa, .ref pa, .ref la, .ref za, .ref na, .int (nI (min 6 (u + 1))), .int (nI ((t + 1) % 6)), .int gw, .int gd, .int gm, .int gr, .int (nS (some k_740)), .int gv])), (ta, .inl (G.2 0, 830, .inl f))]) hS hfz hfk => ?_)
    obtain ⟨fo_746, rfl⟩ : ∃ z, z = u_ := ⟨_, rfl⟩
    have hP : va_P G.1 CL [(sa, .inl (G.2 0, 830, .inl f)), (za, .inl (G.2 0, 6, .inl zf)), (m0, .inr (6, [.ref sa, .ref oa, .ref pa, .ref la, .ref za, .ref na, .int (nI (min 6 (u + 1))), .int (nI ((t + 1) % 6)), .int gw, .int gd, .int gm, .int gr, .int (nS (some k_740)), .int gv])), (ta, .inl (G.2 0, 830, .inl f))] H := hP
    have hD : va_D A [(sa, .inl (G.2 0, 830, .inl f)), (za, .inl (G.2 0, 6, .inl zf)), (m0, .inr (6, [.ref sa, .ref oa, .ref pa, .ref la, .ref za, .ref na, .int (nI (min 6 (u + 1))), .int (nI ((t + 1) % 6)), .int gw, .int gd, .int gm, .int gr, .int (nS (some k_740)), .int gv])), (ta, .inl (G.2 0, 830, .inl f))] := hD
    have hq_747 : PL B id (sN B) fo_746 := hq
    refine W.eq (g2 := F0 m 24 ls [.int (oI fo_746), .ref m0, .ref sa]) rfl ?_
    have he_748 := (ixS_eq hI hq_747).symm.trans hix_741
    refine lv_ton (n := k_740) (by rw [he_748]; rfl) ?_
    have hF := hF_of (wc := []) hD hS hA [] rfl
    refine go_ct hS hP hD [] [0, 1, 2, 3] hF rfl rfl (by decide) (by decide)
        (va_runV (As := [.int (nI k_740)]) (rest := [.ref sa]) cf (mX4_at l G m0 k_740  H.size) (cwV 1 hts (lw_V q1687 q1689 qs27 q58 q1690) rfl rfl rfl (by decide +kernel) ⟨Nat.le_of_ble_eq_true rfl, Nat.le_of_ble_eq_true rfl⟩) (preV_of hKB hE hS hF (va_recv hK hP (ci := 6) (q0 := 2) rfl rfl) (va_P.sub hP [] rfl) ((va_D.sub hD [] (by decide) rfl).weaken (fun _ _ _ _ => trivial)) trivial) rfl rfl hl.1 rfl (lv_room (Nat.le_of_ble_eq_true rfl)) dX4_clearParts_24 ⟨show 0 + 0 ≤ 0 from by first | decide | omega, show 0 + 0 ≤ 0 from by first | decide | omega⟩)
        (fun u_ H locs hq hph (hP : va_P G.1 CL [(sa, .inl (G.2 0, 830, .inl f)), (za, .inl (G.2 0, 6, .inl zf)), (m0, .inr (6, [.ref sa, .ref oa, .ref pa, .ref la, .ref za, .ref na, .int (nI (min 6 (u + 1))), .int (nI ((t + 1) % 6)), .int gw, .int gd, .int gm, .int gr, .int (nS (some k_740)), .int gv])), (ta, .inl (G.2 0, 830, .inl f))] H) (hD : va_D A [(sa, .inl (G.2 0, 830, .inl f)), (za, .inl (G.2 0, 6, .inl zf)), (m0, .inr (6, [.ref sa, .ref oa, .ref pa, .ref la, .ref za, .ref na, .int (nI (min 6 (u + 1))), .int (nI ((t + 1) % 6)), .int gw, .int gd, .int gm, .int gr, .int (nS (some k_740)), .int gv])), (ta, .inl (G.2 0, 830, .inl f))]) hS hfz hfk => ?_)
    refine W.eq (g2 := F0 m 27 ls [.int (nI (19 * k_740 + 70)), .ref sa]) rfl ?_
    refine lv_iconst (v := nI 2) hx hb dX4_clearParts_27 (by decide) ?_
    refine lv_iadd hx hb dX4_clearParts_28 ?_
    refine lv_ton (n := 19 * k_740 + 72) (nadd (by omega)) ?_
    refine r_iald (v := nI (nP (sAt B k_740))) hx hb hK hP 0 0 rfl rfl (i := 19 * k_740 + 72) (by omega) (by omega) (hM.snp (k := k_740) (by omega)) dX4_clearParts_29 ?_
    refine lv_istore_n (lv' := [(2, .int (nI (nP (sAt B k_740)))), (0, .ref m0), (1, .int id)]) hx hb dX4_clearParts_30 rfl hl (by decide) rfl (fun ls hl => ?_)
    refine lv_aload_n hx hb dX4_clearParts_31 rfl (lv_at hl 1 rfl) ?_
    refine va_get hx hb hts in_X4 hown hK hP 2 rfl rfl 0 (by decide) (hts _ q1596) (fun _ h => h) rfl dX4_clearParts_32 ?_
    refine lv_aload_n hx hb dX4_clearParts_35 rfl (lv_at hl 1 rfl) ?_
    refine lv_aload_n hx hb dX4_clearParts_36 rfl (lv_at hl 1 rfl) ?_
    refine lv_iload_n hx hb dX4_clearParts_37 rfl (lv_at hl 2 rfl) ?_
    have hF := hF_of (wc := []) hD hS hA [] rfl
    have hro_749 : va_P G.1 CL [(m0, .inr (6, [.ref sa, .ref oa, .ref pa, .ref la, .ref za, .ref na, .int (nI (min 6 (u + 1))), .int (nI ((t + 1) % 6)), .int gw, .int gd, .int gm, .int gr, .int (nS (some k_740)), .int gv])), (sa, .inl (G.2 0, 830, .inl f))] H := (va_P.sub hP [2, 0] rfl)
    refine go_ct hS hP hD [] [0, 1, 2, 3] hF rfl rfl (by decide) (by decide)
        (va_runV (As := [.int id]) (rest := [.ref m0, .ref sa]) cf (mX4_place l G m0 sa oa pa la za na (nI (min 6 (u + 1))) (nI ((t + 1) % 6)) gw gd gm gr (nS (some k_740)) gv f B id (show MR f B from by first | assumption | omega) (show Inv B from by first | assumption | omega) H.size) (cwV 1 hts (lw_V q1739 q1741 qs30 q58 q1742) rfl rfl rfl (by decide +kernel) ⟨Nat.le_of_ble_eq_true rfl, Nat.le_of_ble_eq_true rfl⟩) (preV_of hKB hE hS hF (va_recv hK hP (ci := 6) (q0 := 2) rfl rfl) (va_P.sub hP [] rfl) ((va_D.sub hD [] (by decide) rfl).weaken (fun _ _ _ _ => trivial)) (roW.nil hro_749)) rfl rfl hl.1 rfl (lv_room (Nat.le_of_ble_eq_true rfl)) dX4_clearParts_38 ⟨show 0 + 0 ≤ 0 from by first | decide | omega, show 0 + 0 ≤ 0 from by first | decide | omega⟩)
        (fun u_ H locs hq hph (hP : va_P G.1 CL [(sa, .inl (G.2 0, 830, .inl f)), (za, .inl (G.2 0, 6, .inl zf)), (m0, .inr (6, [.ref sa, .ref oa, .ref pa, .ref la, .ref za, .ref na, .int (nI (min 6 (u + 1))), .int (nI ((t + 1) % 6)), .int gw, .int gd, .int gm, .int gr, .int (nS (some k_740)), .int gv])), (ta, .inl (G.2 0, 830, .inl f))] H) (hD : va_D A [(sa, .inl (G.2 0, 830, .inl f)), (za, .inl (G.2 0, 6, .inl zf)), (m0, .inr (6, [.ref sa, .ref oa, .ref pa, .ref la, .ref za, .ref na, .int (nI (min 6 (u + 1))), .int (nI ((t + 1) % 6)), .int gw, .int gd, .int gm, .int gr, .int (nS (some k_740)), .int gv])), (ta, .inl (G.2 0, 830, .inl f))]) hS hfz hfk => ?_)
    obtain ⟨fo_750, rfl⟩ : ∃ z, z = u_ := ⟨_, rfl⟩
    have hP : va_P G.1 CL [(sa, .inl (G.2 0, 830, .inl f)), (za, .inl (G.2 0, 6, .inl zf)), (m0, .inr (6, [.ref sa, .ref oa, .ref pa, .ref la, .ref za, .ref na, .int (nI (min 6 (u + 1))), .int (nI ((t + 1) % 6)), .int gw, .int gd, .int gm, .int gr, .int (nS (some k_740)), .int gv])), (ta, .inl (G.2 0, 830, .inl f))] H := hP
    have hD : va_D A [(sa, .inl (G.2 0, 830, .inl f)), (za, .inl (G.2 0, 6, .inl zf)), (m0, .inr (6, [.ref sa, .ref oa, .ref pa, .ref la, .ref za, .ref na, .int (nI (min 6 (u + 1))), .int (nI ((t + 1) % 6)), .int gw, .int gd, .int gm, .int gr, .int (nS (some k_740)), .int gv])), (ta, .inl (G.2 0, 830, .inl f))] := hD
    have hq_751 : PL B id (sN B) fo_750 := hq
    refine W.eq (g2 := F0 m 41 ls [.int (oI fo_750), .ref m0, .ref sa]) rfl ?_
    have he_752 := (ixS_eq hI hq_751).symm.trans hix_741
    refine lv_ton (n := k_740) (by rw [he_752]; rfl) ?_
    have hF := hF_of (wc := []) hD hS hA [] rfl
    refine go_ct hS hP hD [] [0, 1, 2, 3] hF rfl rfl (by decide) (by decide)
        (va_runV (As := [.int (nI k_740)]) (rest := [.ref sa]) cf (mX4_at l G m0 k_740  H.size) (cwV 1 hts (lw_V q1687 q1689 qs27 q58 q1690) rfl rfl rfl (by decide +kernel) ⟨Nat.le_of_ble_eq_true rfl, Nat.le_of_ble_eq_true rfl⟩) (preV_of hKB hE hS hF (va_recv hK hP (ci := 6) (q0 := 2) rfl rfl) (va_P.sub hP [] rfl) ((va_D.sub hD [] (by decide) rfl).weaken (fun _ _ _ _ => trivial)) trivial) rfl rfl hl.1 rfl (lv_room (Nat.le_of_ble_eq_true rfl)) dX4_clearParts_41 ⟨show 0 + 0 ≤ 0 from by first | decide | omega, show 0 + 0 ≤ 0 from by first | decide | omega⟩)
        (fun u_ H locs hq hph (hP : va_P G.1 CL [(sa, .inl (G.2 0, 830, .inl f)), (za, .inl (G.2 0, 6, .inl zf)), (m0, .inr (6, [.ref sa, .ref oa, .ref pa, .ref la, .ref za, .ref na, .int (nI (min 6 (u + 1))), .int (nI ((t + 1) % 6)), .int gw, .int gd, .int gm, .int gr, .int (nS (some k_740)), .int gv])), (ta, .inl (G.2 0, 830, .inl f))] H) (hD : va_D A [(sa, .inl (G.2 0, 830, .inl f)), (za, .inl (G.2 0, 6, .inl zf)), (m0, .inr (6, [.ref sa, .ref oa, .ref pa, .ref la, .ref za, .ref na, .int (nI (min 6 (u + 1))), .int (nI ((t + 1) % 6)), .int gw, .int gd, .int gm, .int gr, .int (nS (some k_740)), .int gv])), (ta, .inl (G.2 0, 830, .inl f))]) hS hfz hfk => ?_)
    refine W.eq (g2 := F0 m 44 ls [.int (nI (19 * k_740 + 70)), .ref sa]) rfl ?_
    refine lv_iconst (v := nI 2) hx hb dX4_clearParts_44 (by decide) ?_
    refine lv_iadd hx hb dX4_clearParts_45 ?_
    refine lv_ton (n := 19 * k_740 + 72) (nadd (by omega)) ?_
    refine lv_iconst (v := nI 0) hx hb dX4_clearParts_46 (by decide) ?_
    refine r_iast hx hb hK hP hD hS 0 0 rfl rfl (i := 19 * k_740 + 72) (by omega) (by omega) dX4_clearParts_47 (fun H locs (hP : va_P G.1 CL [(sa, .inl (G.2 0, 830, .inl (upd f (19 * k_740 + 72) (nI 0)))), (za, .inl (G.2 0, 6, .inl zf)), (m0, .inr (6, [.ref sa, .ref oa, .ref pa, .ref la, .ref za, .ref na, .int (nI (min 6 (u + 1))), .int (nI ((t + 1) % 6)), .int gw, .int gd, .int gm, .int gr, .int (nS (some k_740)), .int gv])), (ta, .inl (G.2 0, 830, .inl f))] H) (hD : va_D A [(sa, .inl (G.2 0, 830, .inl (upd f (19 * k_740 + 72) (nI 0)))), (za, .inl (G.2 0, 6, .inl zf)), (m0, .inr (6, [.ref sa, .ref oa, .ref pa, .ref la, .ref za, .ref na, .int (nI (min 6 (u + 1))), .int (nI ((t + 1) % 6)), .int gw, .int gd, .int gm, .int gr, .int (nS (some k_740)), .int gv])), (ta, .inl (G.2 0, 830, .inl f))]) hS => ?_)
    refine lv_iload_n hx hb dX4_clearParts_48 rfl (lv_at hl 0 rfl) ?_
    have hq9 : o_clear B id = (0, nI (nP (sAt B k_740)), wS B ((bS B).set k_740 (sId (sAt B k_740), sDay (sAt B k_740), []))) := by unfold o_clear; rw [hix_741] <;> rfl
    have hP : va_P G.1 CL [(sa, .inl (G.2 0, 830, .inl (upd f (19 * k_740 + 72) (nI 0)))), (za, .inl (G.2 0, 6, .inl zf)), (m0, .inr (6, [.ref sa, .ref oa, .ref pa, .ref la, .ref za, .ref na, .int (nI (min 6 (u + 1))), .int (nI ((t + 1) % 6)), .int gw, .int gd, .int gm, .int gr, .int (nI ((o_clear B id).1)), .int gv])), (ta, .inl (G.2 0, 830, .inl f))] H := by rw [hq9]; exact hP
    have hD : va_D A [(sa, .inl (G.2 0, 830, .inl (upd f (19 * k_740 + 72) (nI 0)))), (za, .inl (G.2 0, 6, .inl zf)), (m0, .inr (6, [.ref sa, .ref oa, .ref pa, .ref la, .ref za, .ref na, .int (nI (min 6 (u + 1))), .int (nI ((t + 1) % 6)), .int gw, .int gd, .int gm, .int gr, .int (nI ((o_clear B id).1)), .int gv])), (ta, .inl (G.2 0, 830, .inl f))] := by rw [hq9]; exact hD
    have hP9 : va_P G.1 CL [(m0, .inr (6, [.ref sa, .ref oa, .ref pa, .ref la, .ref za, .ref na, .int (nI (min 6 (u + 1))), .int (nI ((t + 1) % 6)), .int gw, .int gd, .int gm, .int gr, .int (nI ((o_clear B id).1)), .int gv])), (sa, .inl (G.2 0, 830, .inl (upd f (19 * k_740 + 72) (nI 0)))), (ta, .inl (G.2 0, 830, .inl f)), (za, .inl (G.2 0, 6, .inl zf))] H := hP.sub [2, 0, 3, 1] rfl
    have hD9 : va_D A [(m0, .inr (6, [.ref sa, .ref oa, .ref pa, .ref la, .ref za, .ref na, .int (nI (min 6 (u + 1))), .int (nI ((t + 1) % 6)), .int gw, .int gd, .int gm, .int gr, .int (nI ((o_clear B id).1)), .int gv])), (sa, .inl (G.2 0, 830, .inl (upd f (19 * k_740 + 72) (nI 0)))), (ta, .inl (G.2 0, 830, .inl f)), (za, .inl (G.2 0, 6, .inl zf))] := hD.sub [2, 0, 3, 1] (by decide) rfl
    exact end_i hx hb hr hlk (rfl) (qc_of ⟨nI (nP (sAt B k_740)), upd f (19 * k_740 + 72) (nI 0), ((t + 1) % 6), (min 6 (u + 1)), f, zf⟩ (v := some (.int (nI (nP (sAt B k_740))))) (by rfl) (by rw [hq9]; exact ⟨fun z => absurd rfl z, fun _ => ⟨rfl, MR_clear hI hM hkk, rfl, rfl, rfl⟩⟩) hP9 hD9 (trivial) hS) hS dX4_clearParts_49 (show 0 ≤ 0 from by first | exact Nat.le_refl _ | decide | omega) (show 0 ≤ 0 from by first | exact Nat.le_refl _ | decide | omega)

set_option maxHeartbeats 4000000 in
theorem mX4_moveSession (l : Launch) (G : Gt) (m0 : Nat) (sa : Nat) (oa : Nat) (pa : Nat) (la : Nat) (za : Nat) (na : Nat) (gw : Int32) (gd : Int32) (gm : Int32) (gr : Int32) (gh : Int32) (gv : Int32) (f : Nat → Int32) (B : Bk) (t : Nat) (u : Nat) (ta : Nat) (h : Nat → Int32) (og : Nat → Option Nat) (zf : Nat → Int32) (id : Int32) (d : Int32) (hM : MR f B) (hI : Inv B) (ht : t < 6) (hu : u ≤ 6) (hog : og ((t + 1) % 6) = some ta) : CT l G yX4_moveSession cX4_moveSession 4 (some .int) ({ frames := 4, cells := 0, slots := 0, locals := 77 } : Room) [.ref m0, .int id, .int d] [(m0, .inr (6, [.ref sa, .ref oa, .ref pa, .ref la, .ref za, .ref na, .int (nI u), .int (nI t), .int gw, .int gd, .int gm, .int gr, .int gh, .int gv])), (sa, .inl (G.2 0, 830, .inl f)), (ta, .inl (G.2 0, 830, .inl h)), (za, .inl (G.2 0, 6, .inl zf))] (fun (A : Nat → Prop) (H : Heap) => roW G A H [(oa, .inl (G.2 7, 6, .inr (.inr (.inr (.inr og)))))]) (S := Int32 × (Nat → Int32) × Nat × Nat × (Nat → Int32) × (Nat → Int32)) (fun (u_ : Int32 × (Nat → Int32) × Nat × Nat × (Nat → Int32) × (Nat → Int32)) => some (.int u_.1)) (fun (u_ : Int32 × (Nat → Int32) × Nat × Nat × (Nat → Int32) × (Nat → Int32)) => MutP (o_move B id d) f t u h u_.1 u_.2.1 u_.2.2.1 u_.2.2.2.1 u_.2.2.2.2.1) (fun (u_ : Int32 × (Nat → Int32) × Nat × Nat × (Nat → Int32) × (Nat → Int32)) => [(m0, .inr (6, [.ref sa, .ref oa, .ref pa, .ref la, .ref za, .ref na, .int (nI u_.2.2.2.1), .int (nI u_.2.2.1), .int gw, .int gd, .int gm, .int gr, .int (nI ((o_move B id d).1)), .int gv])), (sa, .inl (G.2 0, 830, .inl u_.2.1)), (ta, .inl (G.2 0, 830, .inl u_.2.2.2.2.1)), (za, .inl (G.2 0, 6, .inl u_.2.2.2.2.2))]) (fun (u_ : Int32 × (Nat → Int32) × Nat × Nat × (Nat → Int32) × (Nat → Int32)) (H : Heap) => True) := by
  refine CT.of (by decide) (Nat.le_of_ble_eq_true rfl) ?_
  intro p e s m below meth c ls A H locs h9 hH0 hP hS
  obtain ⟨cf, hr, hlk, hnm, hKB, hE, -, hD, -, hA, hAw, hR0, hl⟩ := h9
  have hx := cf.1
  have hb := cf.2.1
  have hml := cf.2.2.1
  have hown : s.vm.findClass RX4 = some m.cls := cf.2.2.2.1
  have hts := cf.2.2.2.2
  have hK := hKB.1
  have hl : lv_has ls 4 [(0, .ref m0), (1, .int id), (2, .int d)] := hl
  have iN := iv_sN hI
  have iT := iv_tN hI
  have iD := iv_bD hI
  have iE := iv_bE hI
  have iW := iv_id hI
  refine lv_aload_n hx hb dX4_moveSession_0 rfl (lv_at hl 0 rfl) ?_
  refine lv_iload_n hx hb dX4_moveSession_1 rfl (lv_at hl 1 rfl) ?_
  have hF := hF_of (wc := [(m0, .inr (6, [.ref sa, .ref oa, .ref pa, .ref la, .ref za, .ref na, .int (nI u), .int (nI t), .int gw, .int gd, .int gm, .int gr, .int gh, .int gv]))]) hD hS hA [0] rfl
  refine go_ct hS hP hD [0] [1, 2, 3] hF rfl rfl (by decide) (by decide)
      (va_runV (As := [.int id]) (rest := []) cf (mX4_isNoSession l G m0 sa oa pa la za na (nI u) (nI t) gw gd gm gr gh gv f B id (show MR f B from by first | assumption | omega) (show Inv B from by first | assumption | omega) H.size) (cwV 1 hts (lw_V q1751 q1753 qs32 q58 q1754) rfl rfl rfl (by decide +kernel) ⟨Nat.le_of_ble_eq_true rfl, Nat.le_of_ble_eq_true rfl⟩) (preV_of hKB hE hS hF (va_recv hK hP (ci := 6) (q0 := 0) rfl rfl) (va_P.sub hP [0] rfl) ((va_D.sub hD [0] (by decide) rfl).weaken (fun _ _ _ _ => trivial)) (roW.of (w' := [(sa, .inl (G.2 0, 830, .inl f))]) hP hD [0] [1] rfl rfl (by decide))) rfl rfl hl.1 rfl (lv_room (Nat.le_of_ble_eq_true rfl)) dX4_moveSession_2 ⟨show 0 + 0 ≤ 0 from by first | decide | omega, show 0 + 0 ≤ 0 from by first | decide | omega⟩)
      (fun u_ H locs hq hph (hP : va_P G.1 CL [(sa, .inl (G.2 0, 830, .inl f)), (ta, .inl (G.2 0, 830, .inl h)), (za, .inl (G.2 0, 6, .inl zf)), (m0, .inr (6, [.ref sa, .ref oa, .ref pa, .ref la, .ref za, .ref na, .int (nI u), .int (nI t), .int gw, .int gd, .int gm, .int gr, .int (nS u_), .int gv]))] H) (hD : va_D A [(sa, .inl (G.2 0, 830, .inl f)), (ta, .inl (G.2 0, 830, .inl h)), (za, .inl (G.2 0, 6, .inl zf)), (m0, .inr (6, [.ref sa, .ref oa, .ref pa, .ref la, .ref za, .ref na, .int (nI u), .int (nI t), .int gw, .int gd, .int gm, .int gr, .int (nS u_), .int gv]))]) hS hfz hfk => ?_)
  obtain ⟨fo_753, rfl⟩ : ∃ z, z = u_ := ⟨_, rfl⟩
  have hP : va_P G.1 CL [(sa, .inl (G.2 0, 830, .inl f)), (ta, .inl (G.2 0, 830, .inl h)), (za, .inl (G.2 0, 6, .inl zf)), (m0, .inr (6, [.ref sa, .ref oa, .ref pa, .ref la, .ref za, .ref na, .int (nI u), .int (nI t), .int gw, .int gd, .int gm, .int gr, .int (nS fo_753), .int gv]))] H := hP
  have hD : va_D A [(sa, .inl (G.2 0, 830, .inl f)), (ta, .inl (G.2 0, 830, .inl h)), (za, .inl (G.2 0, 6, .inl zf)), (m0, .inr (6, [.ref sa, .ref oa, .ref pa, .ref la, .ref za, .ref na, .int (nI u), .int (nI t), .int gw, .int gd, .int gm, .int gr, .int (nS fo_753), .int gv]))] := hD
  have hq_754 : PL B id (sN B) fo_753 := hq
  refine W.eq (g2 := F0 m 5 ls [.int (nS fo_753)]) rfl ?_
  have hix_756 := ixS_eq hI hq_754
  rcases fo_753 with _ | k_755
  · refine lv_ton (n := 1) rfl ?_
    refine n_if_ne (tgt := 21) hx hb (by omega) dX4_moveSession_5 (by decide) (fun c_757 => ?_) (fun c_757 => absurd c_757 (by omega))
    refine lv_iconst (v := nI 0) hx hb dX4_moveSession_21 (by decide) ?_
    have hq9 : o_move B id d = (1, 0, B) := by unfold o_move; rw [hix_756] <;> rfl
    have hP : va_P G.1 CL [(sa, .inl (G.2 0, 830, .inl f)), (ta, .inl (G.2 0, 830, .inl h)), (za, .inl (G.2 0, 6, .inl zf)), (m0, .inr (6, [.ref sa, .ref oa, .ref pa, .ref la, .ref za, .ref na, .int (nI u), .int (nI t), .int gw, .int gd, .int gm, .int gr, .int (nI ((o_move B id d).1)), .int gv]))] H := by rw [hq9]; exact hP
    have hD : va_D A [(sa, .inl (G.2 0, 830, .inl f)), (ta, .inl (G.2 0, 830, .inl h)), (za, .inl (G.2 0, 6, .inl zf)), (m0, .inr (6, [.ref sa, .ref oa, .ref pa, .ref la, .ref za, .ref na, .int (nI u), .int (nI t), .int gw, .int gd, .int gm, .int gr, .int (nI ((o_move B id d).1)), .int gv]))] := by rw [hq9]; exact hD
    have hP9 : va_P G.1 CL [(m0, .inr (6, [.ref sa, .ref oa, .ref pa, .ref la, .ref za, .ref na, .int (nI u), .int (nI t), .int gw, .int gd, .int gm, .int gr, .int (nI ((o_move B id d).1)), .int gv])), (sa, .inl (G.2 0, 830, .inl f)), (ta, .inl (G.2 0, 830, .inl h)), (za, .inl (G.2 0, 6, .inl zf))] H := hP.sub [3, 0, 1, 2] rfl
    have hD9 : va_D A [(m0, .inr (6, [.ref sa, .ref oa, .ref pa, .ref la, .ref za, .ref na, .int (nI u), .int (nI t), .int gw, .int gd, .int gm, .int gr, .int (nI ((o_move B id d).1)), .int gv])), (sa, .inl (G.2 0, 830, .inl f)), (ta, .inl (G.2 0, 830, .inl h)), (za, .inl (G.2 0, 6, .inl zf))] := hD.sub [3, 0, 1, 2] (by decide) rfl
    exact end_i hx hb hr hlk (rfl) (qc_of ⟨nI 0, f, t, u, h, zf⟩ (v := some (.int (nI 0))) (by rfl) (by rw [hq9]; exact ⟨fun _ => ⟨rfl, rfl, rfl, rfl⟩, fun z => absurd (show (1 : Nat) = 0 from z) (by decide)⟩) hP9 hD9 (trivial) hS) hS dX4_moveSession_22 (show 0 ≤ 0 from by first | exact Nat.le_refl _ | decide | omega) (show 0 ≤ 0 from by first | exact Nat.le_refl _ | decide | omega)
  · refine lv_ton (n := 0) rfl ?_
    have hkk : k_755 < sN B := (hq_754).1
    refine n_if_ne (tgt := 21) hx hb (by omega) dX4_moveSession_5 (by decide) (fun c_758 => absurd c_758 (by omega)) (fun c_758 => ?_)
    refine lv_aload_n hx hb dX4_moveSession_8 rfl (lv_at hl 0 rfl) ?_
    refine lv_aload_n hx hb dX4_moveSession_9 rfl (lv_at hl 0 rfl) ?_
    refine lv_iload_n hx hb dX4_moveSession_10 rfl (lv_at hl 2 rfl) ?_
    have hF := hF_of (wc := []) hD hS hA [] rfl
    have hro_759 : va_P G.1 CL [(m0, .inr (6, [.ref sa, .ref oa, .ref pa, .ref la, .ref za, .ref na, .int (nI u), .int (nI t), .int gw, .int gd, .int gm, .int gr, .int (nS (some k_755)), .int gv])), (sa, .inl (G.2 0, 830, .inl f))] H := (va_P.sub hP [3, 0] rfl)
    refine go_ct hS hP hD [] [0, 1, 2, 3] hF rfl rfl (by decide) (by decide)
        (va_runV (As := [.int d]) (rest := [.ref m0]) cf (mX4_isNoDay l G m0 sa oa pa la za na (nI u) (nI t) gw gd gm gr (nS (some k_755)) gv f B d (show MR f B from by first | assumption | omega) (show Inv B from by first | assumption | omega) H.size) (cwV 1 hts (lw_V q1667 q1669 qs22 q58 q1670) rfl rfl rfl (by decide +kernel) ⟨Nat.le_of_ble_eq_true rfl, Nat.le_of_ble_eq_true rfl⟩) (preV_of hKB hE hS hF (va_recv hK hP (ci := 6) (q0 := 3) rfl rfl) (va_P.sub hP [] rfl) ((va_D.sub hD [] (by decide) rfl).weaken (fun _ _ _ _ => trivial)) (roW.nil hro_759)) rfl rfl hl.1 rfl (lv_room (Nat.le_of_ble_eq_true rfl)) dX4_moveSession_11 ⟨show 0 + 0 ≤ 0 from by first | decide | omega, show 0 + 0 ≤ 0 from by first | decide | omega⟩)
        (fun u_ H locs hq hph (hP : va_P G.1 CL [(sa, .inl (G.2 0, 830, .inl f)), (ta, .inl (G.2 0, 830, .inl h)), (za, .inl (G.2 0, 6, .inl zf)), (m0, .inr (6, [.ref sa, .ref oa, .ref pa, .ref la, .ref za, .ref na, .int (nI u), .int (nI t), .int gw, .int gd, .int gm, .int gr, .int (nS (some k_755)), .int gv]))] H) (hD : va_D A [(sa, .inl (G.2 0, 830, .inl f)), (ta, .inl (G.2 0, 830, .inl h)), (za, .inl (G.2 0, 6, .inl zf)), (m0, .inr (6, [.ref sa, .ref oa, .ref pa, .ref la, .ref za, .ref na, .int (nI u), .int (nI t), .int gw, .int gd, .int gm, .int gr, .int (nS (some k_755)), .int gv]))]) hS hfz hfk => ?_)
    obtain ⟨b_760, rfl⟩ : ∃ z, z = u_ := ⟨_, rfl⟩
    have hP : va_P G.1 CL [(sa, .inl (G.2 0, 830, .inl f)), (ta, .inl (G.2 0, 830, .inl h)), (za, .inl (G.2 0, 6, .inl zf)), (m0, .inr (6, [.ref sa, .ref oa, .ref pa, .ref la, .ref za, .ref na, .int (nI u), .int (nI t), .int gw, .int gd, .int gm, .int gr, .int (nS (some k_755)), .int gv]))] H := hP
    have hD : va_D A [(sa, .inl (G.2 0, 830, .inl f)), (ta, .inl (G.2 0, 830, .inl h)), (za, .inl (G.2 0, 6, .inl zf)), (m0, .inr (6, [.ref sa, .ref oa, .ref pa, .ref la, .ref za, .ref na, .int (nI u), .int (nI t), .int gw, .int gd, .int gm, .int gr, .int (nS (some k_755)), .int gv]))] := hD
    have hq_761 : (b_760 = true ↔ ¬ (nI 0 ≤ d ∧ d ≤ nI (bD B))) := hq
    refine W.eq (g2 := F0 m 14 ls [.int (bI b_760), .ref m0]) rfl ?_
    cases b_760
    · refine lv_ton (n := 0) rfl ?_
      have hin_762 : nI 0 ≤ d ∧ d ≤ nI (bD B) := Classical.not_not.mp (fun z => absurd (hq_761.mpr z) (by decide))
      obtain ⟨d_763, hv_764, h_765, h_766⟩ := in_nat (lo := 0) (hi := bD B) (by omega) (by omega) hin_762.1 hin_762.2
      have hir_767 : inR d 0 (bD B) = some d_763 := inR_some hv_764 h_765 h_766 (by omega)
      have hl : lv_has ls 4 [(0, .ref m0), (1, .int id), (2, .int (nI d_763))] := by
        have e9 : ((.int (nI d_763)) : Value) = .int d := by rw [hv_764]
        rw [e9]; exact hl
      refine lv_iconst (v := nI 2) hx hb dX4_moveSession_14 (by decide) ?_
      have hF := hF_of (wc := [(m0, .inr (6, [.ref sa, .ref oa, .ref pa, .ref la, .ref za, .ref na, .int (nI u), .int (nI t), .int gw, .int gd, .int gm, .int gr, .int (nS (some k_755)), .int gv]))]) hD hS hA [3] rfl
      refine go_ct hS hP hD [3] [0, 1, 2] hF rfl rfl (by decide) (by decide)
          (va_runV (As := [.int (nI 0), .int (nI 2)]) (rest := []) cf (mX4_isThrown_f l G m0 sa oa pa la za na (nI u) (nI t) gw gd gm gr (nS (some k_755)) gv 2  H.size) (cwV 2 hts (lw_V q1650 q1652 qs20 q58 q1653) rfl rfl rfl (by decide +kernel) ⟨Nat.le_of_ble_eq_true rfl, Nat.le_of_ble_eq_true rfl⟩) (preV_of hKB hE hS hF (va_recv hK hP (ci := 6) (q0 := 3) rfl rfl) (va_P.sub hP [3] rfl) ((va_D.sub hD [3] (by decide) rfl).weaken (fun _ _ _ _ => trivial)) trivial) rfl rfl hl.1 rfl (lv_room (Nat.le_of_ble_eq_true rfl)) dX4_moveSession_15 ⟨show 0 + 0 ≤ 0 from by first | decide | omega, show 0 + 0 ≤ 0 from by first | decide | omega⟩)
          (fun u_ H locs hq hph (hP : va_P G.1 CL [(sa, .inl (G.2 0, 830, .inl f)), (ta, .inl (G.2 0, 830, .inl h)), (za, .inl (G.2 0, 6, .inl zf)), (m0, .inr (6, [.ref sa, .ref oa, .ref pa, .ref la, .ref za, .ref na, .int (nI u), .int (nI t), .int gw, .int gd, .int gm, .int gr, .int (nI 0), .int gv]))] H) (hD : va_D A [(sa, .inl (G.2 0, 830, .inl f)), (ta, .inl (G.2 0, 830, .inl h)), (za, .inl (G.2 0, 6, .inl zf)), (m0, .inr (6, [.ref sa, .ref oa, .ref pa, .ref la, .ref za, .ref na, .int (nI u), .int (nI t), .int gw, .int gd, .int gm, .int gr, .int (nI 0), .int gv]))]) hS hfz hfk => ?_)
      refine W.eq (g2 := F0 m 18 ls [.int (nI 0)]) rfl ?_
      refine n_if_eq (tgt := 23) hx hb (by omega) dX4_moveSession_18 (by decide) (fun c_768 => ?_) (fun c_768 => absurd c_768 (by omega))
      refine lv_aload_n hx hb dX4_moveSession_23 rfl (lv_at hl 0 rfl) ?_
      have hF := hF_of (wc := [(m0, .inr (6, [.ref sa, .ref oa, .ref pa, .ref la, .ref za, .ref na, .int (nI u), .int (nI t), .int gw, .int gd, .int gm, .int gr, .int (nI 0), .int gv])), (ta, .inl (G.2 0, 830, .inl h))]) hD hS hA [3, 1] rfl
      have hro_769 : roW G (va_A [(m0, .inr (6, [.ref sa, .ref oa, .ref pa, .ref la, .ref za, .ref na, .int (nI u), .int (nI t), .int gw, .int gd, .int gm, .int gr, .int (nI 0), .int gv])), (ta, .inl (G.2 0, 830, .inl h))] H.size) H [(oa, .inl (G.2 7, 6, .inr (.inr (.inr (.inr og))))), (sa, .inl (G.2 0, 830, .inl f))] := (((hR0.kp hF hS.2.1).sub (ws' := [(oa, .inl (G.2 7, 6, .inr (.inr (.inr (.inr og)))))]) [0] rfl).app (roW.of (w' := [(sa, .inl (G.2 0, 830, .inl f))]) hP hD [3, 1] [0] rfl rfl (by decide)))
      refine go_ct hS hP hD [3, 1] [0, 2] hF rfl rfl (by decide) (by decide)
          (va_runV (As := []) (rest := []) cf (mX4_keeps l G m0 sa oa pa la za na gw gd gm gr (nI 0) gv f t u ta h og (show t < 6 from by first | assumption | omega) (show u ≤ 6 from by first | assumption | omega) (show og ((t + 1) % 6) = some ta from by first | assumption | omega) H.size) (cwV 0 hts (lw_V q1654 q1656 qs21 q58 q1657) rfl rfl rfl (by decide +kernel) ⟨Nat.le_of_ble_eq_true rfl, Nat.le_of_ble_eq_true rfl⟩) (preV_of hKB hE hS hF (va_recv hK hP (ci := 6) (q0 := 3) rfl rfl) (va_P.sub hP [3, 1] rfl) ((va_D.sub hD [3, 1] (by decide) rfl).weaken (fun _ _ _ _ => trivial)) hro_769) rfl rfl hl.1 rfl (lv_room (Nat.le_of_ble_eq_true rfl)) dX4_moveSession_24 ⟨show 0 + 0 ≤ 0 from by first | decide | omega, show 0 + 0 ≤ 0 from by first | decide | omega⟩)
          (fun u_ H locs hq hph (hP : va_P G.1 CL [(sa, .inl (G.2 0, 830, .inl f)), (za, .inl (G.2 0, 6, .inl zf)), (m0, .inr (6, [.ref sa, .ref oa, .ref pa, .ref la, .ref za, .ref na, .int (nI (min 6 (u + 1))), .int (nI ((t + 1) % 6)), .int gw, .int gd, .int gm, .int gr, .int (nI 0), .int gv])), (ta, .inl (G.2 0, 830, .inl f))] H) (hD : va_D A [(sa, .inl (G.2 0, 830, .inl f)), (za, .inl (G.2 0, 6, .inl zf)), (m0, .inr (6, [.ref sa, .ref oa, .ref pa, .ref la, .ref za, .ref na, .int (nI (min 6 (u + 1))), .int (nI ((t + 1) % 6)), .int gw, .int gd, .int gm, .int gr, .int (nI 0), .int gv])), (ta, .inl (G.2 0, 830, .inl f))]) hS hfz hfk => ?_)
      refine W.eq (g2 := F0 m 27 ls []) rfl ?_
      refine lv_aload_n hx hb dX4_moveSession_27 rfl (lv_at hl 0 rfl) ?_
      refine va_get hx hb hts in_X4 hown hK hP 2 rfl rfl 0 (by decide) (hts _ q1596) (fun _ h => h) rfl dX4_moveSession_28 ?_
      refine lv_aload_n hx hb dX4_moveSession_31 rfl (lv_at hl 0 rfl) ?_
      refine lv_aload_n hx hb dX4_moveSession_32 rfl (lv_at hl 0 rfl) ?_
      refine lv_iload_n hx hb dX4_moveSession_33 rfl (lv_at hl 1 rfl) ?_
      have hF := hF_of (wc := []) hD hS hA [] rfl
      have hro_770 : va_P G.1 CL [(m0, .inr (6, [.ref sa, .ref oa, .ref pa, .ref la, .ref za, .ref na, .int (nI (min 6 (u + 1))), .int (nI ((t + 1) % 6)), .int gw, .int gd, .int gm, .int gr, .int (nI 0), .int gv])), (sa, .inl (G.2 0, 830, .inl f))] H := (va_P.sub hP [2, 0] rfl)
      refine go_ct hS hP hD [] [0, 1, 2, 3] hF rfl rfl (by decide) (by decide)
          (va_runV (As := [.int id]) (rest := [.ref m0, .ref sa]) cf (mX4_place l G m0 sa oa pa la za na (nI (min 6 (u + 1))) (nI ((t + 1) % 6)) gw gd gm gr (nI 0) gv f B id (show MR f B from by first | assumption | omega) (show Inv B from by first | assumption | omega) H.size) (cwV 1 hts (lw_V q1739 q1741 qs30 q58 q1742) rfl rfl rfl (by decide +kernel) ⟨Nat.le_of_ble_eq_true rfl, Nat.le_of_ble_eq_true rfl⟩) (preV_of hKB hE hS hF (va_recv hK hP (ci := 6) (q0 := 2) rfl rfl) (va_P.sub hP [] rfl) ((va_D.sub hD [] (by decide) rfl).weaken (fun _ _ _ _ => trivial)) (roW.nil hro_770)) rfl rfl hl.1 rfl (lv_room (Nat.le_of_ble_eq_true rfl)) dX4_moveSession_34 ⟨show 0 + 0 ≤ 0 from by first | decide | omega, show 0 + 0 ≤ 0 from by first | decide | omega⟩)
          (fun u_ H locs hq hph (hP : va_P G.1 CL [(sa, .inl (G.2 0, 830, .inl f)), (za, .inl (G.2 0, 6, .inl zf)), (m0, .inr (6, [.ref sa, .ref oa, .ref pa, .ref la, .ref za, .ref na, .int (nI (min 6 (u + 1))), .int (nI ((t + 1) % 6)), .int gw, .int gd, .int gm, .int gr, .int (nI 0), .int gv])), (ta, .inl (G.2 0, 830, .inl f))] H) (hD : va_D A [(sa, .inl (G.2 0, 830, .inl f)), (za, .inl (G.2 0, 6, .inl zf)), (m0, .inr (6, [.ref sa, .ref oa, .ref pa, .ref la, .ref za, .ref na, .int (nI (min 6 (u + 1))), .int (nI ((t + 1) % 6)), .int gw, .int gd, .int gm, .int gr, .int (nI 0), .int gv])), (ta, .inl (G.2 0, 830, .inl f))]) hS hfz hfk => ?_)
      obtain ⟨fo_771, rfl⟩ : ∃ z, z = u_ := ⟨_, rfl⟩
      have hP : va_P G.1 CL [(sa, .inl (G.2 0, 830, .inl f)), (za, .inl (G.2 0, 6, .inl zf)), (m0, .inr (6, [.ref sa, .ref oa, .ref pa, .ref la, .ref za, .ref na, .int (nI (min 6 (u + 1))), .int (nI ((t + 1) % 6)), .int gw, .int gd, .int gm, .int gr, .int (nI 0), .int gv])), (ta, .inl (G.2 0, 830, .inl f))] H := hP
      have hD : va_D A [(sa, .inl (G.2 0, 830, .inl f)), (za, .inl (G.2 0, 6, .inl zf)), (m0, .inr (6, [.ref sa, .ref oa, .ref pa, .ref la, .ref za, .ref na, .int (nI (min 6 (u + 1))), .int (nI ((t + 1) % 6)), .int gw, .int gd, .int gm, .int gr, .int (nI 0), .int gv])), (ta, .inl (G.2 0, 830, .inl f))] := hD
      have hq_772 : PL B id (sN B) fo_771 := hq
      refine W.eq (g2 := F0 m 37 ls [.int (oI fo_771), .ref m0, .ref sa]) rfl ?_
      have he_773 := (ixS_eq hI hq_772).symm.trans hix_756
      refine lv_ton (n := k_755) (by rw [he_773]; rfl) ?_
      have hF := hF_of (wc := []) hD hS hA [] rfl
      refine go_ct hS hP hD [] [0, 1, 2, 3] hF rfl rfl (by decide) (by decide)
          (va_runV (As := [.int (nI k_755)]) (rest := [.ref sa]) cf (mX4_at l G m0 k_755  H.size) (cwV 1 hts (lw_V q1687 q1689 qs27 q58 q1690) rfl rfl rfl (by decide +kernel) ⟨Nat.le_of_ble_eq_true rfl, Nat.le_of_ble_eq_true rfl⟩) (preV_of hKB hE hS hF (va_recv hK hP (ci := 6) (q0 := 2) rfl rfl) (va_P.sub hP [] rfl) ((va_D.sub hD [] (by decide) rfl).weaken (fun _ _ _ _ => trivial)) trivial) rfl rfl hl.1 rfl (lv_room (Nat.le_of_ble_eq_true rfl)) dX4_moveSession_37 ⟨show 0 + 0 ≤ 0 from by first | decide | omega, show 0 + 0 ≤ 0 from by first | decide | omega⟩)
          (fun u_ H locs hq hph (hP : va_P G.1 CL [(sa, .inl (G.2 0, 830, .inl f)), (za, .inl (G.2 0, 6, .inl zf)), (m0, .inr (6, [.ref sa, .ref oa, .ref pa, .ref la, .ref za, .ref na, .int (nI (min 6 (u + 1))), .int (nI ((t + 1) % 6)), .int gw, .int gd, .int gm, .int gr, .int (nI 0), .int gv])), (ta, .inl (G.2 0, 830, .inl f))] H) (hD : va_D A [(sa, .inl (G.2 0, 830, .inl f)), (za, .inl (G.2 0, 6, .inl zf)), (m0, .inr (6, [.ref sa, .ref oa, .ref pa, .ref la, .ref za, .ref na, .int (nI (min 6 (u + 1))), .int (nI ((t + 1) % 6)), .int gw, .int gd, .int gm, .int gr, .int (nI 0), .int gv])), (ta, .inl (G.2 0, 830, .inl f))]) hS hfz hfk => ?_)
      refine W.eq (g2 := F0 m 40 ls [.int (nI (19 * k_755 + 70)), .ref sa]) rfl ?_
      refine lv_iconst (v := nI 1) hx hb dX4_moveSession_40 (by decide) ?_
      refine lv_iadd hx hb dX4_moveSession_41 ?_
      refine lv_ton (n := 19 * k_755 + 71) (nadd (by omega)) ?_
      refine r_iald (v := nI (sDay (sAt B k_755))) hx hb hK hP 0 0 rfl rfl (i := 19 * k_755 + 71) (by omega) (by omega) (hM.sday (k := k_755) (by omega)) dX4_moveSession_42 ?_
      refine lv_istore_n (lv' := [(3, .int (nI (sDay (sAt B k_755)))), (0, .ref m0), (1, .int id), (2, .int (nI d_763))]) hx hb dX4_moveSession_43 rfl hl (by decide) rfl (fun ls hl => ?_)
      refine lv_aload_n hx hb dX4_moveSession_44 rfl (lv_at hl 1 rfl) ?_
      refine va_get hx hb hts in_X4 hown hK hP 2 rfl rfl 0 (by decide) (hts _ q1596) (fun _ h => h) rfl dX4_moveSession_45 ?_
      refine lv_aload_n hx hb dX4_moveSession_48 rfl (lv_at hl 1 rfl) ?_
      refine lv_aload_n hx hb dX4_moveSession_49 rfl (lv_at hl 1 rfl) ?_
      refine lv_iload_n hx hb dX4_moveSession_50 rfl (lv_at hl 2 rfl) ?_
      have hF := hF_of (wc := []) hD hS hA [] rfl
      have hro_774 : va_P G.1 CL [(m0, .inr (6, [.ref sa, .ref oa, .ref pa, .ref la, .ref za, .ref na, .int (nI (min 6 (u + 1))), .int (nI ((t + 1) % 6)), .int gw, .int gd, .int gm, .int gr, .int (nI 0), .int gv])), (sa, .inl (G.2 0, 830, .inl f))] H := (va_P.sub hP [2, 0] rfl)
      refine go_ct hS hP hD [] [0, 1, 2, 3] hF rfl rfl (by decide) (by decide)
          (va_runV (As := [.int id]) (rest := [.ref m0, .ref sa]) cf (mX4_place l G m0 sa oa pa la za na (nI (min 6 (u + 1))) (nI ((t + 1) % 6)) gw gd gm gr (nI 0) gv f B id (show MR f B from by first | assumption | omega) (show Inv B from by first | assumption | omega) H.size) (cwV 1 hts (lw_V q1739 q1741 qs30 q58 q1742) rfl rfl rfl (by decide +kernel) ⟨Nat.le_of_ble_eq_true rfl, Nat.le_of_ble_eq_true rfl⟩) (preV_of hKB hE hS hF (va_recv hK hP (ci := 6) (q0 := 2) rfl rfl) (va_P.sub hP [] rfl) ((va_D.sub hD [] (by decide) rfl).weaken (fun _ _ _ _ => trivial)) (roW.nil hro_774)) rfl rfl hl.1 rfl (lv_room (Nat.le_of_ble_eq_true rfl)) dX4_moveSession_51 ⟨show 0 + 0 ≤ 0 from by first | decide | omega, show 0 + 0 ≤ 0 from by first | decide | omega⟩)
          (fun u_ H locs hq hph (hP : va_P G.1 CL [(sa, .inl (G.2 0, 830, .inl f)), (za, .inl (G.2 0, 6, .inl zf)), (m0, .inr (6, [.ref sa, .ref oa, .ref pa, .ref la, .ref za, .ref na, .int (nI (min 6 (u + 1))), .int (nI ((t + 1) % 6)), .int gw, .int gd, .int gm, .int gr, .int (nI 0), .int gv])), (ta, .inl (G.2 0, 830, .inl f))] H) (hD : va_D A [(sa, .inl (G.2 0, 830, .inl f)), (za, .inl (G.2 0, 6, .inl zf)), (m0, .inr (6, [.ref sa, .ref oa, .ref pa, .ref la, .ref za, .ref na, .int (nI (min 6 (u + 1))), .int (nI ((t + 1) % 6)), .int gw, .int gd, .int gm, .int gr, .int (nI 0), .int gv])), (ta, .inl (G.2 0, 830, .inl f))]) hS hfz hfk => ?_)
      obtain ⟨fo_775, rfl⟩ : ∃ z, z = u_ := ⟨_, rfl⟩
      have hP : va_P G.1 CL [(sa, .inl (G.2 0, 830, .inl f)), (za, .inl (G.2 0, 6, .inl zf)), (m0, .inr (6, [.ref sa, .ref oa, .ref pa, .ref la, .ref za, .ref na, .int (nI (min 6 (u + 1))), .int (nI ((t + 1) % 6)), .int gw, .int gd, .int gm, .int gr, .int (nI 0), .int gv])), (ta, .inl (G.2 0, 830, .inl f))] H := hP
      have hD : va_D A [(sa, .inl (G.2 0, 830, .inl f)), (za, .inl (G.2 0, 6, .inl zf)), (m0, .inr (6, [.ref sa, .ref oa, .ref pa, .ref la, .ref za, .ref na, .int (nI (min 6 (u + 1))), .int (nI ((t + 1) % 6)), .int gw, .int gd, .int gm, .int gr, .int (nI 0), .int gv])), (ta, .inl (G.2 0, 830, .inl f))] := hD
      have hq_776 : PL B id (sN B) fo_775 := hq
      refine W.eq (g2 := F0 m 54 ls [.int (oI fo_775), .ref m0, .ref sa]) rfl ?_
      have he_777 := (ixS_eq hI hq_776).symm.trans hix_756
      refine lv_ton (n := k_755) (by rw [he_777]; rfl) ?_
      have hF := hF_of (wc := []) hD hS hA [] rfl
      refine go_ct hS hP hD [] [0, 1, 2, 3] hF rfl rfl (by decide) (by decide)
          (va_runV (As := [.int (nI k_755)]) (rest := [.ref sa]) cf (mX4_at l G m0 k_755  H.size) (cwV 1 hts (lw_V q1687 q1689 qs27 q58 q1690) rfl rfl rfl (by decide +kernel) ⟨Nat.le_of_ble_eq_true rfl, Nat.le_of_ble_eq_true rfl⟩) (preV_of hKB hE hS hF (va_recv hK hP (ci := 6) (q0 := 2) rfl rfl) (va_P.sub hP [] rfl) ((va_D.sub hD [] (by decide) rfl).weaken (fun _ _ _ _ => trivial)) trivial) rfl rfl hl.1 rfl (lv_room (Nat.le_of_ble_eq_true rfl)) dX4_moveSession_54 ⟨show 0 + 0 ≤ 0 from by first | decide | omega, show 0 + 0 ≤ 0 from by first | decide | omega⟩)
          (fun u_ H locs hq hph (hP : va_P G.1 CL [(sa, .inl (G.2 0, 830, .inl f)), (za, .inl (G.2 0, 6, .inl zf)), (m0, .inr (6, [.ref sa, .ref oa, .ref pa, .ref la, .ref za, .ref na, .int (nI (min 6 (u + 1))), .int (nI ((t + 1) % 6)), .int gw, .int gd, .int gm, .int gr, .int (nI 0), .int gv])), (ta, .inl (G.2 0, 830, .inl f))] H) (hD : va_D A [(sa, .inl (G.2 0, 830, .inl f)), (za, .inl (G.2 0, 6, .inl zf)), (m0, .inr (6, [.ref sa, .ref oa, .ref pa, .ref la, .ref za, .ref na, .int (nI (min 6 (u + 1))), .int (nI ((t + 1) % 6)), .int gw, .int gd, .int gm, .int gr, .int (nI 0), .int gv])), (ta, .inl (G.2 0, 830, .inl f))]) hS hfz hfk => ?_)
      refine W.eq (g2 := F0 m 57 ls [.int (nI (19 * k_755 + 70)), .ref sa]) rfl ?_
      refine lv_iconst (v := nI 1) hx hb dX4_moveSession_57 (by decide) ?_
      refine lv_iadd hx hb dX4_moveSession_58 ?_
      refine lv_ton (n := 19 * k_755 + 71) (nadd (by omega)) ?_
      refine lv_iload_n hx hb dX4_moveSession_59 rfl (lv_at hl 3 rfl) ?_
      refine r_iast hx hb hK hP hD hS 0 0 rfl rfl (i := 19 * k_755 + 71) (by omega) (by omega) dX4_moveSession_60 (fun H locs (hP : va_P G.1 CL [(sa, .inl (G.2 0, 830, .inl (upd f (19 * k_755 + 71) (nI d_763)))), (za, .inl (G.2 0, 6, .inl zf)), (m0, .inr (6, [.ref sa, .ref oa, .ref pa, .ref la, .ref za, .ref na, .int (nI (min 6 (u + 1))), .int (nI ((t + 1) % 6)), .int gw, .int gd, .int gm, .int gr, .int (nI 0), .int gv])), (ta, .inl (G.2 0, 830, .inl f))] H) (hD : va_D A [(sa, .inl (G.2 0, 830, .inl (upd f (19 * k_755 + 71) (nI d_763)))), (za, .inl (G.2 0, 6, .inl zf)), (m0, .inr (6, [.ref sa, .ref oa, .ref pa, .ref la, .ref za, .ref na, .int (nI (min 6 (u + 1))), .int (nI ((t + 1) % 6)), .int gw, .int gd, .int gm, .int gr, .int (nI 0), .int gv])), (ta, .inl (G.2 0, 830, .inl f))]) hS => ?_)
      refine lv_iload_n hx hb dX4_moveSession_61 rfl (lv_at hl 0 rfl) ?_
      have hq9 : o_move B id d = (0, nI (sDay (sAt B k_755)), wS B ((bS B).set k_755 (sId (sAt B k_755), d_763, (sAt B k_755).2.2))) := by unfold o_move; rw [hix_756] <;> first | rfl | rw [hir_767] | (rw [hir_767]; rfl) | (dsimp only; rw [hir_767]) | (dsimp only; rw [hir_767]; rfl)
      have hP : va_P G.1 CL [(sa, .inl (G.2 0, 830, .inl (upd f (19 * k_755 + 71) (nI d_763)))), (za, .inl (G.2 0, 6, .inl zf)), (m0, .inr (6, [.ref sa, .ref oa, .ref pa, .ref la, .ref za, .ref na, .int (nI (min 6 (u + 1))), .int (nI ((t + 1) % 6)), .int gw, .int gd, .int gm, .int gr, .int (nI ((o_move B id d).1)), .int gv])), (ta, .inl (G.2 0, 830, .inl f))] H := by rw [hq9]; exact hP
      have hD : va_D A [(sa, .inl (G.2 0, 830, .inl (upd f (19 * k_755 + 71) (nI d_763)))), (za, .inl (G.2 0, 6, .inl zf)), (m0, .inr (6, [.ref sa, .ref oa, .ref pa, .ref la, .ref za, .ref na, .int (nI (min 6 (u + 1))), .int (nI ((t + 1) % 6)), .int gw, .int gd, .int gm, .int gr, .int (nI ((o_move B id d).1)), .int gv])), (ta, .inl (G.2 0, 830, .inl f))] := by rw [hq9]; exact hD
      have hP9 : va_P G.1 CL [(m0, .inr (6, [.ref sa, .ref oa, .ref pa, .ref la, .ref za, .ref na, .int (nI (min 6 (u + 1))), .int (nI ((t + 1) % 6)), .int gw, .int gd, .int gm, .int gr, .int (nI ((o_move B id d).1)), .int gv])), (sa, .inl (G.2 0, 830, .inl (upd f (19 * k_755 + 71) (nI d_763)))), (ta, .inl (G.2 0, 830, .inl f)), (za, .inl (G.2 0, 6, .inl zf))] H := hP.sub [2, 0, 3, 1] rfl
      have hD9 : va_D A [(m0, .inr (6, [.ref sa, .ref oa, .ref pa, .ref la, .ref za, .ref na, .int (nI (min 6 (u + 1))), .int (nI ((t + 1) % 6)), .int gw, .int gd, .int gm, .int gr, .int (nI ((o_move B id d).1)), .int gv])), (sa, .inl (G.2 0, 830, .inl (upd f (19 * k_755 + 71) (nI d_763)))), (ta, .inl (G.2 0, 830, .inl f)), (za, .inl (G.2 0, 6, .inl zf))] := hD.sub [2, 0, 3, 1] (by decide) rfl
      exact end_i hx hb hr hlk (rfl) (qc_of ⟨nI (sDay (sAt B k_755)), upd f (19 * k_755 + 71) (nI d_763), ((t + 1) % 6), (min 6 (u + 1)), f, zf⟩ (v := some (.int (nI (sDay (sAt B k_755))))) (by rfl) (by rw [hq9]; exact ⟨fun z => absurd rfl z, fun _ => ⟨rfl, MR_move hI hM hkk, rfl, rfl, rfl⟩⟩) hP9 hD9 (trivial) hS) hS dX4_moveSession_62 (show 0 ≤ 0 from by first | exact Nat.le_refl _ | decide | omega) (show 0 ≤ 0 from by first | exact Nat.le_refl _ | decide | omega)
    · refine lv_ton (n := 1) rfl ?_
      have hir_778 : inR d 0 (bD B) = none := inR_none (fun z => absurd z (hq_761.mp rfl))
      refine lv_iconst (v := nI 2) hx hb dX4_moveSession_14 (by decide) ?_
      have hF := hF_of (wc := [(m0, .inr (6, [.ref sa, .ref oa, .ref pa, .ref la, .ref za, .ref na, .int (nI u), .int (nI t), .int gw, .int gd, .int gm, .int gr, .int (nS (some k_755)), .int gv]))]) hD hS hA [3] rfl
      refine go_ct hS hP hD [3] [0, 1, 2] hF rfl rfl (by decide) (by decide)
          (va_runV (As := [.int (nI 1), .int (nI 2)]) (rest := []) cf (mX4_isThrown_t l G m0 sa oa pa la za na (nI u) (nI t) gw gd gm gr (nS (some k_755)) gv 2  H.size) (cwV 2 hts (lw_V q1650 q1652 qs20 q58 q1653) rfl rfl rfl (by decide +kernel) ⟨Nat.le_of_ble_eq_true rfl, Nat.le_of_ble_eq_true rfl⟩) (preV_of hKB hE hS hF (va_recv hK hP (ci := 6) (q0 := 3) rfl rfl) (va_P.sub hP [3] rfl) ((va_D.sub hD [3] (by decide) rfl).weaken (fun _ _ _ _ => trivial)) trivial) rfl rfl hl.1 rfl (lv_room (Nat.le_of_ble_eq_true rfl)) dX4_moveSession_15 ⟨show 0 + 0 ≤ 0 from by first | decide | omega, show 0 + 0 ≤ 0 from by first | decide | omega⟩)
          (fun u_ H locs hq hph (hP : va_P G.1 CL [(sa, .inl (G.2 0, 830, .inl f)), (ta, .inl (G.2 0, 830, .inl h)), (za, .inl (G.2 0, 6, .inl zf)), (m0, .inr (6, [.ref sa, .ref oa, .ref pa, .ref la, .ref za, .ref na, .int (nI u), .int (nI t), .int gw, .int gd, .int gm, .int gr, .int (nI 2), .int gv]))] H) (hD : va_D A [(sa, .inl (G.2 0, 830, .inl f)), (ta, .inl (G.2 0, 830, .inl h)), (za, .inl (G.2 0, 6, .inl zf)), (m0, .inr (6, [.ref sa, .ref oa, .ref pa, .ref la, .ref za, .ref na, .int (nI u), .int (nI t), .int gw, .int gd, .int gm, .int gr, .int (nI 2), .int gv]))]) hS hfz hfk => ?_)
      refine W.eq (g2 := F0 m 18 ls [.int (nI 1)]) rfl ?_
      refine n_if_eq (tgt := 23) hx hb (by omega) dX4_moveSession_18 (by decide) (fun c_779 => absurd c_779 (by omega)) (fun c_779 => ?_)
      refine lv_iconst (v := nI 0) hx hb dX4_moveSession_21 (by decide) ?_
      have hq9 : o_move B id d = (2, 0, B) := by unfold o_move; rw [hix_756] <;> first | rfl | rw [hir_778] | (rw [hir_778]; rfl) | (dsimp only; rw [hir_778]) | (dsimp only; rw [hir_778]; rfl)
      have hP : va_P G.1 CL [(sa, .inl (G.2 0, 830, .inl f)), (ta, .inl (G.2 0, 830, .inl h)), (za, .inl (G.2 0, 6, .inl zf)), (m0, .inr (6, [.ref sa, .ref oa, .ref pa, .ref la, .ref za, .ref na, .int (nI u), .int (nI t), .int gw, .int gd, .int gm, .int gr, .int (nI ((o_move B id d).1)), .int gv]))] H := by rw [hq9]; exact hP
      have hD : va_D A [(sa, .inl (G.2 0, 830, .inl f)), (ta, .inl (G.2 0, 830, .inl h)), (za, .inl (G.2 0, 6, .inl zf)), (m0, .inr (6, [.ref sa, .ref oa, .ref pa, .ref la, .ref za, .ref na, .int (nI u), .int (nI t), .int gw, .int gd, .int gm, .int gr, .int (nI ((o_move B id d).1)), .int gv]))] := by rw [hq9]; exact hD
      have hP9 : va_P G.1 CL [(m0, .inr (6, [.ref sa, .ref oa, .ref pa, .ref la, .ref za, .ref na, .int (nI u), .int (nI t), .int gw, .int gd, .int gm, .int gr, .int (nI ((o_move B id d).1)), .int gv])), (sa, .inl (G.2 0, 830, .inl f)), (ta, .inl (G.2 0, 830, .inl h)), (za, .inl (G.2 0, 6, .inl zf))] H := hP.sub [3, 0, 1, 2] rfl
      have hD9 : va_D A [(m0, .inr (6, [.ref sa, .ref oa, .ref pa, .ref la, .ref za, .ref na, .int (nI u), .int (nI t), .int gw, .int gd, .int gm, .int gr, .int (nI ((o_move B id d).1)), .int gv])), (sa, .inl (G.2 0, 830, .inl f)), (ta, .inl (G.2 0, 830, .inl h)), (za, .inl (G.2 0, 6, .inl zf))] := hD.sub [3, 0, 1, 2] (by decide) rfl
      exact end_i hx hb hr hlk (rfl) (qc_of ⟨nI 0, f, t, u, h, zf⟩ (v := some (.int (nI 0))) (by rfl) (by rw [hq9]; exact ⟨fun _ => ⟨rfl, rfl, rfl, rfl⟩, fun z => absurd (show (2 : Nat) = 0 from z) (by decide)⟩) hP9 hD9 (trivial) hS) hS dX4_moveSession_22 (show 0 ≤ 0 from by first | exact Nat.le_refl _ | decide | omega) (show 0 ≤ 0 from by first | exact Nat.le_refl _ | decide | omega)

set_option maxHeartbeats 4000000 in
theorem mX4_removeSession (l : Launch) (G : Gt) (m0 : Nat) (sa : Nat) (oa : Nat) (pa : Nat) (la : Nat) (za : Nat) (na : Nat) (gw : Int32) (gd : Int32) (gm : Int32) (gr : Int32) (gh : Int32) (gv : Int32) (f : Nat → Int32) (B : Bk) (t : Nat) (u : Nat) (ta : Nat) (h : Nat → Int32) (og : Nat → Option Nat) (zf : Nat → Int32) (id : Int32) (hM : MR f B) (hI : Inv B) (ht : t < 6) (hu : u ≤ 6) (hog : og ((t + 1) % 6) = some ta) : CT l G yX4_removeSession cX4_removeSession 3 (some .int) ({ frames := 4, cells := 0, slots := 0, locals := 77 } : Room) [.ref m0, .int id] [(m0, .inr (6, [.ref sa, .ref oa, .ref pa, .ref la, .ref za, .ref na, .int (nI u), .int (nI t), .int gw, .int gd, .int gm, .int gr, .int gh, .int gv])), (sa, .inl (G.2 0, 830, .inl f)), (ta, .inl (G.2 0, 830, .inl h)), (za, .inl (G.2 0, 6, .inl zf))] (fun (A : Nat → Prop) (H : Heap) => roW G A H [(oa, .inl (G.2 7, 6, .inr (.inr (.inr (.inr og)))))]) (S := Int32 × (Nat → Int32) × Nat × Nat × (Nat → Int32) × (Nat → Int32)) (fun (u_ : Int32 × (Nat → Int32) × Nat × Nat × (Nat → Int32) × (Nat → Int32)) => some (.int u_.1)) (fun (u_ : Int32 × (Nat → Int32) × Nat × Nat × (Nat → Int32) × (Nat → Int32)) => MutP (o_remSes B id) f t u h u_.1 u_.2.1 u_.2.2.1 u_.2.2.2.1 u_.2.2.2.2.1) (fun (u_ : Int32 × (Nat → Int32) × Nat × Nat × (Nat → Int32) × (Nat → Int32)) => [(m0, .inr (6, [.ref sa, .ref oa, .ref pa, .ref la, .ref za, .ref na, .int (nI u_.2.2.2.1), .int (nI u_.2.2.1), .int gw, .int gd, .int gm, .int gr, .int (nI ((o_remSes B id).1)), .int gv])), (sa, .inl (G.2 0, 830, .inl u_.2.1)), (ta, .inl (G.2 0, 830, .inl u_.2.2.2.2.1)), (za, .inl (G.2 0, 6, .inl u_.2.2.2.2.2))]) (fun (u_ : Int32 × (Nat → Int32) × Nat × Nat × (Nat → Int32) × (Nat → Int32)) (H : Heap) => True) := by
  refine CT.of (by decide) (Nat.le_of_ble_eq_true rfl) ?_
  intro p e s m below meth c ls A H locs h9 hH0 hP hS
  obtain ⟨cf, hr, hlk, hnm, hKB, hE, -, hD, -, hA, hAw, hR0, hl⟩ := h9
  have hx := cf.1
  have hb := cf.2.1
  have hml := cf.2.2.1
  have hown : s.vm.findClass RX4 = some m.cls := cf.2.2.2.1
  have hts := cf.2.2.2.2
  have hK := hKB.1
  have hl : lv_has ls 3 [(0, .ref m0), (1, .int id)] := hl
  have iN := iv_sN hI
  have iT := iv_tN hI
  have iD := iv_bD hI
  have iE := iv_bE hI
  have iW := iv_id hI
  refine lv_aload_n hx hb dX4_removeSession_0 rfl (lv_at hl 0 rfl) ?_
  refine lv_iload_n hx hb dX4_removeSession_1 rfl (lv_at hl 1 rfl) ?_
  have hF := hF_of (wc := [(m0, .inr (6, [.ref sa, .ref oa, .ref pa, .ref la, .ref za, .ref na, .int (nI u), .int (nI t), .int gw, .int gd, .int gm, .int gr, .int gh, .int gv]))]) hD hS hA [0] rfl
  refine go_ct hS hP hD [0] [1, 2, 3] hF rfl rfl (by decide) (by decide)
      (va_runV (As := [.int id]) (rest := []) cf (mX4_isNoSession l G m0 sa oa pa la za na (nI u) (nI t) gw gd gm gr gh gv f B id (show MR f B from by first | assumption | omega) (show Inv B from by first | assumption | omega) H.size) (cwV 1 hts (lw_V q1751 q1753 qs32 q58 q1754) rfl rfl rfl (by decide +kernel) ⟨Nat.le_of_ble_eq_true rfl, Nat.le_of_ble_eq_true rfl⟩) (preV_of hKB hE hS hF (va_recv hK hP (ci := 6) (q0 := 0) rfl rfl) (va_P.sub hP [0] rfl) ((va_D.sub hD [0] (by decide) rfl).weaken (fun _ _ _ _ => trivial)) (roW.of (w' := [(sa, .inl (G.2 0, 830, .inl f))]) hP hD [0] [1] rfl rfl (by decide))) rfl rfl hl.1 rfl (lv_room (Nat.le_of_ble_eq_true rfl)) dX4_removeSession_2 ⟨show 0 + 0 ≤ 0 from by first | decide | omega, show 0 + 0 ≤ 0 from by first | decide | omega⟩)
      (fun u_ H locs hq hph (hP : va_P G.1 CL [(sa, .inl (G.2 0, 830, .inl f)), (ta, .inl (G.2 0, 830, .inl h)), (za, .inl (G.2 0, 6, .inl zf)), (m0, .inr (6, [.ref sa, .ref oa, .ref pa, .ref la, .ref za, .ref na, .int (nI u), .int (nI t), .int gw, .int gd, .int gm, .int gr, .int (nS u_), .int gv]))] H) (hD : va_D A [(sa, .inl (G.2 0, 830, .inl f)), (ta, .inl (G.2 0, 830, .inl h)), (za, .inl (G.2 0, 6, .inl zf)), (m0, .inr (6, [.ref sa, .ref oa, .ref pa, .ref la, .ref za, .ref na, .int (nI u), .int (nI t), .int gw, .int gd, .int gm, .int gr, .int (nS u_), .int gv]))]) hS hfz hfk => ?_)
  obtain ⟨fo_780, rfl⟩ : ∃ z, z = u_ := ⟨_, rfl⟩
  have hP : va_P G.1 CL [(sa, .inl (G.2 0, 830, .inl f)), (ta, .inl (G.2 0, 830, .inl h)), (za, .inl (G.2 0, 6, .inl zf)), (m0, .inr (6, [.ref sa, .ref oa, .ref pa, .ref la, .ref za, .ref na, .int (nI u), .int (nI t), .int gw, .int gd, .int gm, .int gr, .int (nS fo_780), .int gv]))] H := hP
  have hD : va_D A [(sa, .inl (G.2 0, 830, .inl f)), (ta, .inl (G.2 0, 830, .inl h)), (za, .inl (G.2 0, 6, .inl zf)), (m0, .inr (6, [.ref sa, .ref oa, .ref pa, .ref la, .ref za, .ref na, .int (nI u), .int (nI t), .int gw, .int gd, .int gm, .int gr, .int (nS fo_780), .int gv]))] := hD
  have hq_781 : PL B id (sN B) fo_780 := hq
  refine W.eq (g2 := F0 m 5 ls [.int (nS fo_780)]) rfl ?_
  have hix_783 := ixS_eq hI hq_781
  rcases fo_780 with _ | k_782
  · refine lv_ton (n := 1) rfl ?_
    refine n_if_eq (tgt := 10) hx hb (by omega) dX4_removeSession_5 (by decide) (fun c_784 => absurd c_784 (by omega)) (fun c_784 => ?_)
    refine lv_iconst (v := nI 0) hx hb dX4_removeSession_8 (by decide) ?_
    have hq9 : o_remSes B id = (1, 0, B) := by unfold o_remSes; rw [hix_783] <;> rfl
    have hP : va_P G.1 CL [(sa, .inl (G.2 0, 830, .inl f)), (ta, .inl (G.2 0, 830, .inl h)), (za, .inl (G.2 0, 6, .inl zf)), (m0, .inr (6, [.ref sa, .ref oa, .ref pa, .ref la, .ref za, .ref na, .int (nI u), .int (nI t), .int gw, .int gd, .int gm, .int gr, .int (nI ((o_remSes B id).1)), .int gv]))] H := by rw [hq9]; exact hP
    have hD : va_D A [(sa, .inl (G.2 0, 830, .inl f)), (ta, .inl (G.2 0, 830, .inl h)), (za, .inl (G.2 0, 6, .inl zf)), (m0, .inr (6, [.ref sa, .ref oa, .ref pa, .ref la, .ref za, .ref na, .int (nI u), .int (nI t), .int gw, .int gd, .int gm, .int gr, .int (nI ((o_remSes B id).1)), .int gv]))] := by rw [hq9]; exact hD
    have hP9 : va_P G.1 CL [(m0, .inr (6, [.ref sa, .ref oa, .ref pa, .ref la, .ref za, .ref na, .int (nI u), .int (nI t), .int gw, .int gd, .int gm, .int gr, .int (nI ((o_remSes B id).1)), .int gv])), (sa, .inl (G.2 0, 830, .inl f)), (ta, .inl (G.2 0, 830, .inl h)), (za, .inl (G.2 0, 6, .inl zf))] H := hP.sub [3, 0, 1, 2] rfl
    have hD9 : va_D A [(m0, .inr (6, [.ref sa, .ref oa, .ref pa, .ref la, .ref za, .ref na, .int (nI u), .int (nI t), .int gw, .int gd, .int gm, .int gr, .int (nI ((o_remSes B id).1)), .int gv])), (sa, .inl (G.2 0, 830, .inl f)), (ta, .inl (G.2 0, 830, .inl h)), (za, .inl (G.2 0, 6, .inl zf))] := hD.sub [3, 0, 1, 2] (by decide) rfl
    exact end_i hx hb hr hlk (rfl) (qc_of ⟨nI 0, f, t, u, h, zf⟩ (v := some (.int (nI 0))) (by rfl) (by rw [hq9]; exact ⟨fun _ => ⟨rfl, rfl, rfl, rfl⟩, fun z => absurd (show (1 : Nat) = 0 from z) (by decide)⟩) hP9 hD9 (trivial) hS) hS dX4_removeSession_9 (show 0 ≤ 0 from by first | exact Nat.le_refl _ | decide | omega) (show 0 ≤ 0 from by first | exact Nat.le_refl _ | decide | omega)
  · refine lv_ton (n := 0) rfl ?_
    have hkk : k_782 < sN B := (hq_781).1
    refine n_if_eq (tgt := 10) hx hb (by omega) dX4_removeSession_5 (by decide) (fun c_785 => ?_) (fun c_785 => absurd c_785 (by omega))
    refine lv_aload_n hx hb dX4_removeSession_10 rfl (lv_at hl 0 rfl) ?_
    have hF := hF_of (wc := [(m0, .inr (6, [.ref sa, .ref oa, .ref pa, .ref la, .ref za, .ref na, .int (nI u), .int (nI t), .int gw, .int gd, .int gm, .int gr, .int (nS (some k_782)), .int gv])), (ta, .inl (G.2 0, 830, .inl h))]) hD hS hA [3, 1] rfl
    have hro_786 : roW G (va_A [(m0, .inr (6, [.ref sa, .ref oa, .ref pa, .ref la, .ref za, .ref na, .int (nI u), .int (nI t), .int gw, .int gd, .int gm, .int gr, .int (nS (some k_782)), .int gv])), (ta, .inl (G.2 0, 830, .inl h))] H.size) H [(oa, .inl (G.2 7, 6, .inr (.inr (.inr (.inr og))))), (sa, .inl (G.2 0, 830, .inl f))] := (((hR0.kp hF hS.2.1).sub (ws' := [(oa, .inl (G.2 7, 6, .inr (.inr (.inr (.inr og)))))]) [0] rfl).app (roW.of (w' := [(sa, .inl (G.2 0, 830, .inl f))]) hP hD [3, 1] [0] rfl rfl (by decide)))
    refine go_ct hS hP hD [3, 1] [0, 2] hF rfl rfl (by decide) (by decide)
        (va_runV (As := []) (rest := []) cf (mX4_keeps l G m0 sa oa pa la za na gw gd gm gr (nS (some k_782)) gv f t u ta h og (show t < 6 from by first | assumption | omega) (show u ≤ 6 from by first | assumption | omega) (show og ((t + 1) % 6) = some ta from by first | assumption | omega) H.size) (cwV 0 hts (lw_V q1654 q1656 qs21 q58 q1657) rfl rfl rfl (by decide +kernel) ⟨Nat.le_of_ble_eq_true rfl, Nat.le_of_ble_eq_true rfl⟩) (preV_of hKB hE hS hF (va_recv hK hP (ci := 6) (q0 := 3) rfl rfl) (va_P.sub hP [3, 1] rfl) ((va_D.sub hD [3, 1] (by decide) rfl).weaken (fun _ _ _ _ => trivial)) hro_786) rfl rfl hl.1 rfl (lv_room (Nat.le_of_ble_eq_true rfl)) dX4_removeSession_11 ⟨show 0 + 0 ≤ 0 from by first | decide | omega, show 0 + 0 ≤ 0 from by first | decide | omega⟩)
        (fun u_ H locs hq hph (hP : va_P G.1 CL [(sa, .inl (G.2 0, 830, .inl f)), (za, .inl (G.2 0, 6, .inl zf)), (m0, .inr (6, [.ref sa, .ref oa, .ref pa, .ref la, .ref za, .ref na, .int (nI (min 6 (u + 1))), .int (nI ((t + 1) % 6)), .int gw, .int gd, .int gm, .int gr, .int (nS (some k_782)), .int gv])), (ta, .inl (G.2 0, 830, .inl f))] H) (hD : va_D A [(sa, .inl (G.2 0, 830, .inl f)), (za, .inl (G.2 0, 6, .inl zf)), (m0, .inr (6, [.ref sa, .ref oa, .ref pa, .ref la, .ref za, .ref na, .int (nI (min 6 (u + 1))), .int (nI ((t + 1) % 6)), .int gw, .int gd, .int gm, .int gr, .int (nS (some k_782)), .int gv])), (ta, .inl (G.2 0, 830, .inl f))]) hS hfz hfk => ?_)
    refine W.eq (g2 := F0 m 14 ls []) rfl ?_
    refine lv_aload_n hx hb dX4_removeSession_14 rfl (lv_at hl 0 rfl) ?_
    refine lv_aload_n hx hb dX4_removeSession_15 rfl (lv_at hl 0 rfl) ?_
    refine lv_iload_n hx hb dX4_removeSession_16 rfl (lv_at hl 1 rfl) ?_
    have hF := hF_of (wc := []) hD hS hA [] rfl
    have hro_787 : va_P G.1 CL [(m0, .inr (6, [.ref sa, .ref oa, .ref pa, .ref la, .ref za, .ref na, .int (nI (min 6 (u + 1))), .int (nI ((t + 1) % 6)), .int gw, .int gd, .int gm, .int gr, .int (nS (some k_782)), .int gv])), (sa, .inl (G.2 0, 830, .inl f))] H := (va_P.sub hP [2, 0] rfl)
    refine go_ct hS hP hD [] [0, 1, 2, 3] hF rfl rfl (by decide) (by decide)
        (va_runV (As := [.int id]) (rest := [.ref m0]) cf (mX4_place l G m0 sa oa pa la za na (nI (min 6 (u + 1))) (nI ((t + 1) % 6)) gw gd gm gr (nS (some k_782)) gv f B id (show MR f B from by first | assumption | omega) (show Inv B from by first | assumption | omega) H.size) (cwV 1 hts (lw_V q1739 q1741 qs30 q58 q1742) rfl rfl rfl (by decide +kernel) ⟨Nat.le_of_ble_eq_true rfl, Nat.le_of_ble_eq_true rfl⟩) (preV_of hKB hE hS hF (va_recv hK hP (ci := 6) (q0 := 2) rfl rfl) (va_P.sub hP [] rfl) ((va_D.sub hD [] (by decide) rfl).weaken (fun _ _ _ _ => trivial)) (roW.nil hro_787)) rfl rfl hl.1 rfl (lv_room (Nat.le_of_ble_eq_true rfl)) dX4_removeSession_17 ⟨show 0 + 0 ≤ 0 from by first | decide | omega, show 0 + 0 ≤ 0 from by first | decide | omega⟩)
        (fun u_ H locs hq hph (hP : va_P G.1 CL [(sa, .inl (G.2 0, 830, .inl f)), (za, .inl (G.2 0, 6, .inl zf)), (m0, .inr (6, [.ref sa, .ref oa, .ref pa, .ref la, .ref za, .ref na, .int (nI (min 6 (u + 1))), .int (nI ((t + 1) % 6)), .int gw, .int gd, .int gm, .int gr, .int (nS (some k_782)), .int gv])), (ta, .inl (G.2 0, 830, .inl f))] H) (hD : va_D A [(sa, .inl (G.2 0, 830, .inl f)), (za, .inl (G.2 0, 6, .inl zf)), (m0, .inr (6, [.ref sa, .ref oa, .ref pa, .ref la, .ref za, .ref na, .int (nI (min 6 (u + 1))), .int (nI ((t + 1) % 6)), .int gw, .int gd, .int gm, .int gr, .int (nS (some k_782)), .int gv])), (ta, .inl (G.2 0, 830, .inl f))]) hS hfz hfk => ?_)
    obtain ⟨fo_788, rfl⟩ : ∃ z, z = u_ := ⟨_, rfl⟩
    have hP : va_P G.1 CL [(sa, .inl (G.2 0, 830, .inl f)), (za, .inl (G.2 0, 6, .inl zf)), (m0, .inr (6, [.ref sa, .ref oa, .ref pa, .ref la, .ref za, .ref na, .int (nI (min 6 (u + 1))), .int (nI ((t + 1) % 6)), .int gw, .int gd, .int gm, .int gr, .int (nS (some k_782)), .int gv])), (ta, .inl (G.2 0, 830, .inl f))] H := hP
    have hD : va_D A [(sa, .inl (G.2 0, 830, .inl f)), (za, .inl (G.2 0, 6, .inl zf)), (m0, .inr (6, [.ref sa, .ref oa, .ref pa, .ref la, .ref za, .ref na, .int (nI (min 6 (u + 1))), .int (nI ((t + 1) % 6)), .int gw, .int gd, .int gm, .int gr, .int (nS (some k_782)), .int gv])), (ta, .inl (G.2 0, 830, .inl f))] := hD
    have hq_789 : PL B id (sN B) fo_788 := hq
    refine W.eq (g2 := F0 m 20 ls [.int (oI fo_788), .ref m0]) rfl ?_
    have he_790 := (ixS_eq hI hq_789).symm.trans hix_783
    refine lv_ton (n := k_782) (by rw [he_790]; rfl) ?_
    have hF := hF_of (wc := []) hD hS hA [] rfl
    refine go_ct hS hP hD [] [0, 1, 2, 3] hF rfl rfl (by decide) (by decide)
        (va_runV (As := [.int (nI k_782)]) (rest := []) cf (mX4_at l G m0 k_782  H.size) (cwV 1 hts (lw_V q1687 q1689 qs27 q58 q1690) rfl rfl rfl (by decide +kernel) ⟨Nat.le_of_ble_eq_true rfl, Nat.le_of_ble_eq_true rfl⟩) (preV_of hKB hE hS hF (va_recv hK hP (ci := 6) (q0 := 2) rfl rfl) (va_P.sub hP [] rfl) ((va_D.sub hD [] (by decide) rfl).weaken (fun _ _ _ _ => trivial)) trivial) rfl rfl hl.1 rfl (lv_room (Nat.le_of_ble_eq_true rfl)) dX4_removeSession_20 ⟨show 0 + 0 ≤ 0 from by first | decide | omega, show 0 + 0 ≤ 0 from by first | decide | omega⟩)
        (fun u_ H locs hq hph (hP : va_P G.1 CL [(sa, .inl (G.2 0, 830, .inl f)), (za, .inl (G.2 0, 6, .inl zf)), (m0, .inr (6, [.ref sa, .ref oa, .ref pa, .ref la, .ref za, .ref na, .int (nI (min 6 (u + 1))), .int (nI ((t + 1) % 6)), .int gw, .int gd, .int gm, .int gr, .int (nS (some k_782)), .int gv])), (ta, .inl (G.2 0, 830, .inl f))] H) (hD : va_D A [(sa, .inl (G.2 0, 830, .inl f)), (za, .inl (G.2 0, 6, .inl zf)), (m0, .inr (6, [.ref sa, .ref oa, .ref pa, .ref la, .ref za, .ref na, .int (nI (min 6 (u + 1))), .int (nI ((t + 1) % 6)), .int gw, .int gd, .int gm, .int gr, .int (nS (some k_782)), .int gv])), (ta, .inl (G.2 0, 830, .inl f))]) hS hfz hfk => ?_)
    refine W.eq (g2 := F0 m 23 ls [.int (nI (19 * k_782 + 70))]) rfl ?_
    refine lv_istore_n (lv' := [(2, .int (nI (19 * k_782 + 70))), (0, .ref m0), (1, .int id)]) hx hb dX4_removeSession_23 rfl hl (by decide) rfl (fun ls hl => ?_)
    have hP : va_P G.1 CL [(sa, .inl (G.2 0, 830, .inl (shf f (19 * k_782 + 70) (19 * k_782 + 70)))), (za, .inl (G.2 0, 6, .inl zf)), (m0, .inr (6, [.ref sa, .ref oa, .ref pa, .ref la, .ref za, .ref na, .int (nI (min 6 (u + 1))), .int (nI ((t + 1) % 6)), .int gw, .int gd, .int gm, .int gr, .int (nS (some k_782)), .int gv])), (ta, .inl (G.2 0, 830, .inl f))] H := by rw [shf_0]; exact hP
    have hD : va_D A [(sa, .inl (G.2 0, 830, .inl (shf f (19 * k_782 + 70) (19 * k_782 + 70)))), (za, .inl (G.2 0, 6, .inl zf)), (m0, .inr (6, [.ref sa, .ref oa, .ref pa, .ref la, .ref za, .ref na, .int (nI (min 6 (u + 1))), .int (nI ((t + 1) % 6)), .int gw, .int gd, .int gm, .int gr, .int (nS (some k_782)), .int gv])), (ta, .inl (G.2 0, 830, .inl f))] := by rw [shf_0]; exact hD
    have hl := lv_sub hl [1, 2, 0] (l' := [(0, .ref m0), (1, .int id), (2, .int (nI (19 * k_782 + 70)))]) rfl
    refine lp_W (σ := Nat) (hpc := 24) (fun x => 19 * (sN B - 1) + 70 - x) (fun x => 0) (fun x => 0) (fun x H locs ls => va_P G.1 CL [(sa, .inl (G.2 0, 830, .inl (shf f (19 * k_782 + 70) x))), (za, .inl (G.2 0, 6, .inl zf)), (m0, .inr (6, [.ref sa, .ref oa, .ref pa, .ref la, .ref za, .ref na, .int (nI (min 6 (u + 1))), .int (nI ((t + 1) % 6)), .int gw, .int gd, .int gm, .int gr, .int (nS (some k_782)), .int gv])), (ta, .inl (G.2 0, 830, .inl f))] H ∧ va_D A [(sa, .inl (G.2 0, 830, .inl (shf f (19 * k_782 + 70) x))), (za, .inl (G.2 0, 6, .inl zf)), (m0, .inr (6, [.ref sa, .ref oa, .ref pa, .ref la, .ref za, .ref na, .int (nI (min 6 (u + 1))), .int (nI ((t + 1) % 6)), .int gw, .int gd, .int gm, .int gr, .int (nS (some k_782)), .int gv])), (ta, .inl (G.2 0, 830, .inl f))] ∧ va_S A s.heap H locs ∧ lv_has ls 3 [(0, .ref m0), (1, .int id), (2, .int (nI x))] ∧ (19 * k_782 + 70 ≤ x) ∧ (x ≤ 19 * (sN B - 1) + 70)) ?_ (19 * k_782 + 70) ⟨(show va_P G.1 CL [(sa, .inl (G.2 0, 830, .inl (shf f (19 * k_782 + 70) (19 * k_782 + 70)))), (za, .inl (G.2 0, 6, .inl zf)), (m0, .inr (6, [.ref sa, .ref oa, .ref pa, .ref la, .ref za, .ref na, .int (nI (min 6 (u + 1))), .int (nI ((t + 1) % 6)), .int gw, .int gd, .int gm, .int gr, .int (nS (some k_782)), .int gv])), (ta, .inl (G.2 0, 830, .inl f))] H from hP), (show va_D A [(sa, .inl (G.2 0, 830, .inl (shf f (19 * k_782 + 70) (19 * k_782 + 70)))), (za, .inl (G.2 0, 6, .inl zf)), (m0, .inr (6, [.ref sa, .ref oa, .ref pa, .ref la, .ref za, .ref na, .int (nI (min 6 (u + 1))), .int (nI ((t + 1) % 6)), .int gw, .int gd, .int gm, .int gr, .int (nS (some k_782)), .int gv])), (ta, .inl (G.2 0, 830, .inl f))] from hD), hS, hl, (show 19 * k_782 + 70 ≤ (19 * k_782 + 70) from by omega), (show (19 * k_782 + 70) ≤ 19 * (sN B - 1) + 70 from by omega)⟩ (show 0 ≤ 0 from by first | exact Nat.le_refl _ | omega) (show 0 ≤ 0 from by first | exact Nat.le_refl _ | omega)
    intro x H locs ls hI9 ih24
    obtain ⟨j_793, rfl⟩ : ∃ z, z = x := ⟨_, rfl⟩
    obtain ⟨hP, hD, hS, hl, hp_791, hp_792⟩ := hI9
    have hP : va_P G.1 CL [(sa, .inl (G.2 0, 830, .inl (shf f (19 * k_782 + 70) j_793))), (za, .inl (G.2 0, 6, .inl zf)), (m0, .inr (6, [.ref sa, .ref oa, .ref pa, .ref la, .ref za, .ref na, .int (nI (min 6 (u + 1))), .int (nI ((t + 1) % 6)), .int gw, .int gd, .int gm, .int gr, .int (nS (some k_782)), .int gv])), (ta, .inl (G.2 0, 830, .inl f))] H := hP
    have hD : va_D A [(sa, .inl (G.2 0, 830, .inl (shf f (19 * k_782 + 70) j_793))), (za, .inl (G.2 0, 6, .inl zf)), (m0, .inr (6, [.ref sa, .ref oa, .ref pa, .ref la, .ref za, .ref na, .int (nI (min 6 (u + 1))), .int (nI ((t + 1) % 6)), .int gw, .int gd, .int gm, .int gr, .int (nS (some k_782)), .int gv])), (ta, .inl (G.2 0, 830, .inl f))] := hD
    have hl : lv_has ls 3 [(0, .ref m0), (1, .int id), (2, .int (nI j_793))] := hl
    have hp_791 : 19 * k_782 + 70 ≤ j_793 := hp_791
    have hp_792 : j_793 ≤ 19 * (sN B - 1) + 70 := hp_792
    refine lv_iload_n hx hb dX4_removeSession_24 rfl (lv_at hl 2 rfl) ?_
    refine lv_aload_n hx hb dX4_removeSession_25 rfl (lv_at hl 0 rfl) ?_
    refine lv_aload_n hx hb dX4_removeSession_26 rfl (lv_at hl 0 rfl) ?_
    refine va_get hx hb hts in_X4 hown hK hP 2 rfl rfl 0 (by decide) (hts _ q1596) (fun _ h => h) rfl dX4_removeSession_27 ?_
    refine lv_iconst (v := nI 2) hx hb dX4_removeSession_30 (by decide) ?_
    refine r_iald (v := nI (sN B)) hx hb hK hP 0 0 rfl rfl (i := 2) (by omega) (by omega) ((shf_out (by omega)).trans (hM.many)) dX4_removeSession_31 ?_
    refine lv_iconst (v := nI 1) hx hb dX4_removeSession_32 (by decide) ?_
    refine lv_isub hx hb dX4_removeSession_33 ?_
    refine lv_ton (n := ((sN B) - 1)) (nsub (by omega)) ?_
    have hF := hF_of (wc := []) hD hS hA [] rfl
    refine go_ct hS hP hD [] [0, 1, 2, 3] hF rfl rfl (by decide) (by decide)
        (va_runV (As := [.int (nI ((sN B) - 1))]) (rest := [.int (nI j_793)]) cf (mX4_at l G m0 ((sN B) - 1)  H.size) (cwV 1 hts (lw_V q1687 q1689 qs27 q58 q1690) rfl rfl rfl (by decide +kernel) ⟨Nat.le_of_ble_eq_true rfl, Nat.le_of_ble_eq_true rfl⟩) (preV_of hKB hE hS hF (va_recv hK hP (ci := 6) (q0 := 2) rfl rfl) (va_P.sub hP [] rfl) ((va_D.sub hD [] (by decide) rfl).weaken (fun _ _ _ _ => trivial)) trivial) rfl rfl hl.1 rfl (lv_room (Nat.le_of_ble_eq_true rfl)) dX4_removeSession_34 ⟨show 0 + 0 ≤ 0 from by first | decide | omega, show 0 + 0 ≤ 0 from by first | decide | omega⟩)
        (fun u_ H locs hq hph (hP : va_P G.1 CL [(sa, .inl (G.2 0, 830, .inl (shf f (19 * k_782 + 70) j_793))), (za, .inl (G.2 0, 6, .inl zf)), (m0, .inr (6, [.ref sa, .ref oa, .ref pa, .ref la, .ref za, .ref na, .int (nI (min 6 (u + 1))), .int (nI ((t + 1) % 6)), .int gw, .int gd, .int gm, .int gr, .int (nS (some k_782)), .int gv])), (ta, .inl (G.2 0, 830, .inl f))] H) (hD : va_D A [(sa, .inl (G.2 0, 830, .inl (shf f (19 * k_782 + 70) j_793))), (za, .inl (G.2 0, 6, .inl zf)), (m0, .inr (6, [.ref sa, .ref oa, .ref pa, .ref la, .ref za, .ref na, .int (nI (min 6 (u + 1))), .int (nI ((t + 1) % 6)), .int gw, .int gd, .int gm, .int gr, .int (nS (some k_782)), .int gv])), (ta, .inl (G.2 0, 830, .inl f))]) hS hfz hfk => ?_)
    refine W.eq (g2 := F0 m 37 ls [.int (nI (19 * ((sN B) - 1) + 70)), .int (nI j_793)]) rfl ?_
    refine n_icmp_ge (tgt := 61) hx hb (by omega) (by omega) dX4_removeSession_37 (by decide) (fun c_794 => ?_) (fun c_794 => ?_)
    · have hj9 : j_793 = 19 * (sN B - 1) + 70 := by omega
      have hl := lv_sub hl [0, 1] (l' := [(0, .ref m0), (1, .int id)]) rfl
      have hP : va_P G.1 CL [(sa, .inl (G.2 0, 830, .inl (shf f (19 * k_782 + 70) (19 * (sN B - 1) + 70)))), (za, .inl (G.2 0, 6, .inl zf)), (m0, .inr (6, [.ref sa, .ref oa, .ref pa, .ref la, .ref za, .ref na, .int (nI (min 6 (u + 1))), .int (nI ((t + 1) % 6)), .int gw, .int gd, .int gm, .int gr, .int (nS (some k_782)), .int gv])), (ta, .inl (G.2 0, 830, .inl f))] H := by rw [← hj9]; exact hP
      have hD : va_D A [(sa, .inl (G.2 0, 830, .inl (shf f (19 * k_782 + 70) (19 * (sN B - 1) + 70)))), (za, .inl (G.2 0, 6, .inl zf)), (m0, .inr (6, [.ref sa, .ref oa, .ref pa, .ref la, .ref za, .ref na, .int (nI (min 6 (u + 1))), .int (nI ((t + 1) % 6)), .int gw, .int gd, .int gm, .int gr, .int (nS (some k_782)), .int gv])), (ta, .inl (G.2 0, 830, .inl f))] := by rw [← hj9]; exact hD
      refine lv_aload_n hx hb dX4_removeSession_61 rfl (lv_at hl 0 rfl) ?_
      refine va_get hx hb hts in_X4 hown hK hP 2 rfl rfl 0 (by decide) (hts _ q1596) (fun _ h => h) rfl dX4_removeSession_62 ?_
      refine lv_iconst (v := nI 2) hx hb dX4_removeSession_65 (by decide) ?_
      refine lv_dup2_11 hx hb dX4_removeSession_66 rfl rfl ?_
      refine r_iald (v := nI (sN B)) hx hb hK hP 0 0 rfl rfl (i := 2) (by omega) (by omega) ((shf_out (by omega)).trans (hM.many)) dX4_removeSession_67 ?_
      refine lv_iconst (v := nI 1) hx hb dX4_removeSession_68 (by decide) ?_
      refine lv_isub hx hb dX4_removeSession_69 ?_
      refine lv_ton (n := ((sN B) - 1)) (nsub (by omega)) ?_
      refine r_iast hx hb hK hP hD hS 0 0 rfl rfl (i := 2) (by omega) (by omega) dX4_removeSession_70 (fun H locs (hP : va_P G.1 CL [(sa, .inl (G.2 0, 830, .inl (upd (shf f (19 * k_782 + 70) (19 * (sN B - 1) + 70)) 2 (nI ((sN B) - 1))))), (za, .inl (G.2 0, 6, .inl zf)), (m0, .inr (6, [.ref sa, .ref oa, .ref pa, .ref la, .ref za, .ref na, .int (nI (min 6 (u + 1))), .int (nI ((t + 1) % 6)), .int gw, .int gd, .int gm, .int gr, .int (nS (some k_782)), .int gv])), (ta, .inl (G.2 0, 830, .inl f))] H) (hD : va_D A [(sa, .inl (G.2 0, 830, .inl (upd (shf f (19 * k_782 + 70) (19 * (sN B - 1) + 70)) 2 (nI ((sN B) - 1))))), (za, .inl (G.2 0, 6, .inl zf)), (m0, .inr (6, [.ref sa, .ref oa, .ref pa, .ref la, .ref za, .ref na, .int (nI (min 6 (u + 1))), .int (nI ((t + 1) % 6)), .int gw, .int gd, .int gm, .int gr, .int (nS (some k_782)), .int gv])), (ta, .inl (G.2 0, 830, .inl f))]) hS => ?_)
      refine lv_aload_n hx hb dX4_removeSession_71 rfl (lv_at hl 0 rfl) ?_
      refine va_get hx hb hts in_X4 hown hK hP 2 rfl rfl 0 (by decide) (hts _ q1596) (fun _ h => h) rfl dX4_removeSession_72 ?_
      refine lv_iconst (v := nI 2) hx hb dX4_removeSession_75 (by decide) ?_
      refine r_iald (v := nI ((sN B) - 1)) hx hb hK hP 0 0 rfl rfl (i := 2) (by omega) (by omega) (pk_us) dX4_removeSession_76 ?_
      have hq9 : o_remSes B id = (0, nI ((sN B) - 1), wS B ((bS B).eraseIdx k_782)) := by unfold o_remSes; rw [hix_783] <;> rfl
      have hP : va_P G.1 CL [(sa, .inl (G.2 0, 830, .inl (upd (shf f (19 * k_782 + 70) (19 * (sN B - 1) + 70)) 2 (nI ((sN B) - 1))))), (za, .inl (G.2 0, 6, .inl zf)), (m0, .inr (6, [.ref sa, .ref oa, .ref pa, .ref la, .ref za, .ref na, .int (nI (min 6 (u + 1))), .int (nI ((t + 1) % 6)), .int gw, .int gd, .int gm, .int gr, .int (nI ((o_remSes B id).1)), .int gv])), (ta, .inl (G.2 0, 830, .inl f))] H := by rw [hq9]; exact hP
      have hD : va_D A [(sa, .inl (G.2 0, 830, .inl (upd (shf f (19 * k_782 + 70) (19 * (sN B - 1) + 70)) 2 (nI ((sN B) - 1))))), (za, .inl (G.2 0, 6, .inl zf)), (m0, .inr (6, [.ref sa, .ref oa, .ref pa, .ref la, .ref za, .ref na, .int (nI (min 6 (u + 1))), .int (nI ((t + 1) % 6)), .int gw, .int gd, .int gm, .int gr, .int (nI ((o_remSes B id).1)), .int gv])), (ta, .inl (G.2 0, 830, .inl f))] := by rw [hq9]; exact hD
      have hP9 : va_P G.1 CL [(m0, .inr (6, [.ref sa, .ref oa, .ref pa, .ref la, .ref za, .ref na, .int (nI (min 6 (u + 1))), .int (nI ((t + 1) % 6)), .int gw, .int gd, .int gm, .int gr, .int (nI ((o_remSes B id).1)), .int gv])), (sa, .inl (G.2 0, 830, .inl (upd (shf f (19 * k_782 + 70) (19 * (sN B - 1) + 70)) 2 (nI ((sN B) - 1))))), (ta, .inl (G.2 0, 830, .inl f)), (za, .inl (G.2 0, 6, .inl zf))] H := hP.sub [2, 0, 3, 1] rfl
      have hD9 : va_D A [(m0, .inr (6, [.ref sa, .ref oa, .ref pa, .ref la, .ref za, .ref na, .int (nI (min 6 (u + 1))), .int (nI ((t + 1) % 6)), .int gw, .int gd, .int gm, .int gr, .int (nI ((o_remSes B id).1)), .int gv])), (sa, .inl (G.2 0, 830, .inl (upd (shf f (19 * k_782 + 70) (19 * (sN B - 1) + 70)) 2 (nI ((sN B) - 1))))), (ta, .inl (G.2 0, 830, .inl f)), (za, .inl (G.2 0, 6, .inl zf))] := hD.sub [2, 0, 3, 1] (by decide) rfl
      exact end_i hx hb hr hlk (rfl) (qc_of ⟨nI ((sN B) - 1), upd (shf f (19 * k_782 + 70) (19 * (sN B - 1) + 70)) 2 (nI ((sN B) - 1)), ((t + 1) % 6), (min 6 (u + 1)), f, zf⟩ (v := some (.int (nI ((sN B) - 1)))) (by rfl) (by rw [hq9]; exact ⟨fun z => absurd rfl z, fun _ => ⟨rfl, MR_remSes hI hM hkk, rfl, rfl, rfl⟩⟩) hP9 hD9 (trivial) hS) hS dX4_removeSession_77 (show 0 ≤ 0 from by first | exact Nat.le_refl _ | decide | omega) (show 0 ≤ 0 from by first | exact Nat.le_refl _ | decide | omega)
    · refine lv_aload_n hx hb dX4_removeSession_40 rfl (lv_at hl 0 rfl) ?_
      refine va_get hx hb hts in_X4 hown hK hP 2 rfl rfl 0 (by decide) (hts _ q1596) (fun _ h => h) rfl dX4_removeSession_41 ?_
      refine lv_iload_n hx hb dX4_removeSession_44 rfl (lv_at hl 2 rfl) ?_
      refine lv_aload_n hx hb dX4_removeSession_45 rfl (lv_at hl 0 rfl) ?_
      refine va_get hx hb hts in_X4 hown hK hP 2 rfl rfl 0 (by decide) (hts _ q1596) (fun _ h => h) rfl dX4_removeSession_46 ?_
      refine lv_iload_n hx hb dX4_removeSession_49 rfl (lv_at hl 2 rfl) ?_
      refine lv_bipush (v := nI 19) hx hb dX4_removeSession_50 (by decide) ?_
      refine lv_iadd hx hb dX4_removeSession_52 ?_
      refine lv_ton (n := j_793 + 19) (nadd (by omega)) ?_
      refine r_iald (v := f (j_793 + 19)) hx hb hK hP 0 0 rfl rfl (i := j_793 + 19) (by omega) (by omega) ((shf_out (by omega)).trans (rfl)) dX4_removeSession_53 ?_
      refine r_iast hx hb hK hP hD hS 0 0 rfl rfl (i := j_793) (by omega) (by omega) dX4_removeSession_54 (fun H locs (hP : va_P G.1 CL [(sa, .inl (G.2 0, 830, .inl (upd (shf f (19 * k_782 + 70) j_793) j_793 (f (j_793 + 19))))), (za, .inl (G.2 0, 6, .inl zf)), (m0, .inr (6, [.ref sa, .ref oa, .ref pa, .ref la, .ref za, .ref na, .int (nI (min 6 (u + 1))), .int (nI ((t + 1) % 6)), .int gw, .int gd, .int gm, .int gr, .int (nS (some k_782)), .int gv])), (ta, .inl (G.2 0, 830, .inl f))] H) (hD : va_D A [(sa, .inl (G.2 0, 830, .inl (upd (shf f (19 * k_782 + 70) j_793) j_793 (f (j_793 + 19))))), (za, .inl (G.2 0, 6, .inl zf)), (m0, .inr (6, [.ref sa, .ref oa, .ref pa, .ref la, .ref za, .ref na, .int (nI (min 6 (u + 1))), .int (nI ((t + 1) % 6)), .int gw, .int gd, .int gm, .int gr, .int (nS (some k_782)), .int gv])), (ta, .inl (G.2 0, 830, .inl f))]) hS => ?_)
      have hP : va_P G.1 CL [(sa, .inl (G.2 0, 830, .inl (shf f (19 * k_782 + 70) (j_793 + 1)))), (za, .inl (G.2 0, 6, .inl zf)), (m0, .inr (6, [.ref sa, .ref oa, .ref pa, .ref la, .ref za, .ref na, .int (nI (min 6 (u + 1))), .int (nI ((t + 1) % 6)), .int gw, .int gd, .int gm, .int gr, .int (nS (some k_782)), .int gv])), (ta, .inl (G.2 0, 830, .inl f))] H := by rw [← shf_s f (by omega)]; exact hP
      have hD : va_D A [(sa, .inl (G.2 0, 830, .inl (shf f (19 * k_782 + 70) (j_793 + 1)))), (za, .inl (G.2 0, 6, .inl zf)), (m0, .inr (6, [.ref sa, .ref oa, .ref pa, .ref la, .ref za, .ref na, .int (nI (min 6 (u + 1))), .int (nI ((t + 1) % 6)), .int gw, .int gd, .int gm, .int gr, .int (nS (some k_782)), .int gv])), (ta, .inl (G.2 0, 830, .inl f))] := by rw [← shf_s f (by omega)]; exact hD
      refine lv_iinc (v := nI (j_793 + 1)) (lv' := [(2, .int (nI (j_793 + 1))), (0, .ref m0), (1, .int id)]) hx hb dX4_removeSession_55 hl (k := 2) rfl (ninc (b := 1) (by decide) (by omega)) (by decide) rfl (fun ls hl => ?_)
      refine lv_goto (tgt := 24) hx hb dX4_removeSession_58 (by decide) ?_
      have hP : va_P G.1 CL [(sa, .inl (G.2 0, 830, .inl (shf f (19 * k_782 + 70) (j_793 + 1)))), (za, .inl (G.2 0, 6, .inl zf)), (m0, .inr (6, [.ref sa, .ref oa, .ref pa, .ref la, .ref za, .ref na, .int (nI (min 6 (u + 1))), .int (nI ((t + 1) % 6)), .int gw, .int gd, .int gm, .int gr, .int (nS (some k_782)), .int gv])), (ta, .inl (G.2 0, 830, .inl f))] H := hP.sub [0, 1, 2, 3] rfl
      have hD : va_D A [(sa, .inl (G.2 0, 830, .inl (shf f (19 * k_782 + 70) (j_793 + 1)))), (za, .inl (G.2 0, 6, .inl zf)), (m0, .inr (6, [.ref sa, .ref oa, .ref pa, .ref la, .ref za, .ref na, .int (nI (min 6 (u + 1))), .int (nI ((t + 1) % 6)), .int gw, .int gd, .int gm, .int gr, .int (nS (some k_782)), .int gv])), (ta, .inl (G.2 0, 830, .inl f))] := hD.sub [0, 1, 2, 3] (by decide) rfl
      have hl := lv_sub hl [1, 2, 0] (l' := [(0, .ref m0), (1, .int id), (2, .int (nI (j_793 + 1)))]) rfl
      exact W.widen (show 0 ≤ 0 from by first | exact Nat.le_refl _ | omega) (show 0 ≤ 0 from by first | exact Nat.le_refl _ | omega) (ih24 ((j_793 + 1)) H locs ls ⟨hP, hD, hS, hl, (show 19 * k_782 + 70 ≤ (j_793 + 1) from by omega), (show (j_793 + 1) ≤ 19 * (sN B - 1) + 70 from by omega)⟩ (show 19 * (sN B - 1) + 70 - (j_793 + 1) < 19 * (sN B - 1) + 70 - j_793 from by omega))

set_option maxHeartbeats 4000000 in
theorem mX4_startPlan (l : Launch) (G : Gt) (m0 : Nat) (sa : Nat) (oa : Nat) (pa : Nat) (la : Nat) (za : Nat) (na : Nat) (gw : Int32) (gd : Int32) (gm : Int32) (gr : Int32) (gh : Int32) (gv : Int32) (f : Nat → Int32) (B : Bk) (t : Nat) (u : Nat) (ta : Nat) (h : Nat → Int32) (og : Nat → Option Nat) (zf : Nat → Int32) (hM : MR f B) (hI : Inv B) (ht : t < 6) (hu : u ≤ 6) (hog : og ((t + 1) % 6) = some ta) : CT l G yX4_startPlan cX4_startPlan 2 (some .int) ({ frames := 2, cells := 0, slots := 0, locals := 41 } : Room) [.ref m0] [(m0, .inr (6, [.ref sa, .ref oa, .ref pa, .ref la, .ref za, .ref na, .int (nI u), .int (nI t), .int gw, .int gd, .int gm, .int gr, .int gh, .int gv])), (sa, .inl (G.2 0, 830, .inl f)), (ta, .inl (G.2 0, 830, .inl h)), (za, .inl (G.2 0, 6, .inl zf))] (fun (A : Nat → Prop) (H : Heap) => roW G A H [(oa, .inl (G.2 7, 6, .inr (.inr (.inr (.inr og)))))]) (S := Int32 × (Nat → Int32) × Nat × Nat × (Nat → Int32) × (Nat → Int32)) (fun (u_ : Int32 × (Nat → Int32) × Nat × Nat × (Nat → Int32) × (Nat → Int32)) => some (.int u_.1)) (fun (u_ : Int32 × (Nat → Int32) × Nat × Nat × (Nat → Int32) × (Nat → Int32)) => MutP (o_start B) f t u h u_.1 u_.2.1 u_.2.2.1 u_.2.2.2.1 u_.2.2.2.2.1) (fun (u_ : Int32 × (Nat → Int32) × Nat × Nat × (Nat → Int32) × (Nat → Int32)) => [(m0, .inr (6, [.ref sa, .ref oa, .ref pa, .ref la, .ref za, .ref na, .int (nI u_.2.2.2.1), .int (nI u_.2.2.1), .int gw, .int gd, .int gm, .int gr, .int (nI ((o_start B).1)), .int gv])), (sa, .inl (G.2 0, 830, .inl u_.2.1)), (ta, .inl (G.2 0, 830, .inl u_.2.2.2.2.1)), (za, .inl (G.2 0, 6, .inl u_.2.2.2.2.2))]) (fun (u_ : Int32 × (Nat → Int32) × Nat × Nat × (Nat → Int32) × (Nat → Int32)) (H : Heap) => True) := by
  refine CT.of (by decide) (Nat.le_of_ble_eq_true rfl) ?_
  intro p e s m below meth c ls A H locs h9 hH0 hP hS
  obtain ⟨cf, hr, hlk, hnm, hKB, hE, -, hD, -, hA, hAw, hR0, hl⟩ := h9
  have hx := cf.1
  have hb := cf.2.1
  have hml := cf.2.2.1
  have hown : s.vm.findClass RX4 = some m.cls := cf.2.2.2.1
  have hts := cf.2.2.2.2
  have hK := hKB.1
  have hl : lv_has ls 2 [(0, .ref m0)] := hl
  have iN := iv_sN hI
  have iT := iv_tN hI
  have iD := iv_bD hI
  have iE := iv_bE hI
  have iW := iv_id hI
  rcases hbp : bP B with _ | d_795
  · refine lv_aload_n hx hb dX4_startPlan_0 rfl (lv_at hl 0 rfl) ?_
    refine lv_iconst (v := nI 0) hx hb dX4_startPlan_1 (by decide) ?_
    refine va_put (v := .int (nI 0)) (ty := .int) hx hb hts in_X4 tyX4 tyX4_ok nmX4 hown hK hP hD hS 0 rfl rfl 12 (by decide) (hts _ q1608) (fun _ h => h) rfl (by decide +kernel) rfl rfl (Nat.le_of_ble_eq_true rfl) dX4_startPlan_2 (fun H locs (hP : va_P G.1 CL [(m0, .inr (6, [.ref sa, .ref oa, .ref pa, .ref la, .ref za, .ref na, .int (nI u), .int (nI t), .int gw, .int gd, .int gm, .int gr, .int (nI 0), .int gv])), (sa, .inl (G.2 0, 830, .inl f)), (ta, .inl (G.2 0, 830, .inl h)), (za, .inl (G.2 0, 6, .inl zf))] H) (hD : va_D A [(m0, .inr (6, [.ref sa, .ref oa, .ref pa, .ref la, .ref za, .ref na, .int (nI u), .int (nI t), .int gw, .int gd, .int gm, .int gr, .int (nI 0), .int gv])), (sa, .inl (G.2 0, 830, .inl f)), (ta, .inl (G.2 0, 830, .inl h)), (za, .inl (G.2 0, 6, .inl zf))]) hS => ?_)
    refine lv_aload_n hx hb dX4_startPlan_5 rfl (lv_at hl 0 rfl) ?_
    have hF := hF_of (wc := [(m0, .inr (6, [.ref sa, .ref oa, .ref pa, .ref la, .ref za, .ref na, .int (nI u), .int (nI t), .int gw, .int gd, .int gm, .int gr, .int (nI 0), .int gv])), (ta, .inl (G.2 0, 830, .inl h))]) hD hS hA [0, 2] rfl
    have hro_796 : roW G (va_A [(m0, .inr (6, [.ref sa, .ref oa, .ref pa, .ref la, .ref za, .ref na, .int (nI u), .int (nI t), .int gw, .int gd, .int gm, .int gr, .int (nI 0), .int gv])), (ta, .inl (G.2 0, 830, .inl h))] H.size) H [(oa, .inl (G.2 7, 6, .inr (.inr (.inr (.inr og))))), (sa, .inl (G.2 0, 830, .inl f))] := (((hR0.kp hF hS.2.1).sub (ws' := [(oa, .inl (G.2 7, 6, .inr (.inr (.inr (.inr og)))))]) [0] rfl).app (roW.of (w' := [(sa, .inl (G.2 0, 830, .inl f))]) hP hD [0, 2] [1] rfl rfl (by decide)))
    refine go_ct hS hP hD [0, 2] [1, 3] hF rfl rfl (by decide) (by decide)
        (va_runV (As := []) (rest := []) cf (mX4_keeps l G m0 sa oa pa la za na gw gd gm gr (nI 0) gv f t u ta h og (show t < 6 from by first | assumption | omega) (show u ≤ 6 from by first | assumption | omega) (show og ((t + 1) % 6) = some ta from by first | assumption | omega) H.size) (cwV 0 hts (lw_V q1654 q1656 qs21 q58 q1657) rfl rfl rfl (by decide +kernel) ⟨Nat.le_of_ble_eq_true rfl, Nat.le_of_ble_eq_true rfl⟩) (preV_of hKB hE hS hF (va_recv hK hP (ci := 6) (q0 := 0) rfl rfl) (va_P.sub hP [0, 2] rfl) ((va_D.sub hD [0, 2] (by decide) rfl).weaken (fun _ _ _ _ => trivial)) hro_796) rfl rfl hl.1 rfl (lv_room (Nat.le_of_ble_eq_true rfl)) dX4_startPlan_6 ⟨show 0 + 0 ≤ 0 from by first | decide | omega, show 0 + 0 ≤ 0 from by first | decide | omega⟩)
        (fun u_ H locs hq hph (hP : va_P G.1 CL [(sa, .inl (G.2 0, 830, .inl f)), (za, .inl (G.2 0, 6, .inl zf)), (m0, .inr (6, [.ref sa, .ref oa, .ref pa, .ref la, .ref za, .ref na, .int (nI (min 6 (u + 1))), .int (nI ((t + 1) % 6)), .int gw, .int gd, .int gm, .int gr, .int (nI 0), .int gv])), (ta, .inl (G.2 0, 830, .inl f))] H) (hD : va_D A [(sa, .inl (G.2 0, 830, .inl f)), (za, .inl (G.2 0, 6, .inl zf)), (m0, .inr (6, [.ref sa, .ref oa, .ref pa, .ref la, .ref za, .ref na, .int (nI (min 6 (u + 1))), .int (nI ((t + 1) % 6)), .int gw, .int gd, .int gm, .int gr, .int (nI 0), .int gv])), (ta, .inl (G.2 0, 830, .inl f))]) hS hfz hfk => ?_)
    refine W.eq (g2 := F0 m 9 ls []) rfl ?_
    refine lv_aload_n hx hb dX4_startPlan_9 rfl (lv_at hl 0 rfl) ?_
    refine va_get hx hb hts in_X4 hown hK hP 2 rfl rfl 0 (by decide) (hts _ q1596) (fun _ h => h) rfl dX4_startPlan_10 ?_
    refine lv_iconst (v := nI 4) hx hb dX4_startPlan_13 (by decide) ?_
    refine r_iald (v := nI 0) hx hb hK hP 0 0 rfl rfl (i := 4) (by omega) (by omega) (hM.planned.trans (by rw [hbp])) dX4_startPlan_14 ?_
    refine lv_iconst (v := nI 1) hx hb dX4_startPlan_15 (by decide) ?_
    refine n_icmp_ne (tgt := 29) hx hb (by omega) (by omega) dX4_startPlan_16 (by decide) (fun c_797 => ?_) (fun c_797 => absurd c_797 (by omega))
    refine lv_iconst (v := nI 0) hx hb dX4_startPlan_29 (by decide) ?_
    refine lv_ton (n := (bE B)) (congrArg nI (iv_pn hI hbp).symm) ?_
    refine lv_istore_n (lv' := [(1, .int (nI (bE B))), (0, .ref m0)]) hx hb dX4_startPlan_30 rfl hl (by decide) rfl (fun ls hl => ?_)
    refine lv_aload_n hx hb dX4_startPlan_31 rfl (lv_at hl 1 rfl) ?_
    refine va_get hx hb hts in_X4 hown hK hP 2 rfl rfl 0 (by decide) (hts _ q1596) (fun _ h => h) rfl dX4_startPlan_32 ?_
    refine lv_iconst (v := nI 4) hx hb dX4_startPlan_35 (by decide) ?_
    refine lv_iconst (v := nI 1) hx hb dX4_startPlan_36 (by decide) ?_
    refine r_iast hx hb hK hP hD hS 0 0 rfl rfl (i := 4) (by omega) (by omega) dX4_startPlan_37 (fun H locs (hP : va_P G.1 CL [(sa, .inl (G.2 0, 830, .inl (upd f 4 (nI 1)))), (za, .inl (G.2 0, 6, .inl zf)), (m0, .inr (6, [.ref sa, .ref oa, .ref pa, .ref la, .ref za, .ref na, .int (nI (min 6 (u + 1))), .int (nI ((t + 1) % 6)), .int gw, .int gd, .int gm, .int gr, .int (nI 0), .int gv])), (ta, .inl (G.2 0, 830, .inl f))] H) (hD : va_D A [(sa, .inl (G.2 0, 830, .inl (upd f 4 (nI 1)))), (za, .inl (G.2 0, 6, .inl zf)), (m0, .inr (6, [.ref sa, .ref oa, .ref pa, .ref la, .ref za, .ref na, .int (nI (min 6 (u + 1))), .int (nI ((t + 1) % 6)), .int gw, .int gd, .int gm, .int gr, .int (nI 0), .int gv])), (ta, .inl (G.2 0, 830, .inl f))]) hS => ?_)
    refine lv_aload_n hx hb dX4_startPlan_38 rfl (lv_at hl 1 rfl) ?_
    refine va_get hx hb hts in_X4 hown hK hP 2 rfl rfl 0 (by decide) (hts _ q1596) (fun _ h => h) rfl dX4_startPlan_39 ?_
    refine lv_iconst (v := nI 5) hx hb dX4_startPlan_42 (by decide) ?_
    refine lv_aload_n hx hb dX4_startPlan_43 rfl (lv_at hl 1 rfl) ?_
    refine va_get hx hb hts in_X4 hown hK hP 2 rfl rfl 0 (by decide) (hts _ q1596) (fun _ h => h) rfl dX4_startPlan_44 ?_
    refine lv_iconst (v := nI 0) hx hb dX4_startPlan_47 (by decide) ?_
    refine r_iald (v := nI (bD B)) hx hb hK hP 0 0 rfl rfl (i := 0) (by omega) (by omega) ((pk_un (by omega)).trans (hM.today)) dX4_startPlan_48 ?_
    refine r_iast hx hb hK hP hD hS 0 0 rfl rfl (i := 5) (by omega) (by omega) dX4_startPlan_49 (fun H locs (hP : va_P G.1 CL [(sa, .inl (G.2 0, 830, .inl (upd (upd f 4 (nI 1)) 5 (nI (bD B))))), (za, .inl (G.2 0, 6, .inl zf)), (m0, .inr (6, [.ref sa, .ref oa, .ref pa, .ref la, .ref za, .ref na, .int (nI (min 6 (u + 1))), .int (nI ((t + 1) % 6)), .int gw, .int gd, .int gm, .int gr, .int (nI 0), .int gv])), (ta, .inl (G.2 0, 830, .inl f))] H) (hD : va_D A [(sa, .inl (G.2 0, 830, .inl (upd (upd f 4 (nI 1)) 5 (nI (bD B))))), (za, .inl (G.2 0, 6, .inl zf)), (m0, .inr (6, [.ref sa, .ref oa, .ref pa, .ref la, .ref za, .ref na, .int (nI (min 6 (u + 1))), .int (nI ((t + 1) % 6)), .int gw, .int gd, .int gm, .int gr, .int (nI 0), .int gv])), (ta, .inl (G.2 0, 830, .inl f))]) hS => ?_)
    refine lv_aload_n hx hb dX4_startPlan_50 rfl (lv_at hl 1 rfl) ?_
    refine va_get hx hb hts in_X4 hown hK hP 2 rfl rfl 0 (by decide) (hts _ q1596) (fun _ h => h) rfl dX4_startPlan_51 ?_
    refine lv_bipush (v := nI 6) hx hb dX4_startPlan_54 (by decide) ?_
    refine lv_iconst (v := nI 0) hx hb dX4_startPlan_56 (by decide) ?_
    refine r_iast hx hb hK hP hD hS 0 0 rfl rfl (i := 6) (by omega) (by omega) dX4_startPlan_57 (fun H locs (hP : va_P G.1 CL [(sa, .inl (G.2 0, 830, .inl (upd (upd (upd f 4 (nI 1)) 5 (nI (bD B))) 6 (nI 0)))), (za, .inl (G.2 0, 6, .inl zf)), (m0, .inr (6, [.ref sa, .ref oa, .ref pa, .ref la, .ref za, .ref na, .int (nI (min 6 (u + 1))), .int (nI ((t + 1) % 6)), .int gw, .int gd, .int gm, .int gr, .int (nI 0), .int gv])), (ta, .inl (G.2 0, 830, .inl f))] H) (hD : va_D A [(sa, .inl (G.2 0, 830, .inl (upd (upd (upd f 4 (nI 1)) 5 (nI (bD B))) 6 (nI 0)))), (za, .inl (G.2 0, 6, .inl zf)), (m0, .inr (6, [.ref sa, .ref oa, .ref pa, .ref la, .ref za, .ref na, .int (nI (min 6 (u + 1))), .int (nI ((t + 1) % 6)), .int gw, .int gd, .int gm, .int gr, .int (nI 0), .int gv])), (ta, .inl (G.2 0, 830, .inl f))]) hS => ?_)
    refine lv_iload_n hx hb dX4_startPlan_58 rfl (lv_at hl 0 rfl) ?_
    have hq9 : o_start B = (0, nI (bE B), wE (wP B (some (bD B))) 0) := by unfold o_start; rfl
    have hP : va_P G.1 CL [(sa, .inl (G.2 0, 830, .inl (upd (upd (upd f 4 (nI 1)) 5 (nI (bD B))) 6 (nI 0)))), (za, .inl (G.2 0, 6, .inl zf)), (m0, .inr (6, [.ref sa, .ref oa, .ref pa, .ref la, .ref za, .ref na, .int (nI (min 6 (u + 1))), .int (nI ((t + 1) % 6)), .int gw, .int gd, .int gm, .int gr, .int (nI ((o_start B).1)), .int gv])), (ta, .inl (G.2 0, 830, .inl f))] H := by rw [hq9]; exact hP
    have hD : va_D A [(sa, .inl (G.2 0, 830, .inl (upd (upd (upd f 4 (nI 1)) 5 (nI (bD B))) 6 (nI 0)))), (za, .inl (G.2 0, 6, .inl zf)), (m0, .inr (6, [.ref sa, .ref oa, .ref pa, .ref la, .ref za, .ref na, .int (nI (min 6 (u + 1))), .int (nI ((t + 1) % 6)), .int gw, .int gd, .int gm, .int gr, .int (nI ((o_start B).1)), .int gv])), (ta, .inl (G.2 0, 830, .inl f))] := by rw [hq9]; exact hD
    have hP9 : va_P G.1 CL [(m0, .inr (6, [.ref sa, .ref oa, .ref pa, .ref la, .ref za, .ref na, .int (nI (min 6 (u + 1))), .int (nI ((t + 1) % 6)), .int gw, .int gd, .int gm, .int gr, .int (nI ((o_start B).1)), .int gv])), (sa, .inl (G.2 0, 830, .inl (upd (upd (upd f 4 (nI 1)) 5 (nI (bD B))) 6 (nI 0)))), (ta, .inl (G.2 0, 830, .inl f)), (za, .inl (G.2 0, 6, .inl zf))] H := hP.sub [2, 0, 3, 1] rfl
    have hD9 : va_D A [(m0, .inr (6, [.ref sa, .ref oa, .ref pa, .ref la, .ref za, .ref na, .int (nI (min 6 (u + 1))), .int (nI ((t + 1) % 6)), .int gw, .int gd, .int gm, .int gr, .int (nI ((o_start B).1)), .int gv])), (sa, .inl (G.2 0, 830, .inl (upd (upd (upd f 4 (nI 1)) 5 (nI (bD B))) 6 (nI 0)))), (ta, .inl (G.2 0, 830, .inl f)), (za, .inl (G.2 0, 6, .inl zf))] := hD.sub [2, 0, 3, 1] (by decide) rfl
    exact end_i hx hb hr hlk (rfl) (qc_of ⟨nI (bE B), upd (upd (upd f 4 (nI 1)) 5 (nI (bD B))) 6 (nI 0), ((t + 1) % 6), (min 6 (u + 1)), f, zf⟩ (v := some (.int (nI (bE B)))) (by rfl) (by rw [hq9]; exact ⟨fun z => absurd rfl z, fun _ => ⟨rfl, MR_start hI hM, rfl, rfl, rfl⟩⟩) hP9 hD9 (trivial) hS) hS dX4_startPlan_59 (show 0 ≤ 0 from by first | exact Nat.le_refl _ | decide | omega) (show 0 ≤ 0 from by first | exact Nat.le_refl _ | decide | omega)
  · refine lv_aload_n hx hb dX4_startPlan_0 rfl (lv_at hl 0 rfl) ?_
    refine lv_iconst (v := nI 0) hx hb dX4_startPlan_1 (by decide) ?_
    refine va_put (v := .int (nI 0)) (ty := .int) hx hb hts in_X4 tyX4 tyX4_ok nmX4 hown hK hP hD hS 0 rfl rfl 12 (by decide) (hts _ q1608) (fun _ h => h) rfl (by decide +kernel) rfl rfl (Nat.le_of_ble_eq_true rfl) dX4_startPlan_2 (fun H locs (hP : va_P G.1 CL [(m0, .inr (6, [.ref sa, .ref oa, .ref pa, .ref la, .ref za, .ref na, .int (nI u), .int (nI t), .int gw, .int gd, .int gm, .int gr, .int (nI 0), .int gv])), (sa, .inl (G.2 0, 830, .inl f)), (ta, .inl (G.2 0, 830, .inl h)), (za, .inl (G.2 0, 6, .inl zf))] H) (hD : va_D A [(m0, .inr (6, [.ref sa, .ref oa, .ref pa, .ref la, .ref za, .ref na, .int (nI u), .int (nI t), .int gw, .int gd, .int gm, .int gr, .int (nI 0), .int gv])), (sa, .inl (G.2 0, 830, .inl f)), (ta, .inl (G.2 0, 830, .inl h)), (za, .inl (G.2 0, 6, .inl zf))]) hS => ?_)
    refine lv_aload_n hx hb dX4_startPlan_5 rfl (lv_at hl 0 rfl) ?_
    have hF := hF_of (wc := [(m0, .inr (6, [.ref sa, .ref oa, .ref pa, .ref la, .ref za, .ref na, .int (nI u), .int (nI t), .int gw, .int gd, .int gm, .int gr, .int (nI 0), .int gv])), (ta, .inl (G.2 0, 830, .inl h))]) hD hS hA [0, 2] rfl
    have hro_798 : roW G (va_A [(m0, .inr (6, [.ref sa, .ref oa, .ref pa, .ref la, .ref za, .ref na, .int (nI u), .int (nI t), .int gw, .int gd, .int gm, .int gr, .int (nI 0), .int gv])), (ta, .inl (G.2 0, 830, .inl h))] H.size) H [(oa, .inl (G.2 7, 6, .inr (.inr (.inr (.inr og))))), (sa, .inl (G.2 0, 830, .inl f))] := (((hR0.kp hF hS.2.1).sub (ws' := [(oa, .inl (G.2 7, 6, .inr (.inr (.inr (.inr og)))))]) [0] rfl).app (roW.of (w' := [(sa, .inl (G.2 0, 830, .inl f))]) hP hD [0, 2] [1] rfl rfl (by decide)))
    refine go_ct hS hP hD [0, 2] [1, 3] hF rfl rfl (by decide) (by decide)
        (va_runV (As := []) (rest := []) cf (mX4_keeps l G m0 sa oa pa la za na gw gd gm gr (nI 0) gv f t u ta h og (show t < 6 from by first | assumption | omega) (show u ≤ 6 from by first | assumption | omega) (show og ((t + 1) % 6) = some ta from by first | assumption | omega) H.size) (cwV 0 hts (lw_V q1654 q1656 qs21 q58 q1657) rfl rfl rfl (by decide +kernel) ⟨Nat.le_of_ble_eq_true rfl, Nat.le_of_ble_eq_true rfl⟩) (preV_of hKB hE hS hF (va_recv hK hP (ci := 6) (q0 := 0) rfl rfl) (va_P.sub hP [0, 2] rfl) ((va_D.sub hD [0, 2] (by decide) rfl).weaken (fun _ _ _ _ => trivial)) hro_798) rfl rfl hl.1 rfl (lv_room (Nat.le_of_ble_eq_true rfl)) dX4_startPlan_6 ⟨show 0 + 0 ≤ 0 from by first | decide | omega, show 0 + 0 ≤ 0 from by first | decide | omega⟩)
        (fun u_ H locs hq hph (hP : va_P G.1 CL [(sa, .inl (G.2 0, 830, .inl f)), (za, .inl (G.2 0, 6, .inl zf)), (m0, .inr (6, [.ref sa, .ref oa, .ref pa, .ref la, .ref za, .ref na, .int (nI (min 6 (u + 1))), .int (nI ((t + 1) % 6)), .int gw, .int gd, .int gm, .int gr, .int (nI 0), .int gv])), (ta, .inl (G.2 0, 830, .inl f))] H) (hD : va_D A [(sa, .inl (G.2 0, 830, .inl f)), (za, .inl (G.2 0, 6, .inl zf)), (m0, .inr (6, [.ref sa, .ref oa, .ref pa, .ref la, .ref za, .ref na, .int (nI (min 6 (u + 1))), .int (nI ((t + 1) % 6)), .int gw, .int gd, .int gm, .int gr, .int (nI 0), .int gv])), (ta, .inl (G.2 0, 830, .inl f))]) hS hfz hfk => ?_)
    refine W.eq (g2 := F0 m 9 ls []) rfl ?_
    refine lv_aload_n hx hb dX4_startPlan_9 rfl (lv_at hl 0 rfl) ?_
    refine va_get hx hb hts in_X4 hown hK hP 2 rfl rfl 0 (by decide) (hts _ q1596) (fun _ h => h) rfl dX4_startPlan_10 ?_
    refine lv_iconst (v := nI 4) hx hb dX4_startPlan_13 (by decide) ?_
    refine r_iald (v := nI 1) hx hb hK hP 0 0 rfl rfl (i := 4) (by omega) (by omega) (hM.planned.trans (by rw [hbp])) dX4_startPlan_14 ?_
    refine lv_iconst (v := nI 1) hx hb dX4_startPlan_15 (by decide) ?_
    refine n_icmp_ne (tgt := 29) hx hb (by omega) (by omega) dX4_startPlan_16 (by decide) (fun c_799 => absurd c_799 (by omega)) (fun c_799 => ?_)
    refine lv_aload_n hx hb dX4_startPlan_19 rfl (lv_at hl 0 rfl) ?_
    refine va_get hx hb hts in_X4 hown hK hP 2 rfl rfl 0 (by decide) (hts _ q1596) (fun _ h => h) rfl dX4_startPlan_20 ?_
    refine lv_bipush (v := nI 6) hx hb dX4_startPlan_23 (by decide) ?_
    refine r_iald (v := nI (bE B)) hx hb hK hP 0 0 rfl rfl (i := 6) (by omega) (by omega) (hM.ents) dX4_startPlan_25 ?_
    refine lv_goto (tgt := 30) hx hb dX4_startPlan_26 (by decide) ?_
    refine lv_istore_n (lv' := [(1, .int (nI (bE B))), (0, .ref m0)]) hx hb dX4_startPlan_30 rfl hl (by decide) rfl (fun ls hl => ?_)
    refine lv_aload_n hx hb dX4_startPlan_31 rfl (lv_at hl 1 rfl) ?_
    refine va_get hx hb hts in_X4 hown hK hP 2 rfl rfl 0 (by decide) (hts _ q1596) (fun _ h => h) rfl dX4_startPlan_32 ?_
    refine lv_iconst (v := nI 4) hx hb dX4_startPlan_35 (by decide) ?_
    refine lv_iconst (v := nI 1) hx hb dX4_startPlan_36 (by decide) ?_
    refine r_iast hx hb hK hP hD hS 0 0 rfl rfl (i := 4) (by omega) (by omega) dX4_startPlan_37 (fun H locs (hP : va_P G.1 CL [(sa, .inl (G.2 0, 830, .inl (upd f 4 (nI 1)))), (za, .inl (G.2 0, 6, .inl zf)), (m0, .inr (6, [.ref sa, .ref oa, .ref pa, .ref la, .ref za, .ref na, .int (nI (min 6 (u + 1))), .int (nI ((t + 1) % 6)), .int gw, .int gd, .int gm, .int gr, .int (nI 0), .int gv])), (ta, .inl (G.2 0, 830, .inl f))] H) (hD : va_D A [(sa, .inl (G.2 0, 830, .inl (upd f 4 (nI 1)))), (za, .inl (G.2 0, 6, .inl zf)), (m0, .inr (6, [.ref sa, .ref oa, .ref pa, .ref la, .ref za, .ref na, .int (nI (min 6 (u + 1))), .int (nI ((t + 1) % 6)), .int gw, .int gd, .int gm, .int gr, .int (nI 0), .int gv])), (ta, .inl (G.2 0, 830, .inl f))]) hS => ?_)
    refine lv_aload_n hx hb dX4_startPlan_38 rfl (lv_at hl 1 rfl) ?_
    refine va_get hx hb hts in_X4 hown hK hP 2 rfl rfl 0 (by decide) (hts _ q1596) (fun _ h => h) rfl dX4_startPlan_39 ?_
    refine lv_iconst (v := nI 5) hx hb dX4_startPlan_42 (by decide) ?_
    refine lv_aload_n hx hb dX4_startPlan_43 rfl (lv_at hl 1 rfl) ?_
    refine va_get hx hb hts in_X4 hown hK hP 2 rfl rfl 0 (by decide) (hts _ q1596) (fun _ h => h) rfl dX4_startPlan_44 ?_
    refine lv_iconst (v := nI 0) hx hb dX4_startPlan_47 (by decide) ?_
    refine r_iald (v := nI (bD B)) hx hb hK hP 0 0 rfl rfl (i := 0) (by omega) (by omega) ((pk_un (by omega)).trans (hM.today)) dX4_startPlan_48 ?_
    refine r_iast hx hb hK hP hD hS 0 0 rfl rfl (i := 5) (by omega) (by omega) dX4_startPlan_49 (fun H locs (hP : va_P G.1 CL [(sa, .inl (G.2 0, 830, .inl (upd (upd f 4 (nI 1)) 5 (nI (bD B))))), (za, .inl (G.2 0, 6, .inl zf)), (m0, .inr (6, [.ref sa, .ref oa, .ref pa, .ref la, .ref za, .ref na, .int (nI (min 6 (u + 1))), .int (nI ((t + 1) % 6)), .int gw, .int gd, .int gm, .int gr, .int (nI 0), .int gv])), (ta, .inl (G.2 0, 830, .inl f))] H) (hD : va_D A [(sa, .inl (G.2 0, 830, .inl (upd (upd f 4 (nI 1)) 5 (nI (bD B))))), (za, .inl (G.2 0, 6, .inl zf)), (m0, .inr (6, [.ref sa, .ref oa, .ref pa, .ref la, .ref za, .ref na, .int (nI (min 6 (u + 1))), .int (nI ((t + 1) % 6)), .int gw, .int gd, .int gm, .int gr, .int (nI 0), .int gv])), (ta, .inl (G.2 0, 830, .inl f))]) hS => ?_)
    refine lv_aload_n hx hb dX4_startPlan_50 rfl (lv_at hl 1 rfl) ?_
    refine va_get hx hb hts in_X4 hown hK hP 2 rfl rfl 0 (by decide) (hts _ q1596) (fun _ h => h) rfl dX4_startPlan_51 ?_
    refine lv_bipush (v := nI 6) hx hb dX4_startPlan_54 (by decide) ?_
    refine lv_iconst (v := nI 0) hx hb dX4_startPlan_56 (by decide) ?_
    refine r_iast hx hb hK hP hD hS 0 0 rfl rfl (i := 6) (by omega) (by omega) dX4_startPlan_57 (fun H locs (hP : va_P G.1 CL [(sa, .inl (G.2 0, 830, .inl (upd (upd (upd f 4 (nI 1)) 5 (nI (bD B))) 6 (nI 0)))), (za, .inl (G.2 0, 6, .inl zf)), (m0, .inr (6, [.ref sa, .ref oa, .ref pa, .ref la, .ref za, .ref na, .int (nI (min 6 (u + 1))), .int (nI ((t + 1) % 6)), .int gw, .int gd, .int gm, .int gr, .int (nI 0), .int gv])), (ta, .inl (G.2 0, 830, .inl f))] H) (hD : va_D A [(sa, .inl (G.2 0, 830, .inl (upd (upd (upd f 4 (nI 1)) 5 (nI (bD B))) 6 (nI 0)))), (za, .inl (G.2 0, 6, .inl zf)), (m0, .inr (6, [.ref sa, .ref oa, .ref pa, .ref la, .ref za, .ref na, .int (nI (min 6 (u + 1))), .int (nI ((t + 1) % 6)), .int gw, .int gd, .int gm, .int gr, .int (nI 0), .int gv])), (ta, .inl (G.2 0, 830, .inl f))]) hS => ?_)
    refine lv_iload_n hx hb dX4_startPlan_58 rfl (lv_at hl 0 rfl) ?_
    have hq9 : o_start B = (0, nI (bE B), wE (wP B (some (bD B))) 0) := by unfold o_start; rfl
    have hP : va_P G.1 CL [(sa, .inl (G.2 0, 830, .inl (upd (upd (upd f 4 (nI 1)) 5 (nI (bD B))) 6 (nI 0)))), (za, .inl (G.2 0, 6, .inl zf)), (m0, .inr (6, [.ref sa, .ref oa, .ref pa, .ref la, .ref za, .ref na, .int (nI (min 6 (u + 1))), .int (nI ((t + 1) % 6)), .int gw, .int gd, .int gm, .int gr, .int (nI ((o_start B).1)), .int gv])), (ta, .inl (G.2 0, 830, .inl f))] H := by rw [hq9]; exact hP
    have hD : va_D A [(sa, .inl (G.2 0, 830, .inl (upd (upd (upd f 4 (nI 1)) 5 (nI (bD B))) 6 (nI 0)))), (za, .inl (G.2 0, 6, .inl zf)), (m0, .inr (6, [.ref sa, .ref oa, .ref pa, .ref la, .ref za, .ref na, .int (nI (min 6 (u + 1))), .int (nI ((t + 1) % 6)), .int gw, .int gd, .int gm, .int gr, .int (nI ((o_start B).1)), .int gv])), (ta, .inl (G.2 0, 830, .inl f))] := by rw [hq9]; exact hD
    have hP9 : va_P G.1 CL [(m0, .inr (6, [.ref sa, .ref oa, .ref pa, .ref la, .ref za, .ref na, .int (nI (min 6 (u + 1))), .int (nI ((t + 1) % 6)), .int gw, .int gd, .int gm, .int gr, .int (nI ((o_start B).1)), .int gv])), (sa, .inl (G.2 0, 830, .inl (upd (upd (upd f 4 (nI 1)) 5 (nI (bD B))) 6 (nI 0)))), (ta, .inl (G.2 0, 830, .inl f)), (za, .inl (G.2 0, 6, .inl zf))] H := hP.sub [2, 0, 3, 1] rfl
    have hD9 : va_D A [(m0, .inr (6, [.ref sa, .ref oa, .ref pa, .ref la, .ref za, .ref na, .int (nI (min 6 (u + 1))), .int (nI ((t + 1) % 6)), .int gw, .int gd, .int gm, .int gr, .int (nI ((o_start B).1)), .int gv])), (sa, .inl (G.2 0, 830, .inl (upd (upd (upd f 4 (nI 1)) 5 (nI (bD B))) 6 (nI 0)))), (ta, .inl (G.2 0, 830, .inl f)), (za, .inl (G.2 0, 6, .inl zf))] := hD.sub [2, 0, 3, 1] (by decide) rfl
    exact end_i hx hb hr hlk (rfl) (qc_of ⟨nI (bE B), upd (upd (upd f 4 (nI 1)) 5 (nI (bD B))) 6 (nI 0), ((t + 1) % 6), (min 6 (u + 1)), f, zf⟩ (v := some (.int (nI (bE B)))) (by rfl) (by rw [hq9]; exact ⟨fun z => absurd rfl z, fun _ => ⟨rfl, MR_start hI hM, rfl, rfl, rfl⟩⟩) hP9 hD9 (trivial) hS) hS dX4_startPlan_59 (show 0 ≤ 0 from by first | exact Nat.le_refl _ | decide | omega) (show 0 ≤ 0 from by first | exact Nat.le_refl _ | decide | omega)

set_option maxHeartbeats 4000000 in
theorem mX4_addTarget (l : Launch) (G : Gt) (m0 : Nat) (sa : Nat) (oa : Nat) (pa : Nat) (la : Nat) (za : Nat) (na : Nat) (gw : Int32) (gd : Int32) (gm : Int32) (gr : Int32) (gh : Int32) (gv : Int32) (f : Nat → Int32) (B : Bk) (t : Nat) (u : Nat) (ta : Nat) (h : Nat → Int32) (og : Nat → Option Nat) (zf : Nat → Int32) (v : Int32) (hM : MR f B) (hI : Inv B) (ht : t < 6) (hu : u ≤ 6) (hog : og ((t + 1) % 6) = some ta) : CT l G yX4_addTarget cX4_addTarget 2 (some .int) ({ frames := 2, cells := 0, slots := 0, locals := 41 } : Room) [.ref m0, .int v] [(m0, .inr (6, [.ref sa, .ref oa, .ref pa, .ref la, .ref za, .ref na, .int (nI u), .int (nI t), .int gw, .int gd, .int gm, .int gr, .int gh, .int gv])), (sa, .inl (G.2 0, 830, .inl f)), (ta, .inl (G.2 0, 830, .inl h)), (za, .inl (G.2 0, 6, .inl zf))] (fun (A : Nat → Prop) (H : Heap) => roW G A H [(oa, .inl (G.2 7, 6, .inr (.inr (.inr (.inr og)))))]) (S := Int32 × (Nat → Int32) × Nat × Nat × (Nat → Int32) × (Nat → Int32)) (fun (u_ : Int32 × (Nat → Int32) × Nat × Nat × (Nat → Int32) × (Nat → Int32)) => some (.int u_.1)) (fun (u_ : Int32 × (Nat → Int32) × Nat × Nat × (Nat → Int32) × (Nat → Int32)) => MutP (o_addTarget B v) f t u h u_.1 u_.2.1 u_.2.2.1 u_.2.2.2.1 u_.2.2.2.2.1) (fun (u_ : Int32 × (Nat → Int32) × Nat × Nat × (Nat → Int32) × (Nat → Int32)) => [(m0, .inr (6, [.ref sa, .ref oa, .ref pa, .ref la, .ref za, .ref na, .int (nI u_.2.2.2.1), .int (nI u_.2.2.1), .int gw, .int gd, .int gm, .int gr, .int (nI ((o_addTarget B v).1)), .int gv])), (sa, .inl (G.2 0, 830, .inl u_.2.1)), (ta, .inl (G.2 0, 830, .inl u_.2.2.2.2.1)), (za, .inl (G.2 0, 6, .inl u_.2.2.2.2.2))]) (fun (u_ : Int32 × (Nat → Int32) × Nat × Nat × (Nat → Int32) × (Nat → Int32)) (H : Heap) => True) := by
  refine CT.of (by decide) (Nat.le_of_ble_eq_true rfl) ?_
  intro p e s m below meth c ls A H locs h9 hH0 hP hS
  obtain ⟨cf, hr, hlk, hnm, hKB, hE, -, hD, -, hA, hAw, hR0, hl⟩ := h9
  have hx := cf.1
  have hb := cf.2.1
  have hml := cf.2.2.1
  have hown : s.vm.findClass RX4 = some m.cls := cf.2.2.2.1
  have hts := cf.2.2.2.2
  have hK := hKB.1
  have hl : lv_has ls 2 [(0, .ref m0), (1, .int v)] := hl
  have iN := iv_sN hI
  have iT := iv_tN hI
  have iD := iv_bD hI
  have iE := iv_bE hI
  have iW := iv_id hI
  rcases hbp : bP B with _ | d_800
  · refine lv_aload_n hx hb dX4_addTarget_0 rfl (lv_at hl 0 rfl) ?_
    refine lv_iload_n hx hb dX4_addTarget_1 rfl (lv_at hl 1 rfl) ?_
    refine lv_iconst (v := nI 0) hx hb dX4_addTarget_2 (by decide) ?_
    refine lv_sipush (v := nI 20000) hx hb dX4_addTarget_3 (by decide) ?_
    have hF := hF_of (wc := []) hD hS hA [] rfl
    refine go_ct hS hP hD [] [0, 1, 2, 3] hF rfl rfl (by decide) (by decide)
        (va_runS (As := [.int v, .int (nI 0), .int (nI 20000)]) (rest := [.ref m0]) cf (mX4_isIn l G v (nI 0) (nI 20000)  H.size) (va_cwS 3 hts (lw_S q1647 q1648 q58 q1649) rfl rfl rfl (by decide +kernel) ⟨Nat.le_of_ble_eq_true rfl, Nat.le_of_ble_eq_true rfl⟩) (preS_of hKB hE hS hF (va_P.sub hP [] rfl) ((va_D.sub hD [] (by decide) rfl).weaken (fun _ _ _ _ => trivial)) trivial) rfl rfl hl.1 rfl (lv_room (Nat.le_of_ble_eq_true rfl)) dX4_addTarget_6 ⟨show 0 + 0 ≤ 0 from by first | decide | omega, show 0 + 0 ≤ 0 from by first | decide | omega⟩)
        (fun u_ H locs hq hph (hP : va_P G.1 CL [(m0, .inr (6, [.ref sa, .ref oa, .ref pa, .ref la, .ref za, .ref na, .int (nI u), .int (nI t), .int gw, .int gd, .int gm, .int gr, .int gh, .int gv])), (sa, .inl (G.2 0, 830, .inl f)), (ta, .inl (G.2 0, 830, .inl h)), (za, .inl (G.2 0, 6, .inl zf))] H) (hD : va_D A [(m0, .inr (6, [.ref sa, .ref oa, .ref pa, .ref la, .ref za, .ref na, .int (nI u), .int (nI t), .int gw, .int gd, .int gm, .int gr, .int gh, .int gv])), (sa, .inl (G.2 0, 830, .inl f)), (ta, .inl (G.2 0, 830, .inl h)), (za, .inl (G.2 0, 6, .inl zf))]) hS hfz hfk => ?_)
    obtain ⟨b_801, rfl⟩ : ∃ z, z = u_ := ⟨_, rfl⟩
    have hP : va_P G.1 CL [(m0, .inr (6, [.ref sa, .ref oa, .ref pa, .ref la, .ref za, .ref na, .int (nI u), .int (nI t), .int gw, .int gd, .int gm, .int gr, .int gh, .int gv])), (sa, .inl (G.2 0, 830, .inl f)), (ta, .inl (G.2 0, 830, .inl h)), (za, .inl (G.2 0, 6, .inl zf))] H := hP
    have hD : va_D A [(m0, .inr (6, [.ref sa, .ref oa, .ref pa, .ref la, .ref za, .ref na, .int (nI u), .int (nI t), .int gw, .int gd, .int gm, .int gr, .int gh, .int gv])), (sa, .inl (G.2 0, 830, .inl f)), (ta, .inl (G.2 0, 830, .inl h)), (za, .inl (G.2 0, 6, .inl zf))] := hD
    have hq_802 : (b_801 = true ↔ (nI 0) ≤ v ∧ v ≤ (nI 20000)) := hq
    refine W.eq (g2 := F0 m 9 ls [.int (bI b_801), .ref m0]) rfl ?_
    cases b_801
    · refine lv_ton (n := 0) rfl ?_
      have hir_803 : inR v 0 20000 = none := inR_none (fun z => absurd (hq_802.mpr z) (by decide))
      refine n_if_ne (tgt := 16) hx hb (by omega) dX4_addTarget_9 (by decide) (fun c_804 => absurd c_804 (by omega)) (fun c_804 => ?_)
      refine lv_iconst (v := nI 1) hx hb dX4_addTarget_12 (by decide) ?_
      refine lv_goto (tgt := 17) hx hb dX4_addTarget_13 (by decide) ?_
      refine lv_iconst (v := nI 1) hx hb dX4_addTarget_17 (by decide) ?_
      have hF := hF_of (wc := [(m0, .inr (6, [.ref sa, .ref oa, .ref pa, .ref la, .ref za, .ref na, .int (nI u), .int (nI t), .int gw, .int gd, .int gm, .int gr, .int gh, .int gv]))]) hD hS hA [0] rfl
      refine go_ct hS hP hD [0] [1, 2, 3] hF rfl rfl (by decide) (by decide)
          (va_runV (As := [.int (nI 1), .int (nI 1)]) (rest := []) cf (mX4_isThrown_t l G m0 sa oa pa la za na (nI u) (nI t) gw gd gm gr gh gv 1  H.size) (cwV 2 hts (lw_V q1650 q1652 qs20 q58 q1653) rfl rfl rfl (by decide +kernel) ⟨Nat.le_of_ble_eq_true rfl, Nat.le_of_ble_eq_true rfl⟩) (preV_of hKB hE hS hF (va_recv hK hP (ci := 6) (q0 := 0) rfl rfl) (va_P.sub hP [0] rfl) ((va_D.sub hD [0] (by decide) rfl).weaken (fun _ _ _ _ => trivial)) trivial) rfl rfl hl.1 rfl (lv_room (Nat.le_of_ble_eq_true rfl)) dX4_addTarget_18 ⟨show 0 + 0 ≤ 0 from by first | decide | omega, show 0 + 0 ≤ 0 from by first | decide | omega⟩)
          (fun u_ H locs hq hph (hP : va_P G.1 CL [(sa, .inl (G.2 0, 830, .inl f)), (ta, .inl (G.2 0, 830, .inl h)), (za, .inl (G.2 0, 6, .inl zf)), (m0, .inr (6, [.ref sa, .ref oa, .ref pa, .ref la, .ref za, .ref na, .int (nI u), .int (nI t), .int gw, .int gd, .int gm, .int gr, .int (nI 1), .int gv]))] H) (hD : va_D A [(sa, .inl (G.2 0, 830, .inl f)), (ta, .inl (G.2 0, 830, .inl h)), (za, .inl (G.2 0, 6, .inl zf)), (m0, .inr (6, [.ref sa, .ref oa, .ref pa, .ref la, .ref za, .ref na, .int (nI u), .int (nI t), .int gw, .int gd, .int gm, .int gr, .int (nI 1), .int gv]))]) hS hfz hfk => ?_)
      refine W.eq (g2 := F0 m 21 ls [.int (nI 1)]) rfl ?_
      refine n_if_ne (tgt := 73) hx hb (by omega) dX4_addTarget_21 (by decide) (fun c_805 => ?_) (fun c_805 => absurd c_805 (by omega))
      refine lv_iconst (v := nI 0) hx hb dX4_addTarget_73 (by decide) ?_
      have hq9 : o_addTarget B v = (1, 0, B) := by unfold o_addTarget; rw [hir_803] <;> rfl
      have hP : va_P G.1 CL [(sa, .inl (G.2 0, 830, .inl f)), (ta, .inl (G.2 0, 830, .inl h)), (za, .inl (G.2 0, 6, .inl zf)), (m0, .inr (6, [.ref sa, .ref oa, .ref pa, .ref la, .ref za, .ref na, .int (nI u), .int (nI t), .int gw, .int gd, .int gm, .int gr, .int (nI ((o_addTarget B v).1)), .int gv]))] H := by rw [hq9]; exact hP
      have hD : va_D A [(sa, .inl (G.2 0, 830, .inl f)), (ta, .inl (G.2 0, 830, .inl h)), (za, .inl (G.2 0, 6, .inl zf)), (m0, .inr (6, [.ref sa, .ref oa, .ref pa, .ref la, .ref za, .ref na, .int (nI u), .int (nI t), .int gw, .int gd, .int gm, .int gr, .int (nI ((o_addTarget B v).1)), .int gv]))] := by rw [hq9]; exact hD
      have hP9 : va_P G.1 CL [(m0, .inr (6, [.ref sa, .ref oa, .ref pa, .ref la, .ref za, .ref na, .int (nI u), .int (nI t), .int gw, .int gd, .int gm, .int gr, .int (nI ((o_addTarget B v).1)), .int gv])), (sa, .inl (G.2 0, 830, .inl f)), (ta, .inl (G.2 0, 830, .inl h)), (za, .inl (G.2 0, 6, .inl zf))] H := hP.sub [3, 0, 1, 2] rfl
      have hD9 : va_D A [(m0, .inr (6, [.ref sa, .ref oa, .ref pa, .ref la, .ref za, .ref na, .int (nI u), .int (nI t), .int gw, .int gd, .int gm, .int gr, .int (nI ((o_addTarget B v).1)), .int gv])), (sa, .inl (G.2 0, 830, .inl f)), (ta, .inl (G.2 0, 830, .inl h)), (za, .inl (G.2 0, 6, .inl zf))] := hD.sub [3, 0, 1, 2] (by decide) rfl
      exact end_i hx hb hr hlk (rfl) (qc_of ⟨nI 0, f, t, u, h, zf⟩ (v := some (.int (nI 0))) (by rfl) (by rw [hq9]; exact ⟨fun _ => ⟨rfl, rfl, rfl, rfl⟩, fun z => absurd (show (1 : Nat) = 0 from z) (by decide)⟩) hP9 hD9 (trivial) hS) hS dX4_addTarget_74 (show 0 ≤ 0 from by first | exact Nat.le_refl _ | decide | omega) (show 0 ≤ 0 from by first | exact Nat.le_refl _ | decide | omega)
    · refine lv_ton (n := 1) rfl ?_
      have hin_806 : nI 0 ≤ v ∧ v ≤ nI 20000 := hq_802.mp rfl
      obtain ⟨d_807, hv_808, h_809, h_810⟩ := in_nat (lo := 0) (hi := 20000) (by omega) (by omega) hin_806.1 hin_806.2
      have hir_811 : inR v 0 20000 = some d_807 := inR_some hv_808 h_809 h_810 (by omega)
      have hl : lv_has ls 2 [(0, .ref m0), (1, .int (nI d_807))] := by
        have e9 : ((.int (nI d_807)) : Value) = .int v := by rw [hv_808]
        rw [e9]; exact hl
      refine n_if_ne (tgt := 16) hx hb (by omega) dX4_addTarget_9 (by decide) (fun c_812 => ?_) (fun c_812 => absurd c_812 (by omega))
      refine lv_iconst (v := nI 0) hx hb dX4_addTarget_16 (by decide) ?_
      refine lv_iconst (v := nI 1) hx hb dX4_addTarget_17 (by decide) ?_
      have hF := hF_of (wc := [(m0, .inr (6, [.ref sa, .ref oa, .ref pa, .ref la, .ref za, .ref na, .int (nI u), .int (nI t), .int gw, .int gd, .int gm, .int gr, .int gh, .int gv]))]) hD hS hA [0] rfl
      refine go_ct hS hP hD [0] [1, 2, 3] hF rfl rfl (by decide) (by decide)
          (va_runV (As := [.int (nI 0), .int (nI 1)]) (rest := []) cf (mX4_isThrown_f l G m0 sa oa pa la za na (nI u) (nI t) gw gd gm gr gh gv 1  H.size) (cwV 2 hts (lw_V q1650 q1652 qs20 q58 q1653) rfl rfl rfl (by decide +kernel) ⟨Nat.le_of_ble_eq_true rfl, Nat.le_of_ble_eq_true rfl⟩) (preV_of hKB hE hS hF (va_recv hK hP (ci := 6) (q0 := 0) rfl rfl) (va_P.sub hP [0] rfl) ((va_D.sub hD [0] (by decide) rfl).weaken (fun _ _ _ _ => trivial)) trivial) rfl rfl hl.1 rfl (lv_room (Nat.le_of_ble_eq_true rfl)) dX4_addTarget_18 ⟨show 0 + 0 ≤ 0 from by first | decide | omega, show 0 + 0 ≤ 0 from by first | decide | omega⟩)
          (fun u_ H locs hq hph (hP : va_P G.1 CL [(sa, .inl (G.2 0, 830, .inl f)), (ta, .inl (G.2 0, 830, .inl h)), (za, .inl (G.2 0, 6, .inl zf)), (m0, .inr (6, [.ref sa, .ref oa, .ref pa, .ref la, .ref za, .ref na, .int (nI u), .int (nI t), .int gw, .int gd, .int gm, .int gr, .int (nI 0), .int gv]))] H) (hD : va_D A [(sa, .inl (G.2 0, 830, .inl f)), (ta, .inl (G.2 0, 830, .inl h)), (za, .inl (G.2 0, 6, .inl zf)), (m0, .inr (6, [.ref sa, .ref oa, .ref pa, .ref la, .ref za, .ref na, .int (nI u), .int (nI t), .int gw, .int gd, .int gm, .int gr, .int (nI 0), .int gv]))]) hS hfz hfk => ?_)
      refine W.eq (g2 := F0 m 21 ls [.int (nI 0)]) rfl ?_
      refine n_if_ne (tgt := 73) hx hb (by omega) dX4_addTarget_21 (by decide) (fun c_813 => absurd c_813 (by omega)) (fun c_813 => ?_)
      have hpd := fun d9 (h9 : bP B = some d9) => iv_pl hI h9
      refine lv_aload_n hx hb dX4_addTarget_24 rfl (lv_at hl 0 rfl) ?_
      refine lv_aload_n hx hb dX4_addTarget_25 rfl (lv_at hl 0 rfl) ?_
      refine va_get hx hb hts in_X4 hown hK hP 3 rfl rfl 0 (by decide) (hts _ q1596) (fun _ h => h) rfl dX4_addTarget_26 ?_
      refine lv_iconst (v := nI 4) hx hb dX4_addTarget_29 (by decide) ?_
      refine r_iald (v := nI 0) hx hb hK hP 0 0 rfl rfl (i := 4) (by omega) (by omega) (hM.planned.trans (by rw [hbp])) dX4_addTarget_30 ?_
      refine n_if_eq (tgt := 61) hx hb (by omega) dX4_addTarget_31 (by decide) (fun c_814 => ?_) (fun c_814 => absurd c_814 (by omega))
      refine lv_iconst (v := nI 1) hx hb dX4_addTarget_61 (by decide) ?_
      refine lv_goto (tgt := 66) hx hb dX4_addTarget_62 (by decide) ?_
      refine lv_iconst (v := nI 2) hx hb dX4_addTarget_66 (by decide) ?_
      have hF := hF_of (wc := [(m0, .inr (6, [.ref sa, .ref oa, .ref pa, .ref la, .ref za, .ref na, .int (nI u), .int (nI t), .int gw, .int gd, .int gm, .int gr, .int (nI 0), .int gv]))]) hD hS hA [3] rfl
      refine go_ct hS hP hD [3] [0, 1, 2] hF rfl rfl (by decide) (by decide)
          (va_runV (As := [.int (nI 1), .int (nI 2)]) (rest := []) cf (mX4_isThrown_t l G m0 sa oa pa la za na (nI u) (nI t) gw gd gm gr (nI 0) gv 2  H.size) (cwV 2 hts (lw_V q1650 q1652 qs20 q58 q1653) rfl rfl rfl (by decide +kernel) ⟨Nat.le_of_ble_eq_true rfl, Nat.le_of_ble_eq_true rfl⟩) (preV_of hKB hE hS hF (va_recv hK hP (ci := 6) (q0 := 3) rfl rfl) (va_P.sub hP [3] rfl) ((va_D.sub hD [3] (by decide) rfl).weaken (fun _ _ _ _ => trivial)) trivial) rfl rfl hl.1 rfl (lv_room (Nat.le_of_ble_eq_true rfl)) dX4_addTarget_67 ⟨show 0 + 0 ≤ 0 from by first | decide | omega, show 0 + 0 ≤ 0 from by first | decide | omega⟩)
          (fun u_ H locs hq hph (hP : va_P G.1 CL [(sa, .inl (G.2 0, 830, .inl f)), (ta, .inl (G.2 0, 830, .inl h)), (za, .inl (G.2 0, 6, .inl zf)), (m0, .inr (6, [.ref sa, .ref oa, .ref pa, .ref la, .ref za, .ref na, .int (nI u), .int (nI t), .int gw, .int gd, .int gm, .int gr, .int (nI 2), .int gv]))] H) (hD : va_D A [(sa, .inl (G.2 0, 830, .inl f)), (ta, .inl (G.2 0, 830, .inl h)), (za, .inl (G.2 0, 6, .inl zf)), (m0, .inr (6, [.ref sa, .ref oa, .ref pa, .ref la, .ref za, .ref na, .int (nI u), .int (nI t), .int gw, .int gd, .int gm, .int gr, .int (nI 2), .int gv]))]) hS hfz hfk => ?_)
      refine W.eq (g2 := F0 m 70 ls [.int (nI 1)]) rfl ?_
      refine n_if_eq (tgt := 75) hx hb (by omega) dX4_addTarget_70 (by decide) (fun c_815 => absurd c_815 (by omega)) (fun c_815 => ?_)
      refine lv_iconst (v := nI 0) hx hb dX4_addTarget_73 (by decide) ?_
      have hq9 : o_addTarget B v = (2, 0, B) := by unfold o_addTarget; rw [hir_811] <;> first | rfl | rw [if_pos (Or.inl (by rw [hbp]; exact fun z => nomatch z))] | (rw [if_pos (Or.inl (by rw [hbp]; exact fun z => nomatch z))]; rfl) | (dsimp only; rw [if_pos (Or.inl (by rw [hbp]; exact fun z => nomatch z))]) | (dsimp only; rw [if_pos (Or.inl (by rw [hbp]; exact fun z => nomatch z))]; rfl)
      have hP : va_P G.1 CL [(sa, .inl (G.2 0, 830, .inl f)), (ta, .inl (G.2 0, 830, .inl h)), (za, .inl (G.2 0, 6, .inl zf)), (m0, .inr (6, [.ref sa, .ref oa, .ref pa, .ref la, .ref za, .ref na, .int (nI u), .int (nI t), .int gw, .int gd, .int gm, .int gr, .int (nI ((o_addTarget B v).1)), .int gv]))] H := by rw [hq9]; exact hP
      have hD : va_D A [(sa, .inl (G.2 0, 830, .inl f)), (ta, .inl (G.2 0, 830, .inl h)), (za, .inl (G.2 0, 6, .inl zf)), (m0, .inr (6, [.ref sa, .ref oa, .ref pa, .ref la, .ref za, .ref na, .int (nI u), .int (nI t), .int gw, .int gd, .int gm, .int gr, .int (nI ((o_addTarget B v).1)), .int gv]))] := by rw [hq9]; exact hD
      have hP9 : va_P G.1 CL [(m0, .inr (6, [.ref sa, .ref oa, .ref pa, .ref la, .ref za, .ref na, .int (nI u), .int (nI t), .int gw, .int gd, .int gm, .int gr, .int (nI ((o_addTarget B v).1)), .int gv])), (sa, .inl (G.2 0, 830, .inl f)), (ta, .inl (G.2 0, 830, .inl h)), (za, .inl (G.2 0, 6, .inl zf))] H := hP.sub [3, 0, 1, 2] rfl
      have hD9 : va_D A [(m0, .inr (6, [.ref sa, .ref oa, .ref pa, .ref la, .ref za, .ref na, .int (nI u), .int (nI t), .int gw, .int gd, .int gm, .int gr, .int (nI ((o_addTarget B v).1)), .int gv])), (sa, .inl (G.2 0, 830, .inl f)), (ta, .inl (G.2 0, 830, .inl h)), (za, .inl (G.2 0, 6, .inl zf))] := hD.sub [3, 0, 1, 2] (by decide) rfl
      exact end_i hx hb hr hlk (rfl) (qc_of ⟨nI 0, f, t, u, h, zf⟩ (v := some (.int (nI 0))) (by rfl) (by rw [hq9]; exact ⟨fun _ => ⟨rfl, rfl, rfl, rfl⟩, fun z => absurd (show (2 : Nat) = 0 from z) (by decide)⟩) hP9 hD9 (trivial) hS) hS dX4_addTarget_74 (show 0 ≤ 0 from by first | exact Nat.le_refl _ | decide | omega) (show 0 ≤ 0 from by first | exact Nat.le_refl _ | decide | omega)
  · refine lv_aload_n hx hb dX4_addTarget_0 rfl (lv_at hl 0 rfl) ?_
    refine lv_iload_n hx hb dX4_addTarget_1 rfl (lv_at hl 1 rfl) ?_
    refine lv_iconst (v := nI 0) hx hb dX4_addTarget_2 (by decide) ?_
    refine lv_sipush (v := nI 20000) hx hb dX4_addTarget_3 (by decide) ?_
    have hF := hF_of (wc := []) hD hS hA [] rfl
    refine go_ct hS hP hD [] [0, 1, 2, 3] hF rfl rfl (by decide) (by decide)
        (va_runS (As := [.int v, .int (nI 0), .int (nI 20000)]) (rest := [.ref m0]) cf (mX4_isIn l G v (nI 0) (nI 20000)  H.size) (va_cwS 3 hts (lw_S q1647 q1648 q58 q1649) rfl rfl rfl (by decide +kernel) ⟨Nat.le_of_ble_eq_true rfl, Nat.le_of_ble_eq_true rfl⟩) (preS_of hKB hE hS hF (va_P.sub hP [] rfl) ((va_D.sub hD [] (by decide) rfl).weaken (fun _ _ _ _ => trivial)) trivial) rfl rfl hl.1 rfl (lv_room (Nat.le_of_ble_eq_true rfl)) dX4_addTarget_6 ⟨show 0 + 0 ≤ 0 from by first | decide | omega, show 0 + 0 ≤ 0 from by first | decide | omega⟩)
        (fun u_ H locs hq hph (hP : va_P G.1 CL [(m0, .inr (6, [.ref sa, .ref oa, .ref pa, .ref la, .ref za, .ref na, .int (nI u), .int (nI t), .int gw, .int gd, .int gm, .int gr, .int gh, .int gv])), (sa, .inl (G.2 0, 830, .inl f)), (ta, .inl (G.2 0, 830, .inl h)), (za, .inl (G.2 0, 6, .inl zf))] H) (hD : va_D A [(m0, .inr (6, [.ref sa, .ref oa, .ref pa, .ref la, .ref za, .ref na, .int (nI u), .int (nI t), .int gw, .int gd, .int gm, .int gr, .int gh, .int gv])), (sa, .inl (G.2 0, 830, .inl f)), (ta, .inl (G.2 0, 830, .inl h)), (za, .inl (G.2 0, 6, .inl zf))]) hS hfz hfk => ?_)
    obtain ⟨b_816, rfl⟩ : ∃ z, z = u_ := ⟨_, rfl⟩
    have hP : va_P G.1 CL [(m0, .inr (6, [.ref sa, .ref oa, .ref pa, .ref la, .ref za, .ref na, .int (nI u), .int (nI t), .int gw, .int gd, .int gm, .int gr, .int gh, .int gv])), (sa, .inl (G.2 0, 830, .inl f)), (ta, .inl (G.2 0, 830, .inl h)), (za, .inl (G.2 0, 6, .inl zf))] H := hP
    have hD : va_D A [(m0, .inr (6, [.ref sa, .ref oa, .ref pa, .ref la, .ref za, .ref na, .int (nI u), .int (nI t), .int gw, .int gd, .int gm, .int gr, .int gh, .int gv])), (sa, .inl (G.2 0, 830, .inl f)), (ta, .inl (G.2 0, 830, .inl h)), (za, .inl (G.2 0, 6, .inl zf))] := hD
    have hq_817 : (b_816 = true ↔ (nI 0) ≤ v ∧ v ≤ (nI 20000)) := hq
    refine W.eq (g2 := F0 m 9 ls [.int (bI b_816), .ref m0]) rfl ?_
    cases b_816
    · refine lv_ton (n := 0) rfl ?_
      have hir_818 : inR v 0 20000 = none := inR_none (fun z => absurd (hq_817.mpr z) (by decide))
      refine n_if_ne (tgt := 16) hx hb (by omega) dX4_addTarget_9 (by decide) (fun c_819 => absurd c_819 (by omega)) (fun c_819 => ?_)
      refine lv_iconst (v := nI 1) hx hb dX4_addTarget_12 (by decide) ?_
      refine lv_goto (tgt := 17) hx hb dX4_addTarget_13 (by decide) ?_
      refine lv_iconst (v := nI 1) hx hb dX4_addTarget_17 (by decide) ?_
      have hF := hF_of (wc := [(m0, .inr (6, [.ref sa, .ref oa, .ref pa, .ref la, .ref za, .ref na, .int (nI u), .int (nI t), .int gw, .int gd, .int gm, .int gr, .int gh, .int gv]))]) hD hS hA [0] rfl
      refine go_ct hS hP hD [0] [1, 2, 3] hF rfl rfl (by decide) (by decide)
          (va_runV (As := [.int (nI 1), .int (nI 1)]) (rest := []) cf (mX4_isThrown_t l G m0 sa oa pa la za na (nI u) (nI t) gw gd gm gr gh gv 1  H.size) (cwV 2 hts (lw_V q1650 q1652 qs20 q58 q1653) rfl rfl rfl (by decide +kernel) ⟨Nat.le_of_ble_eq_true rfl, Nat.le_of_ble_eq_true rfl⟩) (preV_of hKB hE hS hF (va_recv hK hP (ci := 6) (q0 := 0) rfl rfl) (va_P.sub hP [0] rfl) ((va_D.sub hD [0] (by decide) rfl).weaken (fun _ _ _ _ => trivial)) trivial) rfl rfl hl.1 rfl (lv_room (Nat.le_of_ble_eq_true rfl)) dX4_addTarget_18 ⟨show 0 + 0 ≤ 0 from by first | decide | omega, show 0 + 0 ≤ 0 from by first | decide | omega⟩)
          (fun u_ H locs hq hph (hP : va_P G.1 CL [(sa, .inl (G.2 0, 830, .inl f)), (ta, .inl (G.2 0, 830, .inl h)), (za, .inl (G.2 0, 6, .inl zf)), (m0, .inr (6, [.ref sa, .ref oa, .ref pa, .ref la, .ref za, .ref na, .int (nI u), .int (nI t), .int gw, .int gd, .int gm, .int gr, .int (nI 1), .int gv]))] H) (hD : va_D A [(sa, .inl (G.2 0, 830, .inl f)), (ta, .inl (G.2 0, 830, .inl h)), (za, .inl (G.2 0, 6, .inl zf)), (m0, .inr (6, [.ref sa, .ref oa, .ref pa, .ref la, .ref za, .ref na, .int (nI u), .int (nI t), .int gw, .int gd, .int gm, .int gr, .int (nI 1), .int gv]))]) hS hfz hfk => ?_)
      refine W.eq (g2 := F0 m 21 ls [.int (nI 1)]) rfl ?_
      refine n_if_ne (tgt := 73) hx hb (by omega) dX4_addTarget_21 (by decide) (fun c_820 => ?_) (fun c_820 => absurd c_820 (by omega))
      refine lv_iconst (v := nI 0) hx hb dX4_addTarget_73 (by decide) ?_
      have hq9 : o_addTarget B v = (1, 0, B) := by unfold o_addTarget; rw [hir_818] <;> rfl
      have hP : va_P G.1 CL [(sa, .inl (G.2 0, 830, .inl f)), (ta, .inl (G.2 0, 830, .inl h)), (za, .inl (G.2 0, 6, .inl zf)), (m0, .inr (6, [.ref sa, .ref oa, .ref pa, .ref la, .ref za, .ref na, .int (nI u), .int (nI t), .int gw, .int gd, .int gm, .int gr, .int (nI ((o_addTarget B v).1)), .int gv]))] H := by rw [hq9]; exact hP
      have hD : va_D A [(sa, .inl (G.2 0, 830, .inl f)), (ta, .inl (G.2 0, 830, .inl h)), (za, .inl (G.2 0, 6, .inl zf)), (m0, .inr (6, [.ref sa, .ref oa, .ref pa, .ref la, .ref za, .ref na, .int (nI u), .int (nI t), .int gw, .int gd, .int gm, .int gr, .int (nI ((o_addTarget B v).1)), .int gv]))] := by rw [hq9]; exact hD
      have hP9 : va_P G.1 CL [(m0, .inr (6, [.ref sa, .ref oa, .ref pa, .ref la, .ref za, .ref na, .int (nI u), .int (nI t), .int gw, .int gd, .int gm, .int gr, .int (nI ((o_addTarget B v).1)), .int gv])), (sa, .inl (G.2 0, 830, .inl f)), (ta, .inl (G.2 0, 830, .inl h)), (za, .inl (G.2 0, 6, .inl zf))] H := hP.sub [3, 0, 1, 2] rfl
      have hD9 : va_D A [(m0, .inr (6, [.ref sa, .ref oa, .ref pa, .ref la, .ref za, .ref na, .int (nI u), .int (nI t), .int gw, .int gd, .int gm, .int gr, .int (nI ((o_addTarget B v).1)), .int gv])), (sa, .inl (G.2 0, 830, .inl f)), (ta, .inl (G.2 0, 830, .inl h)), (za, .inl (G.2 0, 6, .inl zf))] := hD.sub [3, 0, 1, 2] (by decide) rfl
      exact end_i hx hb hr hlk (rfl) (qc_of ⟨nI 0, f, t, u, h, zf⟩ (v := some (.int (nI 0))) (by rfl) (by rw [hq9]; exact ⟨fun _ => ⟨rfl, rfl, rfl, rfl⟩, fun z => absurd (show (1 : Nat) = 0 from z) (by decide)⟩) hP9 hD9 (trivial) hS) hS dX4_addTarget_74 (show 0 ≤ 0 from by first | exact Nat.le_refl _ | decide | omega) (show 0 ≤ 0 from by first | exact Nat.le_refl _ | decide | omega)
    · refine lv_ton (n := 1) rfl ?_
      have hin_821 : nI 0 ≤ v ∧ v ≤ nI 20000 := hq_817.mp rfl
      obtain ⟨d_822, hv_823, h_824, h_825⟩ := in_nat (lo := 0) (hi := 20000) (by omega) (by omega) hin_821.1 hin_821.2
      have hir_826 : inR v 0 20000 = some d_822 := inR_some hv_823 h_824 h_825 (by omega)
      have hl : lv_has ls 2 [(0, .ref m0), (1, .int (nI d_822))] := by
        have e9 : ((.int (nI d_822)) : Value) = .int v := by rw [hv_823]
        rw [e9]; exact hl
      refine n_if_ne (tgt := 16) hx hb (by omega) dX4_addTarget_9 (by decide) (fun c_827 => ?_) (fun c_827 => absurd c_827 (by omega))
      refine lv_iconst (v := nI 0) hx hb dX4_addTarget_16 (by decide) ?_
      refine lv_iconst (v := nI 1) hx hb dX4_addTarget_17 (by decide) ?_
      have hF := hF_of (wc := [(m0, .inr (6, [.ref sa, .ref oa, .ref pa, .ref la, .ref za, .ref na, .int (nI u), .int (nI t), .int gw, .int gd, .int gm, .int gr, .int gh, .int gv]))]) hD hS hA [0] rfl
      refine go_ct hS hP hD [0] [1, 2, 3] hF rfl rfl (by decide) (by decide)
          (va_runV (As := [.int (nI 0), .int (nI 1)]) (rest := []) cf (mX4_isThrown_f l G m0 sa oa pa la za na (nI u) (nI t) gw gd gm gr gh gv 1  H.size) (cwV 2 hts (lw_V q1650 q1652 qs20 q58 q1653) rfl rfl rfl (by decide +kernel) ⟨Nat.le_of_ble_eq_true rfl, Nat.le_of_ble_eq_true rfl⟩) (preV_of hKB hE hS hF (va_recv hK hP (ci := 6) (q0 := 0) rfl rfl) (va_P.sub hP [0] rfl) ((va_D.sub hD [0] (by decide) rfl).weaken (fun _ _ _ _ => trivial)) trivial) rfl rfl hl.1 rfl (lv_room (Nat.le_of_ble_eq_true rfl)) dX4_addTarget_18 ⟨show 0 + 0 ≤ 0 from by first | decide | omega, show 0 + 0 ≤ 0 from by first | decide | omega⟩)
          (fun u_ H locs hq hph (hP : va_P G.1 CL [(sa, .inl (G.2 0, 830, .inl f)), (ta, .inl (G.2 0, 830, .inl h)), (za, .inl (G.2 0, 6, .inl zf)), (m0, .inr (6, [.ref sa, .ref oa, .ref pa, .ref la, .ref za, .ref na, .int (nI u), .int (nI t), .int gw, .int gd, .int gm, .int gr, .int (nI 0), .int gv]))] H) (hD : va_D A [(sa, .inl (G.2 0, 830, .inl f)), (ta, .inl (G.2 0, 830, .inl h)), (za, .inl (G.2 0, 6, .inl zf)), (m0, .inr (6, [.ref sa, .ref oa, .ref pa, .ref la, .ref za, .ref na, .int (nI u), .int (nI t), .int gw, .int gd, .int gm, .int gr, .int (nI 0), .int gv]))]) hS hfz hfk => ?_)
      refine W.eq (g2 := F0 m 21 ls [.int (nI 0)]) rfl ?_
      refine n_if_ne (tgt := 73) hx hb (by omega) dX4_addTarget_21 (by decide) (fun c_828 => absurd c_828 (by omega)) (fun c_828 => ?_)
      have hpd := fun d9 (h9 : bP B = some d9) => iv_pl hI h9
      have hpd2 := hpd _ hbp
      refine lv_aload_n hx hb dX4_addTarget_24 rfl (lv_at hl 0 rfl) ?_
      refine lv_aload_n hx hb dX4_addTarget_25 rfl (lv_at hl 0 rfl) ?_
      refine va_get hx hb hts in_X4 hown hK hP 3 rfl rfl 0 (by decide) (hts _ q1596) (fun _ h => h) rfl dX4_addTarget_26 ?_
      refine lv_iconst (v := nI 4) hx hb dX4_addTarget_29 (by decide) ?_
      refine r_iald (v := nI 1) hx hb hK hP 0 0 rfl rfl (i := 4) (by omega) (by omega) (hM.planned.trans (by rw [hbp])) dX4_addTarget_30 ?_
      refine n_if_eq (tgt := 61) hx hb (by omega) dX4_addTarget_31 (by decide) (fun c_829 => absurd c_829 (by omega)) (fun c_829 => ?_)
      refine lv_aload_n hx hb dX4_addTarget_34 rfl (lv_at hl 0 rfl) ?_
      refine va_get hx hb hts in_X4 hown hK hP 3 rfl rfl 0 (by decide) (hts _ q1596) (fun _ h => h) rfl dX4_addTarget_35 ?_
      refine lv_iconst (v := nI 5) hx hb dX4_addTarget_38 (by decide) ?_
      refine r_iald (v := nI d_800) hx hb hK hP 0 0 rfl rfl (i := 5) (by omega) (by omega) (hM.begun hbp) dX4_addTarget_39 ?_
      refine lv_aload_n hx hb dX4_addTarget_40 rfl (lv_at hl 0 rfl) ?_
      refine va_get hx hb hts in_X4 hown hK hP 3 rfl rfl 0 (by decide) (hts _ q1596) (fun _ h => h) rfl dX4_addTarget_41 ?_
      refine lv_iconst (v := nI 0) hx hb dX4_addTarget_44 (by decide) ?_
      refine r_iald (v := nI (bD B)) hx hb hK hP 0 0 rfl rfl (i := 0) (by omega) (by omega) (hM.today) dX4_addTarget_45 ?_
      refine n_icmp_ne (tgt := 61) hx hb (by omega) (by omega) dX4_addTarget_46 (by decide) (fun c_830 => ?_) (fun c_830 => ?_)
      · refine lv_iconst (v := nI 1) hx hb dX4_addTarget_61 (by decide) ?_
        refine lv_goto (tgt := 66) hx hb dX4_addTarget_62 (by decide) ?_
        refine lv_iconst (v := nI 2) hx hb dX4_addTarget_66 (by decide) ?_
        have hF := hF_of (wc := [(m0, .inr (6, [.ref sa, .ref oa, .ref pa, .ref la, .ref za, .ref na, .int (nI u), .int (nI t), .int gw, .int gd, .int gm, .int gr, .int (nI 0), .int gv]))]) hD hS hA [3] rfl
        refine go_ct hS hP hD [3] [0, 1, 2] hF rfl rfl (by decide) (by decide)
            (va_runV (As := [.int (nI 1), .int (nI 2)]) (rest := []) cf (mX4_isThrown_t l G m0 sa oa pa la za na (nI u) (nI t) gw gd gm gr (nI 0) gv 2  H.size) (cwV 2 hts (lw_V q1650 q1652 qs20 q58 q1653) rfl rfl rfl (by decide +kernel) ⟨Nat.le_of_ble_eq_true rfl, Nat.le_of_ble_eq_true rfl⟩) (preV_of hKB hE hS hF (va_recv hK hP (ci := 6) (q0 := 3) rfl rfl) (va_P.sub hP [3] rfl) ((va_D.sub hD [3] (by decide) rfl).weaken (fun _ _ _ _ => trivial)) trivial) rfl rfl hl.1 rfl (lv_room (Nat.le_of_ble_eq_true rfl)) dX4_addTarget_67 ⟨show 0 + 0 ≤ 0 from by first | decide | omega, show 0 + 0 ≤ 0 from by first | decide | omega⟩)
            (fun u_ H locs hq hph (hP : va_P G.1 CL [(sa, .inl (G.2 0, 830, .inl f)), (ta, .inl (G.2 0, 830, .inl h)), (za, .inl (G.2 0, 6, .inl zf)), (m0, .inr (6, [.ref sa, .ref oa, .ref pa, .ref la, .ref za, .ref na, .int (nI u), .int (nI t), .int gw, .int gd, .int gm, .int gr, .int (nI 2), .int gv]))] H) (hD : va_D A [(sa, .inl (G.2 0, 830, .inl f)), (ta, .inl (G.2 0, 830, .inl h)), (za, .inl (G.2 0, 6, .inl zf)), (m0, .inr (6, [.ref sa, .ref oa, .ref pa, .ref la, .ref za, .ref na, .int (nI u), .int (nI t), .int gw, .int gd, .int gm, .int gr, .int (nI 2), .int gv]))]) hS hfz hfk => ?_)
        refine W.eq (g2 := F0 m 70 ls [.int (nI 1)]) rfl ?_
        refine n_if_eq (tgt := 75) hx hb (by omega) dX4_addTarget_70 (by decide) (fun c_831 => absurd c_831 (by omega)) (fun c_831 => ?_)
        refine lv_iconst (v := nI 0) hx hb dX4_addTarget_73 (by decide) ?_
        have hq9 : o_addTarget B v = (2, 0, B) := by unfold o_addTarget; rw [hir_826] <;> first | rfl | rw [if_pos (by first | exact Or.inr (by omega) | exact Or.inl (by rw [hbp]; intro z; have := Option.some.inj z; omega))] | (rw [if_pos (by first | exact Or.inr (by omega) | exact Or.inl (by rw [hbp]; intro z; have := Option.some.inj z; omega))]; rfl) | (dsimp only; rw [if_pos (by first | exact Or.inr (by omega) | exact Or.inl (by rw [hbp]; intro z; have := Option.some.inj z; omega))]) | (dsimp only; rw [if_pos (by first | exact Or.inr (by omega) | exact Or.inl (by rw [hbp]; intro z; have := Option.some.inj z; omega))]; rfl)
        have hP : va_P G.1 CL [(sa, .inl (G.2 0, 830, .inl f)), (ta, .inl (G.2 0, 830, .inl h)), (za, .inl (G.2 0, 6, .inl zf)), (m0, .inr (6, [.ref sa, .ref oa, .ref pa, .ref la, .ref za, .ref na, .int (nI u), .int (nI t), .int gw, .int gd, .int gm, .int gr, .int (nI ((o_addTarget B v).1)), .int gv]))] H := by rw [hq9]; exact hP
        have hD : va_D A [(sa, .inl (G.2 0, 830, .inl f)), (ta, .inl (G.2 0, 830, .inl h)), (za, .inl (G.2 0, 6, .inl zf)), (m0, .inr (6, [.ref sa, .ref oa, .ref pa, .ref la, .ref za, .ref na, .int (nI u), .int (nI t), .int gw, .int gd, .int gm, .int gr, .int (nI ((o_addTarget B v).1)), .int gv]))] := by rw [hq9]; exact hD
        have hP9 : va_P G.1 CL [(m0, .inr (6, [.ref sa, .ref oa, .ref pa, .ref la, .ref za, .ref na, .int (nI u), .int (nI t), .int gw, .int gd, .int gm, .int gr, .int (nI ((o_addTarget B v).1)), .int gv])), (sa, .inl (G.2 0, 830, .inl f)), (ta, .inl (G.2 0, 830, .inl h)), (za, .inl (G.2 0, 6, .inl zf))] H := hP.sub [3, 0, 1, 2] rfl
        have hD9 : va_D A [(m0, .inr (6, [.ref sa, .ref oa, .ref pa, .ref la, .ref za, .ref na, .int (nI u), .int (nI t), .int gw, .int gd, .int gm, .int gr, .int (nI ((o_addTarget B v).1)), .int gv])), (sa, .inl (G.2 0, 830, .inl f)), (ta, .inl (G.2 0, 830, .inl h)), (za, .inl (G.2 0, 6, .inl zf))] := hD.sub [3, 0, 1, 2] (by decide) rfl
        exact end_i hx hb hr hlk (rfl) (qc_of ⟨nI 0, f, t, u, h, zf⟩ (v := some (.int (nI 0))) (by rfl) (by rw [hq9]; exact ⟨fun _ => ⟨rfl, rfl, rfl, rfl⟩, fun z => absurd (show (2 : Nat) = 0 from z) (by decide)⟩) hP9 hD9 (trivial) hS) hS dX4_addTarget_74 (show 0 ≤ 0 from by first | exact Nat.le_refl _ | decide | omega) (show 0 ≤ 0 from by first | exact Nat.le_refl _ | decide | omega)
      · refine lv_aload_n hx hb dX4_addTarget_49 rfl (lv_at hl 0 rfl) ?_
        refine va_get hx hb hts in_X4 hown hK hP 3 rfl rfl 0 (by decide) (hts _ q1596) (fun _ h => h) rfl dX4_addTarget_50 ?_
        refine lv_bipush (v := nI 6) hx hb dX4_addTarget_53 (by decide) ?_
        refine r_iald (v := nI (bE B)) hx hb hK hP 0 0 rfl rfl (i := 6) (by omega) (by omega) (hM.ents) dX4_addTarget_55 ?_
        refine lv_bipush (v := nI 28) hx hb dX4_addTarget_56 (by decide) ?_
        refine n_icmp_ne (tgt := 65) hx hb (by omega) (by omega) dX4_addTarget_58 (by decide) (fun c_832 => ?_) (fun c_832 => ?_)
        · refine lv_iconst (v := nI 0) hx hb dX4_addTarget_65 (by decide) ?_
          refine lv_iconst (v := nI 2) hx hb dX4_addTarget_66 (by decide) ?_
          have hF := hF_of (wc := [(m0, .inr (6, [.ref sa, .ref oa, .ref pa, .ref la, .ref za, .ref na, .int (nI u), .int (nI t), .int gw, .int gd, .int gm, .int gr, .int (nI 0), .int gv]))]) hD hS hA [3] rfl
          refine go_ct hS hP hD [3] [0, 1, 2] hF rfl rfl (by decide) (by decide)
              (va_runV (As := [.int (nI 0), .int (nI 2)]) (rest := []) cf (mX4_isThrown_f l G m0 sa oa pa la za na (nI u) (nI t) gw gd gm gr (nI 0) gv 2  H.size) (cwV 2 hts (lw_V q1650 q1652 qs20 q58 q1653) rfl rfl rfl (by decide +kernel) ⟨Nat.le_of_ble_eq_true rfl, Nat.le_of_ble_eq_true rfl⟩) (preV_of hKB hE hS hF (va_recv hK hP (ci := 6) (q0 := 3) rfl rfl) (va_P.sub hP [3] rfl) ((va_D.sub hD [3] (by decide) rfl).weaken (fun _ _ _ _ => trivial)) trivial) rfl rfl hl.1 rfl (lv_room (Nat.le_of_ble_eq_true rfl)) dX4_addTarget_67 ⟨show 0 + 0 ≤ 0 from by first | decide | omega, show 0 + 0 ≤ 0 from by first | decide | omega⟩)
              (fun u_ H locs hq hph (hP : va_P G.1 CL [(sa, .inl (G.2 0, 830, .inl f)), (ta, .inl (G.2 0, 830, .inl h)), (za, .inl (G.2 0, 6, .inl zf)), (m0, .inr (6, [.ref sa, .ref oa, .ref pa, .ref la, .ref za, .ref na, .int (nI u), .int (nI t), .int gw, .int gd, .int gm, .int gr, .int (nI 0), .int gv]))] H) (hD : va_D A [(sa, .inl (G.2 0, 830, .inl f)), (ta, .inl (G.2 0, 830, .inl h)), (za, .inl (G.2 0, 6, .inl zf)), (m0, .inr (6, [.ref sa, .ref oa, .ref pa, .ref la, .ref za, .ref na, .int (nI u), .int (nI t), .int gw, .int gd, .int gm, .int gr, .int (nI 0), .int gv]))]) hS hfz hfk => ?_)
          refine W.eq (g2 := F0 m 70 ls [.int (nI 0)]) rfl ?_
          refine n_if_eq (tgt := 75) hx hb (by omega) dX4_addTarget_70 (by decide) (fun c_833 => ?_) (fun c_833 => absurd c_833 (by omega))
          refine lv_aload_n hx hb dX4_addTarget_75 rfl (lv_at hl 0 rfl) ?_
          have hF := hF_of (wc := [(m0, .inr (6, [.ref sa, .ref oa, .ref pa, .ref la, .ref za, .ref na, .int (nI u), .int (nI t), .int gw, .int gd, .int gm, .int gr, .int (nI 0), .int gv])), (ta, .inl (G.2 0, 830, .inl h))]) hD hS hA [3, 1] rfl
          have hro_834 : roW G (va_A [(m0, .inr (6, [.ref sa, .ref oa, .ref pa, .ref la, .ref za, .ref na, .int (nI u), .int (nI t), .int gw, .int gd, .int gm, .int gr, .int (nI 0), .int gv])), (ta, .inl (G.2 0, 830, .inl h))] H.size) H [(oa, .inl (G.2 7, 6, .inr (.inr (.inr (.inr og))))), (sa, .inl (G.2 0, 830, .inl f))] := (((hR0.kp hF hS.2.1).sub (ws' := [(oa, .inl (G.2 7, 6, .inr (.inr (.inr (.inr og)))))]) [0] rfl).app (roW.of (w' := [(sa, .inl (G.2 0, 830, .inl f))]) hP hD [3, 1] [0] rfl rfl (by decide)))
          refine go_ct hS hP hD [3, 1] [0, 2] hF rfl rfl (by decide) (by decide)
              (va_runV (As := []) (rest := []) cf (mX4_keeps l G m0 sa oa pa la za na gw gd gm gr (nI 0) gv f t u ta h og (show t < 6 from by first | assumption | omega) (show u ≤ 6 from by first | assumption | omega) (show og ((t + 1) % 6) = some ta from by first | assumption | omega) H.size) (cwV 0 hts (lw_V q1654 q1656 qs21 q58 q1657) rfl rfl rfl (by decide +kernel) ⟨Nat.le_of_ble_eq_true rfl, Nat.le_of_ble_eq_true rfl⟩) (preV_of hKB hE hS hF (va_recv hK hP (ci := 6) (q0 := 3) rfl rfl) (va_P.sub hP [3, 1] rfl) ((va_D.sub hD [3, 1] (by decide) rfl).weaken (fun _ _ _ _ => trivial)) hro_834) rfl rfl hl.1 rfl (lv_room (Nat.le_of_ble_eq_true rfl)) dX4_addTarget_76 ⟨show 0 + 0 ≤ 0 from by first | decide | omega, show 0 + 0 ≤ 0 from by first | decide | omega⟩)
              (fun u_ H locs hq hph (hP : va_P G.1 CL [(sa, .inl (G.2 0, 830, .inl f)), (za, .inl (G.2 0, 6, .inl zf)), (m0, .inr (6, [.ref sa, .ref oa, .ref pa, .ref la, .ref za, .ref na, .int (nI (min 6 (u + 1))), .int (nI ((t + 1) % 6)), .int gw, .int gd, .int gm, .int gr, .int (nI 0), .int gv])), (ta, .inl (G.2 0, 830, .inl f))] H) (hD : va_D A [(sa, .inl (G.2 0, 830, .inl f)), (za, .inl (G.2 0, 6, .inl zf)), (m0, .inr (6, [.ref sa, .ref oa, .ref pa, .ref la, .ref za, .ref na, .int (nI (min 6 (u + 1))), .int (nI ((t + 1) % 6)), .int gw, .int gd, .int gm, .int gr, .int (nI 0), .int gv])), (ta, .inl (G.2 0, 830, .inl f))]) hS hfz hfk => ?_)
          refine W.eq (g2 := F0 m 79 ls []) rfl ?_
          refine lv_aload_n hx hb dX4_addTarget_79 rfl (lv_at hl 0 rfl) ?_
          refine va_get hx hb hts in_X4 hown hK hP 2 rfl rfl 0 (by decide) (hts _ q1596) (fun _ h => h) rfl dX4_addTarget_80 ?_
          refine lv_bipush (v := nI 40) hx hb dX4_addTarget_83 (by decide) ?_
          refine lv_aload_n hx hb dX4_addTarget_85 rfl (lv_at hl 0 rfl) ?_
          refine va_get hx hb hts in_X4 hown hK hP 2 rfl rfl 0 (by decide) (hts _ q1596) (fun _ h => h) rfl dX4_addTarget_86 ?_
          refine lv_bipush (v := nI 6) hx hb dX4_addTarget_89 (by decide) ?_
          refine r_iald (v := nI (bE B)) hx hb hK hP 0 0 rfl rfl (i := 6) (by omega) (by omega) (hM.ents) dX4_addTarget_91 ?_
          refine lv_iadd hx hb dX4_addTarget_92 ?_
          refine lv_ton (n := (bE B) + 40) (nadd (by omega)) ?_
          refine lv_iload_n hx hb dX4_addTarget_93 rfl (lv_at hl 1 rfl) ?_
          refine r_iast hx hb hK hP hD hS 0 0 rfl rfl (i := (bE B) + 40) (by omega) (by omega) dX4_addTarget_94 (fun H locs (hP : va_P G.1 CL [(sa, .inl (G.2 0, 830, .inl (upd f ((bE B) + 40) (nI d_822)))), (za, .inl (G.2 0, 6, .inl zf)), (m0, .inr (6, [.ref sa, .ref oa, .ref pa, .ref la, .ref za, .ref na, .int (nI (min 6 (u + 1))), .int (nI ((t + 1) % 6)), .int gw, .int gd, .int gm, .int gr, .int (nI 0), .int gv])), (ta, .inl (G.2 0, 830, .inl f))] H) (hD : va_D A [(sa, .inl (G.2 0, 830, .inl (upd f ((bE B) + 40) (nI d_822)))), (za, .inl (G.2 0, 6, .inl zf)), (m0, .inr (6, [.ref sa, .ref oa, .ref pa, .ref la, .ref za, .ref na, .int (nI (min 6 (u + 1))), .int (nI ((t + 1) % 6)), .int gw, .int gd, .int gm, .int gr, .int (nI 0), .int gv])), (ta, .inl (G.2 0, 830, .inl f))]) hS => ?_)
          refine lv_aload_n hx hb dX4_addTarget_95 rfl (lv_at hl 0 rfl) ?_
          refine va_get hx hb hts in_X4 hown hK hP 2 rfl rfl 0 (by decide) (hts _ q1596) (fun _ h => h) rfl dX4_addTarget_96 ?_
          refine lv_bipush (v := nI 6) hx hb dX4_addTarget_99 (by decide) ?_
          refine lv_dup2_11 hx hb dX4_addTarget_101 rfl rfl ?_
          refine r_iald (v := nI (bE B)) hx hb hK hP 0 0 rfl rfl (i := 6) (by omega) (by omega) ((pk_un (by omega)).trans (hM.ents)) dX4_addTarget_102 ?_
          refine lv_iconst (v := nI 1) hx hb dX4_addTarget_103 (by decide) ?_
          refine lv_iadd hx hb dX4_addTarget_104 ?_
          refine lv_ton (n := (bE B) + 1) (nadd (by omega)) ?_
          refine r_iast hx hb hK hP hD hS 0 0 rfl rfl (i := 6) (by omega) (by omega) dX4_addTarget_105 (fun H locs (hP : va_P G.1 CL [(sa, .inl (G.2 0, 830, .inl (upd (upd f ((bE B) + 40) (nI d_822)) 6 (nI ((bE B) + 1))))), (za, .inl (G.2 0, 6, .inl zf)), (m0, .inr (6, [.ref sa, .ref oa, .ref pa, .ref la, .ref za, .ref na, .int (nI (min 6 (u + 1))), .int (nI ((t + 1) % 6)), .int gw, .int gd, .int gm, .int gr, .int (nI 0), .int gv])), (ta, .inl (G.2 0, 830, .inl f))] H) (hD : va_D A [(sa, .inl (G.2 0, 830, .inl (upd (upd f ((bE B) + 40) (nI d_822)) 6 (nI ((bE B) + 1))))), (za, .inl (G.2 0, 6, .inl zf)), (m0, .inr (6, [.ref sa, .ref oa, .ref pa, .ref la, .ref za, .ref na, .int (nI (min 6 (u + 1))), .int (nI ((t + 1) % 6)), .int gw, .int gd, .int gm, .int gr, .int (nI 0), .int gv])), (ta, .inl (G.2 0, 830, .inl f))]) hS => ?_)
          refine lv_aload_n hx hb dX4_addTarget_106 rfl (lv_at hl 0 rfl) ?_
          refine va_get hx hb hts in_X4 hown hK hP 2 rfl rfl 0 (by decide) (hts _ q1596) (fun _ h => h) rfl dX4_addTarget_107 ?_
          refine lv_bipush (v := nI 6) hx hb dX4_addTarget_110 (by decide) ?_
          refine r_iald (v := nI ((bE B) + 1)) hx hb hK hP 0 0 rfl rfl (i := 6) (by omega) (by omega) (pk_us) dX4_addTarget_112 ?_
          have hq9 : o_addTarget B v = (0, nI ((bE B) + 1), wE (wG B (updN (bG B) (bE B) d_822)) (bE B + 1)) := by unfold o_addTarget; rw [hir_826] <;> first | rfl | rw [if_neg (fun z => z.elim (fun w => w (by rw [hbp]; exact congrArg some (by omega))) (fun w => absurd w (by omega)))] | (rw [if_neg (fun z => z.elim (fun w => w (by rw [hbp]; exact congrArg some (by omega))) (fun w => absurd w (by omega)))]; rfl) | (dsimp only; rw [if_neg (fun z => z.elim (fun w => w (by rw [hbp]; exact congrArg some (by omega))) (fun w => absurd w (by omega)))]) | (dsimp only; rw [if_neg (fun z => z.elim (fun w => w (by rw [hbp]; exact congrArg some (by omega))) (fun w => absurd w (by omega)))]; rfl)
          have hP : va_P G.1 CL [(sa, .inl (G.2 0, 830, .inl (upd (upd f ((bE B) + 40) (nI d_822)) 6 (nI ((bE B) + 1))))), (za, .inl (G.2 0, 6, .inl zf)), (m0, .inr (6, [.ref sa, .ref oa, .ref pa, .ref la, .ref za, .ref na, .int (nI (min 6 (u + 1))), .int (nI ((t + 1) % 6)), .int gw, .int gd, .int gm, .int gr, .int (nI ((o_addTarget B v).1)), .int gv])), (ta, .inl (G.2 0, 830, .inl f))] H := by rw [hq9]; exact hP
          have hD : va_D A [(sa, .inl (G.2 0, 830, .inl (upd (upd f ((bE B) + 40) (nI d_822)) 6 (nI ((bE B) + 1))))), (za, .inl (G.2 0, 6, .inl zf)), (m0, .inr (6, [.ref sa, .ref oa, .ref pa, .ref la, .ref za, .ref na, .int (nI (min 6 (u + 1))), .int (nI ((t + 1) % 6)), .int gw, .int gd, .int gm, .int gr, .int (nI ((o_addTarget B v).1)), .int gv])), (ta, .inl (G.2 0, 830, .inl f))] := by rw [hq9]; exact hD
          have hP9 : va_P G.1 CL [(m0, .inr (6, [.ref sa, .ref oa, .ref pa, .ref la, .ref za, .ref na, .int (nI (min 6 (u + 1))), .int (nI ((t + 1) % 6)), .int gw, .int gd, .int gm, .int gr, .int (nI ((o_addTarget B v).1)), .int gv])), (sa, .inl (G.2 0, 830, .inl (upd (upd f ((bE B) + 40) (nI d_822)) 6 (nI ((bE B) + 1))))), (ta, .inl (G.2 0, 830, .inl f)), (za, .inl (G.2 0, 6, .inl zf))] H := hP.sub [2, 0, 3, 1] rfl
          have hD9 : va_D A [(m0, .inr (6, [.ref sa, .ref oa, .ref pa, .ref la, .ref za, .ref na, .int (nI (min 6 (u + 1))), .int (nI ((t + 1) % 6)), .int gw, .int gd, .int gm, .int gr, .int (nI ((o_addTarget B v).1)), .int gv])), (sa, .inl (G.2 0, 830, .inl (upd (upd f ((bE B) + 40) (nI d_822)) 6 (nI ((bE B) + 1))))), (ta, .inl (G.2 0, 830, .inl f)), (za, .inl (G.2 0, 6, .inl zf))] := hD.sub [2, 0, 3, 1] (by decide) rfl
          exact end_i hx hb hr hlk (rfl) (qc_of ⟨nI ((bE B) + 1), upd (upd f ((bE B) + 40) (nI d_822)) 6 (nI ((bE B) + 1)), ((t + 1) % 6), (min 6 (u + 1)), f, zf⟩ (v := some (.int (nI ((bE B) + 1)))) (by rfl) (by rw [hq9]; exact ⟨fun z => absurd rfl z, fun _ => ⟨rfl, MR_addTarget hI hM (by omega), rfl, rfl, rfl⟩⟩) hP9 hD9 (trivial) hS) hS dX4_addTarget_113 (show 0 ≤ 0 from by first | exact Nat.le_refl _ | decide | omega) (show 0 ≤ 0 from by first | exact Nat.le_refl _ | decide | omega)
        · refine lv_iconst (v := nI 1) hx hb dX4_addTarget_61 (by decide) ?_
          refine lv_goto (tgt := 66) hx hb dX4_addTarget_62 (by decide) ?_
          refine lv_iconst (v := nI 2) hx hb dX4_addTarget_66 (by decide) ?_
          have hF := hF_of (wc := [(m0, .inr (6, [.ref sa, .ref oa, .ref pa, .ref la, .ref za, .ref na, .int (nI u), .int (nI t), .int gw, .int gd, .int gm, .int gr, .int (nI 0), .int gv]))]) hD hS hA [3] rfl
          refine go_ct hS hP hD [3] [0, 1, 2] hF rfl rfl (by decide) (by decide)
              (va_runV (As := [.int (nI 1), .int (nI 2)]) (rest := []) cf (mX4_isThrown_t l G m0 sa oa pa la za na (nI u) (nI t) gw gd gm gr (nI 0) gv 2  H.size) (cwV 2 hts (lw_V q1650 q1652 qs20 q58 q1653) rfl rfl rfl (by decide +kernel) ⟨Nat.le_of_ble_eq_true rfl, Nat.le_of_ble_eq_true rfl⟩) (preV_of hKB hE hS hF (va_recv hK hP (ci := 6) (q0 := 3) rfl rfl) (va_P.sub hP [3] rfl) ((va_D.sub hD [3] (by decide) rfl).weaken (fun _ _ _ _ => trivial)) trivial) rfl rfl hl.1 rfl (lv_room (Nat.le_of_ble_eq_true rfl)) dX4_addTarget_67 ⟨show 0 + 0 ≤ 0 from by first | decide | omega, show 0 + 0 ≤ 0 from by first | decide | omega⟩)
              (fun u_ H locs hq hph (hP : va_P G.1 CL [(sa, .inl (G.2 0, 830, .inl f)), (ta, .inl (G.2 0, 830, .inl h)), (za, .inl (G.2 0, 6, .inl zf)), (m0, .inr (6, [.ref sa, .ref oa, .ref pa, .ref la, .ref za, .ref na, .int (nI u), .int (nI t), .int gw, .int gd, .int gm, .int gr, .int (nI 2), .int gv]))] H) (hD : va_D A [(sa, .inl (G.2 0, 830, .inl f)), (ta, .inl (G.2 0, 830, .inl h)), (za, .inl (G.2 0, 6, .inl zf)), (m0, .inr (6, [.ref sa, .ref oa, .ref pa, .ref la, .ref za, .ref na, .int (nI u), .int (nI t), .int gw, .int gd, .int gm, .int gr, .int (nI 2), .int gv]))]) hS hfz hfk => ?_)
          refine W.eq (g2 := F0 m 70 ls [.int (nI 1)]) rfl ?_
          refine n_if_eq (tgt := 75) hx hb (by omega) dX4_addTarget_70 (by decide) (fun c_835 => absurd c_835 (by omega)) (fun c_835 => ?_)
          refine lv_iconst (v := nI 0) hx hb dX4_addTarget_73 (by decide) ?_
          have hq9 : o_addTarget B v = (2, 0, B) := by unfold o_addTarget; rw [hir_826] <;> first | rfl | rw [if_pos (by first | exact Or.inr (by omega) | exact Or.inl (by rw [hbp]; intro z; have := Option.some.inj z; omega))] | (rw [if_pos (by first | exact Or.inr (by omega) | exact Or.inl (by rw [hbp]; intro z; have := Option.some.inj z; omega))]; rfl) | (dsimp only; rw [if_pos (by first | exact Or.inr (by omega) | exact Or.inl (by rw [hbp]; intro z; have := Option.some.inj z; omega))]) | (dsimp only; rw [if_pos (by first | exact Or.inr (by omega) | exact Or.inl (by rw [hbp]; intro z; have := Option.some.inj z; omega))]; rfl)
          have hP : va_P G.1 CL [(sa, .inl (G.2 0, 830, .inl f)), (ta, .inl (G.2 0, 830, .inl h)), (za, .inl (G.2 0, 6, .inl zf)), (m0, .inr (6, [.ref sa, .ref oa, .ref pa, .ref la, .ref za, .ref na, .int (nI u), .int (nI t), .int gw, .int gd, .int gm, .int gr, .int (nI ((o_addTarget B v).1)), .int gv]))] H := by rw [hq9]; exact hP
          have hD : va_D A [(sa, .inl (G.2 0, 830, .inl f)), (ta, .inl (G.2 0, 830, .inl h)), (za, .inl (G.2 0, 6, .inl zf)), (m0, .inr (6, [.ref sa, .ref oa, .ref pa, .ref la, .ref za, .ref na, .int (nI u), .int (nI t), .int gw, .int gd, .int gm, .int gr, .int (nI ((o_addTarget B v).1)), .int gv]))] := by rw [hq9]; exact hD
          have hP9 : va_P G.1 CL [(m0, .inr (6, [.ref sa, .ref oa, .ref pa, .ref la, .ref za, .ref na, .int (nI u), .int (nI t), .int gw, .int gd, .int gm, .int gr, .int (nI ((o_addTarget B v).1)), .int gv])), (sa, .inl (G.2 0, 830, .inl f)), (ta, .inl (G.2 0, 830, .inl h)), (za, .inl (G.2 0, 6, .inl zf))] H := hP.sub [3, 0, 1, 2] rfl
          have hD9 : va_D A [(m0, .inr (6, [.ref sa, .ref oa, .ref pa, .ref la, .ref za, .ref na, .int (nI u), .int (nI t), .int gw, .int gd, .int gm, .int gr, .int (nI ((o_addTarget B v).1)), .int gv])), (sa, .inl (G.2 0, 830, .inl f)), (ta, .inl (G.2 0, 830, .inl h)), (za, .inl (G.2 0, 6, .inl zf))] := hD.sub [3, 0, 1, 2] (by decide) rfl
          exact end_i hx hb hr hlk (rfl) (qc_of ⟨nI 0, f, t, u, h, zf⟩ (v := some (.int (nI 0))) (by rfl) (by rw [hq9]; exact ⟨fun _ => ⟨rfl, rfl, rfl, rfl⟩, fun z => absurd (show (2 : Nat) = 0 from z) (by decide)⟩) hP9 hD9 (trivial) hS) hS dX4_addTarget_74 (show 0 ≤ 0 from by first | exact Nat.le_refl _ | decide | omega) (show 0 ≤ 0 from by first | exact Nat.le_refl _ | decide | omega)

set_option maxHeartbeats 4000000 in
theorem mX4_removeTest (l : Launch) (G : Gt) (m0 : Nat) (sa : Nat) (oa : Nat) (pa : Nat) (la : Nat) (za : Nat) (na : Nat) (gw : Int32) (gd : Int32) (gm : Int32) (gr : Int32) (gh : Int32) (gv : Int32) (f : Nat → Int32) (B : Bk) (t : Nat) (u : Nat) (ta : Nat) (h : Nat → Int32) (og : Nat → Option Nat) (zf : Nat → Int32) (d : Int32) (hM : MR f B) (hI : Inv B) (ht : t < 6) (hu : u ≤ 6) (hog : og ((t + 1) % 6) = some ta) : CT l G yX4_removeTest cX4_removeTest 4 (some .int) ({ frames := 2, cells := 0, slots := 0, locals := 41 } : Room) [.ref m0, .int d] [(m0, .inr (6, [.ref sa, .ref oa, .ref pa, .ref la, .ref za, .ref na, .int (nI u), .int (nI t), .int gw, .int gd, .int gm, .int gr, .int gh, .int gv])), (sa, .inl (G.2 0, 830, .inl f)), (ta, .inl (G.2 0, 830, .inl h)), (za, .inl (G.2 0, 6, .inl zf))] (fun (A : Nat → Prop) (H : Heap) => roW G A H [(oa, .inl (G.2 7, 6, .inr (.inr (.inr (.inr og)))))]) (S := Int32 × (Nat → Int32) × Nat × Nat × (Nat → Int32) × (Nat → Int32)) (fun (u_ : Int32 × (Nat → Int32) × Nat × Nat × (Nat → Int32) × (Nat → Int32)) => some (.int u_.1)) (fun (u_ : Int32 × (Nat → Int32) × Nat × Nat × (Nat → Int32) × (Nat → Int32)) => MutP (o_remTest B d) f t u h u_.1 u_.2.1 u_.2.2.1 u_.2.2.2.1 u_.2.2.2.2.1) (fun (u_ : Int32 × (Nat → Int32) × Nat × Nat × (Nat → Int32) × (Nat → Int32)) => [(m0, .inr (6, [.ref sa, .ref oa, .ref pa, .ref la, .ref za, .ref na, .int (nI u_.2.2.2.1), .int (nI u_.2.2.1), .int gw, .int gd, .int gm, .int gr, .int (nI ((o_remTest B d).1)), .int gv])), (sa, .inl (G.2 0, 830, .inl u_.2.1)), (ta, .inl (G.2 0, 830, .inl u_.2.2.2.2.1)), (za, .inl (G.2 0, 6, .inl u_.2.2.2.2.2))]) (fun (u_ : Int32 × (Nat → Int32) × Nat × Nat × (Nat → Int32) × (Nat → Int32)) (H : Heap) => True) := by
  refine CT.of (by decide) (Nat.le_of_ble_eq_true rfl) ?_
  intro p e s m below meth c ls A H locs h9 hH0 hP hS
  obtain ⟨cf, hr, hlk, hnm, hKB, hE, -, hD, -, hA, hAw, hR0, hl⟩ := h9
  have hx := cf.1
  have hb := cf.2.1
  have hml := cf.2.2.1
  have hown : s.vm.findClass RX4 = some m.cls := cf.2.2.2.1
  have hts := cf.2.2.2.2
  have hK := hKB.1
  have hl : lv_has ls 4 [(0, .ref m0), (1, .int d)] := hl
  have iN := iv_sN hI
  have iT := iv_tN hI
  have iD := iv_bD hI
  have iE := iv_bE hI
  have iW := iv_id hI
  refine lv_aload_n hx hb dX4_removeTest_0 rfl (lv_at hl 0 rfl) ?_
  refine lv_iload_n hx hb dX4_removeTest_1 rfl (lv_at hl 1 rfl) ?_
  have hF := hF_of (wc := []) hD hS hA [] rfl
  have hro_836 : va_P G.1 CL [(m0, .inr (6, [.ref sa, .ref oa, .ref pa, .ref la, .ref za, .ref na, .int (nI u), .int (nI t), .int gw, .int gd, .int gm, .int gr, .int gh, .int gv])), (sa, .inl (G.2 0, 830, .inl f))] H := (va_P.sub hP [0, 1] rfl)
  refine go_ct hS hP hD [] [0, 1, 2, 3] hF rfl rfl (by decide) (by decide)
      (va_runV (As := [.int d]) (rest := []) cf (mX4_testOn l G m0 sa oa pa la za na (nI u) (nI t) gw gd gm gr gh gv f B d (show MR f B from by first | assumption | omega) (show Inv B from by first | assumption | omega) H.size) (cwV 1 hts (lw_V q1671 q1673 qs23 q58 q1674) rfl rfl rfl (by decide +kernel) ⟨Nat.le_of_ble_eq_true rfl, Nat.le_of_ble_eq_true rfl⟩) (preV_of hKB hE hS hF (va_recv hK hP (ci := 6) (q0 := 0) rfl rfl) (va_P.sub hP [] rfl) ((va_D.sub hD [] (by decide) rfl).weaken (fun _ _ _ _ => trivial)) (roW.nil hro_836)) rfl rfl hl.1 rfl (lv_room (Nat.le_of_ble_eq_true rfl)) dX4_removeTest_2 ⟨show 0 + 0 ≤ 0 from by first | decide | omega, show 0 + 0 ≤ 0 from by first | decide | omega⟩)
      (fun u_ H locs hq hph (hP : va_P G.1 CL [(m0, .inr (6, [.ref sa, .ref oa, .ref pa, .ref la, .ref za, .ref na, .int (nI u), .int (nI t), .int gw, .int gd, .int gm, .int gr, .int gh, .int gv])), (sa, .inl (G.2 0, 830, .inl f)), (ta, .inl (G.2 0, 830, .inl h)), (za, .inl (G.2 0, 6, .inl zf))] H) (hD : va_D A [(m0, .inr (6, [.ref sa, .ref oa, .ref pa, .ref la, .ref za, .ref na, .int (nI u), .int (nI t), .int gw, .int gd, .int gm, .int gr, .int gh, .int gv])), (sa, .inl (G.2 0, 830, .inl f)), (ta, .inl (G.2 0, 830, .inl h)), (za, .inl (G.2 0, 6, .inl zf))]) hS hfz hfk => ?_)
  obtain ⟨fo_837, rfl⟩ : ∃ z, z = u_ := ⟨_, rfl⟩
  have hP : va_P G.1 CL [(m0, .inr (6, [.ref sa, .ref oa, .ref pa, .ref la, .ref za, .ref na, .int (nI u), .int (nI t), .int gw, .int gd, .int gm, .int gr, .int gh, .int gv])), (sa, .inl (G.2 0, 830, .inl f)), (ta, .inl (G.2 0, 830, .inl h)), (za, .inl (G.2 0, 6, .inl zf))] H := hP
  have hD : va_D A [(m0, .inr (6, [.ref sa, .ref oa, .ref pa, .ref la, .ref za, .ref na, .int (nI u), .int (nI t), .int gw, .int gd, .int gm, .int gr, .int gh, .int gv])), (sa, .inl (G.2 0, 830, .inl f)), (ta, .inl (G.2 0, 830, .inl h)), (za, .inl (G.2 0, 6, .inl zf))] := hD
  have hq_838 : PT B d (tN B) fo_837 := hq
  refine W.eq (g2 := F0 m 5 ls [.int (oI fo_837)]) rfl ?_
  have hit_839 := ixT_eq hI hq_838
  rcases fo_837 with _ | k_840
  · refine lv_toi (y := (-1)) rfl ?_
    refine lv_istore_n (lv' := [(2, .int (-1)), (0, .ref m0), (1, .int d)]) hx hb dX4_removeTest_5 rfl hl (by decide) rfl (fun ls hl => ?_)
    refine lv_aload_n hx hb dX4_removeTest_6 rfl (lv_at hl 1 rfl) ?_
    refine lv_iload_n hx hb dX4_removeTest_7 rfl (lv_at hl 0 rfl) ?_
    refine lv_if_ge (tgt := 15) hx hb dX4_removeTest_8 (by decide) (fun c_841 => absurd c_841 (by decide)) (fun c_841 => ?_)
    refine lv_iconst (v := nI 1) hx hb dX4_removeTest_11 (by decide) ?_
    refine lv_goto (tgt := 16) hx hb dX4_removeTest_12 (by decide) ?_
    refine lv_iconst (v := nI 1) hx hb dX4_removeTest_16 (by decide) ?_
    have hF := hF_of (wc := [(m0, .inr (6, [.ref sa, .ref oa, .ref pa, .ref la, .ref za, .ref na, .int (nI u), .int (nI t), .int gw, .int gd, .int gm, .int gr, .int gh, .int gv]))]) hD hS hA [0] rfl
    refine go_ct hS hP hD [0] [1, 2, 3] hF rfl rfl (by decide) (by decide)
        (va_runV (As := [.int (nI 1), .int (nI 1)]) (rest := []) cf (mX4_isThrown_t l G m0 sa oa pa la za na (nI u) (nI t) gw gd gm gr gh gv 1  H.size) (cwV 2 hts (lw_V q1650 q1652 qs20 q58 q1653) rfl rfl rfl (by decide +kernel) ⟨Nat.le_of_ble_eq_true rfl, Nat.le_of_ble_eq_true rfl⟩) (preV_of hKB hE hS hF (va_recv hK hP (ci := 6) (q0 := 0) rfl rfl) (va_P.sub hP [0] rfl) ((va_D.sub hD [0] (by decide) rfl).weaken (fun _ _ _ _ => trivial)) trivial) rfl rfl hl.1 rfl (lv_room (Nat.le_of_ble_eq_true rfl)) dX4_removeTest_17 ⟨show 0 + 0 ≤ 0 from by first | decide | omega, show 0 + 0 ≤ 0 from by first | decide | omega⟩)
        (fun u_ H locs hq hph (hP : va_P G.1 CL [(sa, .inl (G.2 0, 830, .inl f)), (ta, .inl (G.2 0, 830, .inl h)), (za, .inl (G.2 0, 6, .inl zf)), (m0, .inr (6, [.ref sa, .ref oa, .ref pa, .ref la, .ref za, .ref na, .int (nI u), .int (nI t), .int gw, .int gd, .int gm, .int gr, .int (nI 1), .int gv]))] H) (hD : va_D A [(sa, .inl (G.2 0, 830, .inl f)), (ta, .inl (G.2 0, 830, .inl h)), (za, .inl (G.2 0, 6, .inl zf)), (m0, .inr (6, [.ref sa, .ref oa, .ref pa, .ref la, .ref za, .ref na, .int (nI u), .int (nI t), .int gw, .int gd, .int gm, .int gr, .int (nI 1), .int gv]))]) hS hfz hfk => ?_)
    refine W.eq (g2 := F0 m 20 ls [.int (nI 1)]) rfl ?_
    refine n_if_eq (tgt := 25) hx hb (by omega) dX4_removeTest_20 (by decide) (fun c_842 => absurd c_842 (by omega)) (fun c_842 => ?_)
    refine lv_iconst (v := nI 0) hx hb dX4_removeTest_23 (by decide) ?_
    have hq9 : o_remTest B d = (1, 0, B) := by unfold o_remTest; rw [hit_839] <;> rfl
    have hP : va_P G.1 CL [(sa, .inl (G.2 0, 830, .inl f)), (ta, .inl (G.2 0, 830, .inl h)), (za, .inl (G.2 0, 6, .inl zf)), (m0, .inr (6, [.ref sa, .ref oa, .ref pa, .ref la, .ref za, .ref na, .int (nI u), .int (nI t), .int gw, .int gd, .int gm, .int gr, .int (nI ((o_remTest B d).1)), .int gv]))] H := by rw [hq9]; exact hP
    have hD : va_D A [(sa, .inl (G.2 0, 830, .inl f)), (ta, .inl (G.2 0, 830, .inl h)), (za, .inl (G.2 0, 6, .inl zf)), (m0, .inr (6, [.ref sa, .ref oa, .ref pa, .ref la, .ref za, .ref na, .int (nI u), .int (nI t), .int gw, .int gd, .int gm, .int gr, .int (nI ((o_remTest B d).1)), .int gv]))] := by rw [hq9]; exact hD
    have hP9 : va_P G.1 CL [(m0, .inr (6, [.ref sa, .ref oa, .ref pa, .ref la, .ref za, .ref na, .int (nI u), .int (nI t), .int gw, .int gd, .int gm, .int gr, .int (nI ((o_remTest B d).1)), .int gv])), (sa, .inl (G.2 0, 830, .inl f)), (ta, .inl (G.2 0, 830, .inl h)), (za, .inl (G.2 0, 6, .inl zf))] H := hP.sub [3, 0, 1, 2] rfl
    have hD9 : va_D A [(m0, .inr (6, [.ref sa, .ref oa, .ref pa, .ref la, .ref za, .ref na, .int (nI u), .int (nI t), .int gw, .int gd, .int gm, .int gr, .int (nI ((o_remTest B d).1)), .int gv])), (sa, .inl (G.2 0, 830, .inl f)), (ta, .inl (G.2 0, 830, .inl h)), (za, .inl (G.2 0, 6, .inl zf))] := hD.sub [3, 0, 1, 2] (by decide) rfl
    exact end_i hx hb hr hlk (rfl) (qc_of ⟨nI 0, f, t, u, h, zf⟩ (v := some (.int (nI 0))) (by rfl) (by rw [hq9]; exact ⟨fun _ => ⟨rfl, rfl, rfl, rfl⟩, fun z => absurd (show (1 : Nat) = 0 from z) (by decide)⟩) hP9 hD9 (trivial) hS) hS dX4_removeTest_24 (show 0 ≤ 0 from by first | exact Nat.le_refl _ | decide | omega) (show 0 ≤ 0 from by first | exact Nat.le_refl _ | decide | omega)
  · refine lv_ton (n := k_840) rfl ?_
    have hkk : k_840 < tN B := (hq_838).1
    refine lv_istore_n (lv' := [(2, .int (nI k_840)), (0, .ref m0), (1, .int d)]) hx hb dX4_removeTest_5 rfl hl (by decide) rfl (fun ls hl => ?_)
    refine lv_aload_n hx hb dX4_removeTest_6 rfl (lv_at hl 1 rfl) ?_
    refine lv_iload_n hx hb dX4_removeTest_7 rfl (lv_at hl 0 rfl) ?_
    refine n_if_ge (tgt := 15) hx hb (by omega) dX4_removeTest_8 (by decide) ?_
    refine lv_iconst (v := nI 0) hx hb dX4_removeTest_15 (by decide) ?_
    refine lv_iconst (v := nI 1) hx hb dX4_removeTest_16 (by decide) ?_
    have hF := hF_of (wc := [(m0, .inr (6, [.ref sa, .ref oa, .ref pa, .ref la, .ref za, .ref na, .int (nI u), .int (nI t), .int gw, .int gd, .int gm, .int gr, .int gh, .int gv]))]) hD hS hA [0] rfl
    refine go_ct hS hP hD [0] [1, 2, 3] hF rfl rfl (by decide) (by decide)
        (va_runV (As := [.int (nI 0), .int (nI 1)]) (rest := []) cf (mX4_isThrown_f l G m0 sa oa pa la za na (nI u) (nI t) gw gd gm gr gh gv 1  H.size) (cwV 2 hts (lw_V q1650 q1652 qs20 q58 q1653) rfl rfl rfl (by decide +kernel) ⟨Nat.le_of_ble_eq_true rfl, Nat.le_of_ble_eq_true rfl⟩) (preV_of hKB hE hS hF (va_recv hK hP (ci := 6) (q0 := 0) rfl rfl) (va_P.sub hP [0] rfl) ((va_D.sub hD [0] (by decide) rfl).weaken (fun _ _ _ _ => trivial)) trivial) rfl rfl hl.1 rfl (lv_room (Nat.le_of_ble_eq_true rfl)) dX4_removeTest_17 ⟨show 0 + 0 ≤ 0 from by first | decide | omega, show 0 + 0 ≤ 0 from by first | decide | omega⟩)
        (fun u_ H locs hq hph (hP : va_P G.1 CL [(sa, .inl (G.2 0, 830, .inl f)), (ta, .inl (G.2 0, 830, .inl h)), (za, .inl (G.2 0, 6, .inl zf)), (m0, .inr (6, [.ref sa, .ref oa, .ref pa, .ref la, .ref za, .ref na, .int (nI u), .int (nI t), .int gw, .int gd, .int gm, .int gr, .int (nI 0), .int gv]))] H) (hD : va_D A [(sa, .inl (G.2 0, 830, .inl f)), (ta, .inl (G.2 0, 830, .inl h)), (za, .inl (G.2 0, 6, .inl zf)), (m0, .inr (6, [.ref sa, .ref oa, .ref pa, .ref la, .ref za, .ref na, .int (nI u), .int (nI t), .int gw, .int gd, .int gm, .int gr, .int (nI 0), .int gv]))]) hS hfz hfk => ?_)
    refine W.eq (g2 := F0 m 20 ls [.int (nI 0)]) rfl ?_
    refine n_if_eq (tgt := 25) hx hb (by omega) dX4_removeTest_20 (by decide) (fun c_843 => ?_) (fun c_843 => absurd c_843 (by omega))
    refine lv_aload_n hx hb dX4_removeTest_25 rfl (lv_at hl 1 rfl) ?_
    have hF := hF_of (wc := [(m0, .inr (6, [.ref sa, .ref oa, .ref pa, .ref la, .ref za, .ref na, .int (nI u), .int (nI t), .int gw, .int gd, .int gm, .int gr, .int (nI 0), .int gv])), (ta, .inl (G.2 0, 830, .inl h))]) hD hS hA [3, 1] rfl
    have hro_844 : roW G (va_A [(m0, .inr (6, [.ref sa, .ref oa, .ref pa, .ref la, .ref za, .ref na, .int (nI u), .int (nI t), .int gw, .int gd, .int gm, .int gr, .int (nI 0), .int gv])), (ta, .inl (G.2 0, 830, .inl h))] H.size) H [(oa, .inl (G.2 7, 6, .inr (.inr (.inr (.inr og))))), (sa, .inl (G.2 0, 830, .inl f))] := (((hR0.kp hF hS.2.1).sub (ws' := [(oa, .inl (G.2 7, 6, .inr (.inr (.inr (.inr og)))))]) [0] rfl).app (roW.of (w' := [(sa, .inl (G.2 0, 830, .inl f))]) hP hD [3, 1] [0] rfl rfl (by decide)))
    refine go_ct hS hP hD [3, 1] [0, 2] hF rfl rfl (by decide) (by decide)
        (va_runV (As := []) (rest := []) cf (mX4_keeps l G m0 sa oa pa la za na gw gd gm gr (nI 0) gv f t u ta h og (show t < 6 from by first | assumption | omega) (show u ≤ 6 from by first | assumption | omega) (show og ((t + 1) % 6) = some ta from by first | assumption | omega) H.size) (cwV 0 hts (lw_V q1654 q1656 qs21 q58 q1657) rfl rfl rfl (by decide +kernel) ⟨Nat.le_of_ble_eq_true rfl, Nat.le_of_ble_eq_true rfl⟩) (preV_of hKB hE hS hF (va_recv hK hP (ci := 6) (q0 := 3) rfl rfl) (va_P.sub hP [3, 1] rfl) ((va_D.sub hD [3, 1] (by decide) rfl).weaken (fun _ _ _ _ => trivial)) hro_844) rfl rfl hl.1 rfl (lv_room (Nat.le_of_ble_eq_true rfl)) dX4_removeTest_26 ⟨show 0 + 0 ≤ 0 from by first | decide | omega, show 0 + 0 ≤ 0 from by first | decide | omega⟩)
        (fun u_ H locs hq hph (hP : va_P G.1 CL [(sa, .inl (G.2 0, 830, .inl f)), (za, .inl (G.2 0, 6, .inl zf)), (m0, .inr (6, [.ref sa, .ref oa, .ref pa, .ref la, .ref za, .ref na, .int (nI (min 6 (u + 1))), .int (nI ((t + 1) % 6)), .int gw, .int gd, .int gm, .int gr, .int (nI 0), .int gv])), (ta, .inl (G.2 0, 830, .inl f))] H) (hD : va_D A [(sa, .inl (G.2 0, 830, .inl f)), (za, .inl (G.2 0, 6, .inl zf)), (m0, .inr (6, [.ref sa, .ref oa, .ref pa, .ref la, .ref za, .ref na, .int (nI (min 6 (u + 1))), .int (nI ((t + 1) % 6)), .int gw, .int gd, .int gm, .int gr, .int (nI 0), .int gv])), (ta, .inl (G.2 0, 830, .inl f))]) hS hfz hfk => ?_)
    refine W.eq (g2 := F0 m 29 ls []) rfl ?_
    refine lv_aload_n hx hb dX4_removeTest_29 rfl (lv_at hl 1 rfl) ?_
    refine va_get hx hb hts in_X4 hown hK hP 2 rfl rfl 0 (by decide) (hts _ q1596) (fun _ h => h) rfl dX4_removeTest_30 ?_
    refine lv_bipush (v := nI 20) hx hb dX4_removeTest_33 (by decide) ?_
    refine lv_iconst (v := nI 2) hx hb dX4_removeTest_35 (by decide) ?_
    refine lv_iload_n hx hb dX4_removeTest_36 rfl (lv_at hl 0 rfl) ?_
    refine lv_imul hx hb dX4_removeTest_37 ?_
    refine lv_ton (n := 2 * k_840) (nmul (by omega)) ?_
    refine lv_iadd hx hb dX4_removeTest_38 ?_
    refine lv_ton (n := 2 * k_840 + 20) (nadd (by omega)) ?_
    refine lv_iconst (v := nI 1) hx hb dX4_removeTest_39 (by decide) ?_
    refine lv_iadd hx hb dX4_removeTest_40 ?_
    refine lv_ton (n := 2 * k_840 + 21) (nadd (by omega)) ?_
    refine r_iald (v := nI (tThr B k_840)) hx hb hK hP 0 0 rfl rfl (i := 2 * k_840 + 21) (by omega) (by omega) (hM.tthr (k := k_840) (by omega)) dX4_removeTest_41 ?_
    refine lv_istore_n (lv' := [(3, .int (nI (tThr B k_840))), (2, .int (nI k_840)), (0, .ref m0), (1, .int d)]) hx hb dX4_removeTest_42 rfl hl (by decide) rfl (fun ls hl => ?_)
    refine lv_aload_n hx hb dX4_removeTest_43 rfl (lv_at hl 2 rfl) ?_
    refine va_get hx hb hts in_X4 hown hK hP 2 rfl rfl 0 (by decide) (hts _ q1596) (fun _ h => h) rfl dX4_removeTest_44 ?_
    refine lv_iconst (v := nI 3) hx hb dX4_removeTest_47 (by decide) ?_
    refine lv_dup2_11 hx hb dX4_removeTest_48 rfl rfl ?_
    refine r_iald (v := nI (tN B)) hx hb hK hP 0 0 rfl rfl (i := 3) (by omega) (by omega) (hM.tested) dX4_removeTest_49 ?_
    refine lv_iconst (v := nI 1) hx hb dX4_removeTest_50 (by decide) ?_
    refine lv_isub hx hb dX4_removeTest_51 ?_
    refine lv_ton (n := ((tN B) - 1)) (nsub (by omega)) ?_
    refine r_iast hx hb hK hP hD hS 0 0 rfl rfl (i := 3) (by omega) (by omega) dX4_removeTest_52 (fun H locs (hP : va_P G.1 CL [(sa, .inl (G.2 0, 830, .inl (upd f 3 (nI ((tN B) - 1))))), (za, .inl (G.2 0, 6, .inl zf)), (m0, .inr (6, [.ref sa, .ref oa, .ref pa, .ref la, .ref za, .ref na, .int (nI (min 6 (u + 1))), .int (nI ((t + 1) % 6)), .int gw, .int gd, .int gm, .int gr, .int (nI 0), .int gv])), (ta, .inl (G.2 0, 830, .inl f))] H) (hD : va_D A [(sa, .inl (G.2 0, 830, .inl (upd f 3 (nI ((tN B) - 1))))), (za, .inl (G.2 0, 6, .inl zf)), (m0, .inr (6, [.ref sa, .ref oa, .ref pa, .ref la, .ref za, .ref na, .int (nI (min 6 (u + 1))), .int (nI ((t + 1) % 6)), .int gw, .int gd, .int gm, .int gr, .int (nI 0), .int gv])), (ta, .inl (G.2 0, 830, .inl f))]) hS => ?_)
    refine lv_aload_n hx hb dX4_removeTest_53 rfl (lv_at hl 2 rfl) ?_
    refine va_get hx hb hts in_X4 hown hK hP 2 rfl rfl 0 (by decide) (hts _ q1596) (fun _ h => h) rfl dX4_removeTest_54 ?_
    refine lv_bipush (v := nI 20) hx hb dX4_removeTest_57 (by decide) ?_
    refine lv_iconst (v := nI 2) hx hb dX4_removeTest_59 (by decide) ?_
    refine lv_iload_n hx hb dX4_removeTest_60 rfl (lv_at hl 1 rfl) ?_
    refine lv_imul hx hb dX4_removeTest_61 ?_
    refine lv_ton (n := 2 * k_840) (nmul (by omega)) ?_
    refine lv_iadd hx hb dX4_removeTest_62 ?_
    refine lv_ton (n := 2 * k_840 + 20) (nadd (by omega)) ?_
    refine lv_aload_n hx hb dX4_removeTest_63 rfl (lv_at hl 2 rfl) ?_
    refine va_get hx hb hts in_X4 hown hK hP 2 rfl rfl 0 (by decide) (hts _ q1596) (fun _ h => h) rfl dX4_removeTest_64 ?_
    refine lv_bipush (v := nI 20) hx hb dX4_removeTest_67 (by decide) ?_
    refine lv_iconst (v := nI 2) hx hb dX4_removeTest_69 (by decide) ?_
    refine lv_aload_n hx hb dX4_removeTest_70 rfl (lv_at hl 2 rfl) ?_
    refine va_get hx hb hts in_X4 hown hK hP 2 rfl rfl 0 (by decide) (hts _ q1596) (fun _ h => h) rfl dX4_removeTest_71 ?_
    refine lv_iconst (v := nI 3) hx hb dX4_removeTest_74 (by decide) ?_
    refine r_iald (v := nI ((tN B) - 1)) hx hb hK hP 0 0 rfl rfl (i := 3) (by omega) (by omega) (pk_us) dX4_removeTest_75 ?_
    refine lv_imul hx hb dX4_removeTest_76 ?_
    refine lv_ton (n := 2 * ((tN B) - 1)) (nmul (by omega)) ?_
    refine lv_iadd hx hb dX4_removeTest_77 ?_
    refine lv_ton (n := 2 * ((tN B) - 1) + 20) (nadd (by omega)) ?_
    refine r_iald (v := nI (tDay B ((tN B) - 1))) hx hb hK hP 0 0 rfl rfl (i := 2 * ((tN B) - 1) + 20) (by omega) (by omega) ((pk_un (by omega)).trans (hM.tday (k := (tN B) - 1) (by omega))) dX4_removeTest_78 ?_
    refine r_iast hx hb hK hP hD hS 0 0 rfl rfl (i := 2 * k_840 + 20) (by omega) (by omega) dX4_removeTest_79 (fun H locs (hP : va_P G.1 CL [(sa, .inl (G.2 0, 830, .inl (upd (upd f 3 (nI ((tN B) - 1))) (2 * k_840 + 20) (nI (tDay B ((tN B) - 1)))))), (za, .inl (G.2 0, 6, .inl zf)), (m0, .inr (6, [.ref sa, .ref oa, .ref pa, .ref la, .ref za, .ref na, .int (nI (min 6 (u + 1))), .int (nI ((t + 1) % 6)), .int gw, .int gd, .int gm, .int gr, .int (nI 0), .int gv])), (ta, .inl (G.2 0, 830, .inl f))] H) (hD : va_D A [(sa, .inl (G.2 0, 830, .inl (upd (upd f 3 (nI ((tN B) - 1))) (2 * k_840 + 20) (nI (tDay B ((tN B) - 1)))))), (za, .inl (G.2 0, 6, .inl zf)), (m0, .inr (6, [.ref sa, .ref oa, .ref pa, .ref la, .ref za, .ref na, .int (nI (min 6 (u + 1))), .int (nI ((t + 1) % 6)), .int gw, .int gd, .int gm, .int gr, .int (nI 0), .int gv])), (ta, .inl (G.2 0, 830, .inl f))]) hS => ?_)
    refine lv_aload_n hx hb dX4_removeTest_80 rfl (lv_at hl 2 rfl) ?_
    refine va_get hx hb hts in_X4 hown hK hP 2 rfl rfl 0 (by decide) (hts _ q1596) (fun _ h => h) rfl dX4_removeTest_81 ?_
    refine lv_bipush (v := nI 20) hx hb dX4_removeTest_84 (by decide) ?_
    refine lv_iconst (v := nI 2) hx hb dX4_removeTest_86 (by decide) ?_
    refine lv_iload_n hx hb dX4_removeTest_87 rfl (lv_at hl 1 rfl) ?_
    refine lv_imul hx hb dX4_removeTest_88 ?_
    refine lv_ton (n := 2 * k_840) (nmul (by omega)) ?_
    refine lv_iadd hx hb dX4_removeTest_89 ?_
    refine lv_ton (n := 2 * k_840 + 20) (nadd (by omega)) ?_
    refine lv_iconst (v := nI 1) hx hb dX4_removeTest_90 (by decide) ?_
    refine lv_iadd hx hb dX4_removeTest_91 ?_
    refine lv_ton (n := 2 * k_840 + 21) (nadd (by omega)) ?_
    refine lv_aload_n hx hb dX4_removeTest_92 rfl (lv_at hl 2 rfl) ?_
    refine va_get hx hb hts in_X4 hown hK hP 2 rfl rfl 0 (by decide) (hts _ q1596) (fun _ h => h) rfl dX4_removeTest_93 ?_
    refine lv_bipush (v := nI 20) hx hb dX4_removeTest_96 (by decide) ?_
    refine lv_iconst (v := nI 2) hx hb dX4_removeTest_98 (by decide) ?_
    refine lv_aload_n hx hb dX4_removeTest_99 rfl (lv_at hl 2 rfl) ?_
    refine va_get hx hb hts in_X4 hown hK hP 2 rfl rfl 0 (by decide) (hts _ q1596) (fun _ h => h) rfl dX4_removeTest_100 ?_
    refine lv_iconst (v := nI 3) hx hb dX4_removeTest_103 (by decide) ?_
    refine r_iald (v := nI ((tN B) - 1)) hx hb hK hP 0 0 rfl rfl (i := 3) (by omega) (by omega) ((pk_un (by omega)).trans (pk_us)) dX4_removeTest_104 ?_
    refine lv_imul hx hb dX4_removeTest_105 ?_
    refine lv_ton (n := 2 * ((tN B) - 1)) (nmul (by omega)) ?_
    refine lv_iadd hx hb dX4_removeTest_106 ?_
    refine lv_ton (n := 2 * ((tN B) - 1) + 20) (nadd (by omega)) ?_
    refine lv_iconst (v := nI 1) hx hb dX4_removeTest_107 (by decide) ?_
    refine lv_iadd hx hb dX4_removeTest_108 ?_
    refine lv_ton (n := 2 * ((tN B) - 1) + 21) (nadd (by omega)) ?_
    refine r_iald (v := nI (tThr B ((tN B) - 1))) hx hb hK hP 0 0 rfl rfl (i := 2 * ((tN B) - 1) + 21) (by omega) (by omega) ((pk_un (by omega)).trans ((pk_un (by omega)).trans (hM.tthr (k := (tN B) - 1) (by omega)))) dX4_removeTest_109 ?_
    refine r_iast hx hb hK hP hD hS 0 0 rfl rfl (i := 2 * k_840 + 21) (by omega) (by omega) dX4_removeTest_110 (fun H locs (hP : va_P G.1 CL [(sa, .inl (G.2 0, 830, .inl (upd (upd (upd f 3 (nI ((tN B) - 1))) (2 * k_840 + 20) (nI (tDay B ((tN B) - 1)))) (2 * k_840 + 21) (nI (tThr B ((tN B) - 1)))))), (za, .inl (G.2 0, 6, .inl zf)), (m0, .inr (6, [.ref sa, .ref oa, .ref pa, .ref la, .ref za, .ref na, .int (nI (min 6 (u + 1))), .int (nI ((t + 1) % 6)), .int gw, .int gd, .int gm, .int gr, .int (nI 0), .int gv])), (ta, .inl (G.2 0, 830, .inl f))] H) (hD : va_D A [(sa, .inl (G.2 0, 830, .inl (upd (upd (upd f 3 (nI ((tN B) - 1))) (2 * k_840 + 20) (nI (tDay B ((tN B) - 1)))) (2 * k_840 + 21) (nI (tThr B ((tN B) - 1)))))), (za, .inl (G.2 0, 6, .inl zf)), (m0, .inr (6, [.ref sa, .ref oa, .ref pa, .ref la, .ref za, .ref na, .int (nI (min 6 (u + 1))), .int (nI ((t + 1) % 6)), .int gw, .int gd, .int gm, .int gr, .int (nI 0), .int gv])), (ta, .inl (G.2 0, 830, .inl f))]) hS => ?_)
    refine lv_iload_n hx hb dX4_removeTest_111 rfl (lv_at hl 0 rfl) ?_
    have hq9 : o_remTest B d = (0, nI (tThr B k_840), wT B (swp (bT B) k_840)) := by unfold o_remTest; rw [hit_839] <;> rfl
    have hP : va_P G.1 CL [(sa, .inl (G.2 0, 830, .inl (upd (upd (upd f 3 (nI ((tN B) - 1))) (2 * k_840 + 20) (nI (tDay B ((tN B) - 1)))) (2 * k_840 + 21) (nI (tThr B ((tN B) - 1)))))), (za, .inl (G.2 0, 6, .inl zf)), (m0, .inr (6, [.ref sa, .ref oa, .ref pa, .ref la, .ref za, .ref na, .int (nI (min 6 (u + 1))), .int (nI ((t + 1) % 6)), .int gw, .int gd, .int gm, .int gr, .int (nI ((o_remTest B d).1)), .int gv])), (ta, .inl (G.2 0, 830, .inl f))] H := by rw [hq9]; exact hP
    have hD : va_D A [(sa, .inl (G.2 0, 830, .inl (upd (upd (upd f 3 (nI ((tN B) - 1))) (2 * k_840 + 20) (nI (tDay B ((tN B) - 1)))) (2 * k_840 + 21) (nI (tThr B ((tN B) - 1)))))), (za, .inl (G.2 0, 6, .inl zf)), (m0, .inr (6, [.ref sa, .ref oa, .ref pa, .ref la, .ref za, .ref na, .int (nI (min 6 (u + 1))), .int (nI ((t + 1) % 6)), .int gw, .int gd, .int gm, .int gr, .int (nI ((o_remTest B d).1)), .int gv])), (ta, .inl (G.2 0, 830, .inl f))] := by rw [hq9]; exact hD
    have hP9 : va_P G.1 CL [(m0, .inr (6, [.ref sa, .ref oa, .ref pa, .ref la, .ref za, .ref na, .int (nI (min 6 (u + 1))), .int (nI ((t + 1) % 6)), .int gw, .int gd, .int gm, .int gr, .int (nI ((o_remTest B d).1)), .int gv])), (sa, .inl (G.2 0, 830, .inl (upd (upd (upd f 3 (nI ((tN B) - 1))) (2 * k_840 + 20) (nI (tDay B ((tN B) - 1)))) (2 * k_840 + 21) (nI (tThr B ((tN B) - 1)))))), (ta, .inl (G.2 0, 830, .inl f)), (za, .inl (G.2 0, 6, .inl zf))] H := hP.sub [2, 0, 3, 1] rfl
    have hD9 : va_D A [(m0, .inr (6, [.ref sa, .ref oa, .ref pa, .ref la, .ref za, .ref na, .int (nI (min 6 (u + 1))), .int (nI ((t + 1) % 6)), .int gw, .int gd, .int gm, .int gr, .int (nI ((o_remTest B d).1)), .int gv])), (sa, .inl (G.2 0, 830, .inl (upd (upd (upd f 3 (nI ((tN B) - 1))) (2 * k_840 + 20) (nI (tDay B ((tN B) - 1)))) (2 * k_840 + 21) (nI (tThr B ((tN B) - 1)))))), (ta, .inl (G.2 0, 830, .inl f)), (za, .inl (G.2 0, 6, .inl zf))] := hD.sub [2, 0, 3, 1] (by decide) rfl
    exact end_i hx hb hr hlk (rfl) (qc_of ⟨nI (tThr B k_840), upd (upd (upd f 3 (nI ((tN B) - 1))) (2 * k_840 + 20) (nI (tDay B ((tN B) - 1)))) (2 * k_840 + 21) (nI (tThr B ((tN B) - 1))), ((t + 1) % 6), (min 6 (u + 1)), f, zf⟩ (v := some (.int (nI (tThr B k_840)))) (by rfl) (by rw [hq9]; exact ⟨fun z => absurd rfl z, fun _ => ⟨rfl, MR_remTest hI hM hkk, rfl, rfl, rfl⟩⟩) hP9 hD9 (trivial) hS) hS dX4_removeTest_112 (show 0 ≤ 0 from by first | exact Nat.le_refl _ | decide | omega) (show 0 ≤ 0 from by first | exact Nat.le_refl _ | decide | omega)

set_option maxHeartbeats 4000000 in
theorem mX4_addTest (l : Launch) (G : Gt) (m0 : Nat) (sa : Nat) (oa : Nat) (pa : Nat) (la : Nat) (za : Nat) (na : Nat) (gw : Int32) (gd : Int32) (gm : Int32) (gr : Int32) (gh : Int32) (gv : Int32) (f : Nat → Int32) (B : Bk) (t : Nat) (u : Nat) (ta : Nat) (h : Nat → Int32) (og : Nat → Option Nat) (zf : Nat → Int32) (d : Int32) (w : Int32) (hM : MR f B) (hI : Inv B) (ht : t < 6) (hu : u ≤ 6) (hog : og ((t + 1) % 6) = some ta) : CT l G yX4_addTest cX4_addTest 7 (some .int) ({ frames := 5, cells := 0, slots := 0, locals := 106 } : Room) [.ref m0, .int d, .int w] [(m0, .inr (6, [.ref sa, .ref oa, .ref pa, .ref la, .ref za, .ref na, .int (nI u), .int (nI t), .int gw, .int gd, .int gm, .int gr, .int gh, .int gv])), (sa, .inl (G.2 0, 830, .inl f)), (ta, .inl (G.2 0, 830, .inl h)), (za, .inl (G.2 0, 6, .inl zf))] (fun (A : Nat → Prop) (H : Heap) => roW G A H [(oa, .inl (G.2 7, 6, .inr (.inr (.inr (.inr og)))))]) (S := Int32 × (Nat → Int32) × Nat × Nat × (Nat → Int32) × (Nat → Int32)) (fun (u_ : Int32 × (Nat → Int32) × Nat × Nat × (Nat → Int32) × (Nat → Int32)) => some (.int u_.1)) (fun (u_ : Int32 × (Nat → Int32) × Nat × Nat × (Nat → Int32) × (Nat → Int32)) => MutP (o_addTest B d w) f t u h u_.1 u_.2.1 u_.2.2.1 u_.2.2.2.1 u_.2.2.2.2.1) (fun (u_ : Int32 × (Nat → Int32) × Nat × Nat × (Nat → Int32) × (Nat → Int32)) => [(m0, .inr (6, [.ref sa, .ref oa, .ref pa, .ref la, .ref za, .ref na, .int (nI u_.2.2.2.1), .int (nI u_.2.2.1), .int gw, .int gd, .int gm, .int gr, .int (nI ((o_addTest B d w).1)), .int gv])), (sa, .inl (G.2 0, 830, .inl u_.2.1)), (ta, .inl (G.2 0, 830, .inl u_.2.2.2.2.1)), (za, .inl (G.2 0, 6, .inl u_.2.2.2.2.2))]) (fun (u_ : Int32 × (Nat → Int32) × Nat × Nat × (Nat → Int32) × (Nat → Int32)) (H : Heap) => True) := by
  refine CT.of (by decide) (Nat.le_of_ble_eq_true rfl) ?_
  intro p e s m below meth c ls A H locs h9 hH0 hP hS
  obtain ⟨cf, hr, hlk, hnm, hKB, hE, -, hD, -, hA, hAw, hR0, hl⟩ := h9
  have hx := cf.1
  have hb := cf.2.1
  have hml := cf.2.2.1
  have hown : s.vm.findClass RX4 = some m.cls := cf.2.2.2.1
  have hts := cf.2.2.2.2
  have hK := hKB.1
  have hl : lv_has ls 7 [(0, .ref m0), (1, .int d), (2, .int w)] := hl
  have iN := iv_sN hI
  have iT := iv_tN hI
  have iD := iv_bD hI
  have iE := iv_bE hI
  have iW := iv_id hI
  refine lv_aload_n hx hb dX4_addTest_0 rfl (lv_at hl 0 rfl) ?_
  refine lv_aload_n hx hb dX4_addTest_1 rfl (lv_at hl 0 rfl) ?_
  refine lv_iload_n hx hb dX4_addTest_2 rfl (lv_at hl 1 rfl) ?_
  have hF := hF_of (wc := []) hD hS hA [] rfl
  have hro_845 : va_P G.1 CL [(m0, .inr (6, [.ref sa, .ref oa, .ref pa, .ref la, .ref za, .ref na, .int (nI u), .int (nI t), .int gw, .int gd, .int gm, .int gr, .int gh, .int gv])), (sa, .inl (G.2 0, 830, .inl f))] H := (va_P.sub hP [0, 1] rfl)
  refine go_ct hS hP hD [] [0, 1, 2, 3] hF rfl rfl (by decide) (by decide)
      (va_runV (As := [.int d]) (rest := [.ref m0]) cf (mX4_isNoDay l G m0 sa oa pa la za na (nI u) (nI t) gw gd gm gr gh gv f B d (show MR f B from by first | assumption | omega) (show Inv B from by first | assumption | omega) H.size) (cwV 1 hts (lw_V q1667 q1669 qs22 q58 q1670) rfl rfl rfl (by decide +kernel) ⟨Nat.le_of_ble_eq_true rfl, Nat.le_of_ble_eq_true rfl⟩) (preV_of hKB hE hS hF (va_recv hK hP (ci := 6) (q0 := 0) rfl rfl) (va_P.sub hP [] rfl) ((va_D.sub hD [] (by decide) rfl).weaken (fun _ _ _ _ => trivial)) (roW.nil hro_845)) rfl rfl hl.1 rfl (lv_room (Nat.le_of_ble_eq_true rfl)) dX4_addTest_3 ⟨show 0 + 0 ≤ 0 from by first | decide | omega, show 0 + 0 ≤ 0 from by first | decide | omega⟩)
      (fun u_ H locs hq hph (hP : va_P G.1 CL [(m0, .inr (6, [.ref sa, .ref oa, .ref pa, .ref la, .ref za, .ref na, .int (nI u), .int (nI t), .int gw, .int gd, .int gm, .int gr, .int gh, .int gv])), (sa, .inl (G.2 0, 830, .inl f)), (ta, .inl (G.2 0, 830, .inl h)), (za, .inl (G.2 0, 6, .inl zf))] H) (hD : va_D A [(m0, .inr (6, [.ref sa, .ref oa, .ref pa, .ref la, .ref za, .ref na, .int (nI u), .int (nI t), .int gw, .int gd, .int gm, .int gr, .int gh, .int gv])), (sa, .inl (G.2 0, 830, .inl f)), (ta, .inl (G.2 0, 830, .inl h)), (za, .inl (G.2 0, 6, .inl zf))]) hS hfz hfk => ?_)
  obtain ⟨b_846, rfl⟩ : ∃ z, z = u_ := ⟨_, rfl⟩
  have hP : va_P G.1 CL [(m0, .inr (6, [.ref sa, .ref oa, .ref pa, .ref la, .ref za, .ref na, .int (nI u), .int (nI t), .int gw, .int gd, .int gm, .int gr, .int gh, .int gv])), (sa, .inl (G.2 0, 830, .inl f)), (ta, .inl (G.2 0, 830, .inl h)), (za, .inl (G.2 0, 6, .inl zf))] H := hP
  have hD : va_D A [(m0, .inr (6, [.ref sa, .ref oa, .ref pa, .ref la, .ref za, .ref na, .int (nI u), .int (nI t), .int gw, .int gd, .int gm, .int gr, .int gh, .int gv])), (sa, .inl (G.2 0, 830, .inl f)), (ta, .inl (G.2 0, 830, .inl h)), (za, .inl (G.2 0, 6, .inl zf))] := hD
  have hq_847 : (b_846 = true ↔ ¬ (nI 0 ≤ d ∧ d ≤ nI (bD B))) := hq
  refine W.eq (g2 := F0 m 6 ls [.int (bI b_846), .ref m0]) rfl ?_
  cases b_846
  · refine lv_ton (n := 0) rfl ?_
    have hin_848 : nI 0 ≤ d ∧ d ≤ nI (bD B) := Classical.not_not.mp (fun z => absurd (hq_847.mpr z) (by decide))
    obtain ⟨d_849, hv_850, h_851, h_852⟩ := in_nat (lo := 0) (hi := bD B) (by omega) (by omega) hin_848.1 hin_848.2
    have hir_853 : inR d 0 (bD B) = some d_849 := inR_some hv_850 h_851 h_852 (by omega)
    have hl : lv_has ls 7 [(0, .ref m0), (1, .int (nI d_849)), (2, .int w)] := by
      have e9 : ((.int (nI d_849)) : Value) = .int d := by rw [hv_850]
      rw [e9]; exact hl
    refine n_if_ne (tgt := 21) hx hb (by omega) dX4_addTest_6 (by decide) (fun c_854 => absurd c_854 (by omega)) (fun c_854 => ?_)
    refine lv_iload_n hx hb dX4_addTest_9 rfl (lv_at hl 2 rfl) ?_
    refine lv_bipush (v := nI 50) hx hb dX4_addTest_10 (by decide) ?_
    refine lv_sipush (v := nI 400) hx hb dX4_addTest_12 (by decide) ?_
    have hF := hF_of (wc := []) hD hS hA [] rfl
    refine go_ct hS hP hD [] [0, 1, 2, 3] hF rfl rfl (by decide) (by decide)
        (va_runS (As := [.int w, .int (nI 50), .int (nI 400)]) (rest := [.ref m0]) cf (mX4_isIn l G w (nI 50) (nI 400)  H.size) (va_cwS 3 hts (lw_S q1647 q1648 q58 q1649) rfl rfl rfl (by decide +kernel) ⟨Nat.le_of_ble_eq_true rfl, Nat.le_of_ble_eq_true rfl⟩) (preS_of hKB hE hS hF (va_P.sub hP [] rfl) ((va_D.sub hD [] (by decide) rfl).weaken (fun _ _ _ _ => trivial)) trivial) rfl rfl hl.1 rfl (lv_room (Nat.le_of_ble_eq_true rfl)) dX4_addTest_15 ⟨show 0 + 0 ≤ 0 from by first | decide | omega, show 0 + 0 ≤ 0 from by first | decide | omega⟩)
        (fun u_ H locs hq hph (hP : va_P G.1 CL [(m0, .inr (6, [.ref sa, .ref oa, .ref pa, .ref la, .ref za, .ref na, .int (nI u), .int (nI t), .int gw, .int gd, .int gm, .int gr, .int gh, .int gv])), (sa, .inl (G.2 0, 830, .inl f)), (ta, .inl (G.2 0, 830, .inl h)), (za, .inl (G.2 0, 6, .inl zf))] H) (hD : va_D A [(m0, .inr (6, [.ref sa, .ref oa, .ref pa, .ref la, .ref za, .ref na, .int (nI u), .int (nI t), .int gw, .int gd, .int gm, .int gr, .int gh, .int gv])), (sa, .inl (G.2 0, 830, .inl f)), (ta, .inl (G.2 0, 830, .inl h)), (za, .inl (G.2 0, 6, .inl zf))]) hS hfz hfk => ?_)
    obtain ⟨b_855, rfl⟩ : ∃ z, z = u_ := ⟨_, rfl⟩
    have hP : va_P G.1 CL [(m0, .inr (6, [.ref sa, .ref oa, .ref pa, .ref la, .ref za, .ref na, .int (nI u), .int (nI t), .int gw, .int gd, .int gm, .int gr, .int gh, .int gv])), (sa, .inl (G.2 0, 830, .inl f)), (ta, .inl (G.2 0, 830, .inl h)), (za, .inl (G.2 0, 6, .inl zf))] H := hP
    have hD : va_D A [(m0, .inr (6, [.ref sa, .ref oa, .ref pa, .ref la, .ref za, .ref na, .int (nI u), .int (nI t), .int gw, .int gd, .int gm, .int gr, .int gh, .int gv])), (sa, .inl (G.2 0, 830, .inl f)), (ta, .inl (G.2 0, 830, .inl h)), (za, .inl (G.2 0, 6, .inl zf))] := hD
    have hq_856 : (b_855 = true ↔ (nI 50) ≤ w ∧ w ≤ (nI 400)) := hq
    refine W.eq (g2 := F0 m 18 ls [.int (bI b_855), .ref m0]) rfl ?_
    cases b_855
    · refine lv_ton (n := 0) rfl ?_
      have hir_857 : inR w 50 400 = none := inR_none (fun z => absurd (hq_856.mpr z) (by decide))
      refine n_if_ne (tgt := 25) hx hb (by omega) dX4_addTest_18 (by decide) (fun c_858 => absurd c_858 (by omega)) (fun c_858 => ?_)
      refine lv_iconst (v := nI 1) hx hb dX4_addTest_21 (by decide) ?_
      refine lv_goto (tgt := 26) hx hb dX4_addTest_22 (by decide) ?_
      refine lv_iconst (v := nI 1) hx hb dX4_addTest_26 (by decide) ?_
      have hF := hF_of (wc := [(m0, .inr (6, [.ref sa, .ref oa, .ref pa, .ref la, .ref za, .ref na, .int (nI u), .int (nI t), .int gw, .int gd, .int gm, .int gr, .int gh, .int gv]))]) hD hS hA [0] rfl
      refine go_ct hS hP hD [0] [1, 2, 3] hF rfl rfl (by decide) (by decide)
          (va_runV (As := [.int (nI 1), .int (nI 1)]) (rest := []) cf (mX4_isThrown_t l G m0 sa oa pa la za na (nI u) (nI t) gw gd gm gr gh gv 1  H.size) (cwV 2 hts (lw_V q1650 q1652 qs20 q58 q1653) rfl rfl rfl (by decide +kernel) ⟨Nat.le_of_ble_eq_true rfl, Nat.le_of_ble_eq_true rfl⟩) (preV_of hKB hE hS hF (va_recv hK hP (ci := 6) (q0 := 0) rfl rfl) (va_P.sub hP [0] rfl) ((va_D.sub hD [0] (by decide) rfl).weaken (fun _ _ _ _ => trivial)) trivial) rfl rfl hl.1 rfl (lv_room (Nat.le_of_ble_eq_true rfl)) dX4_addTest_27 ⟨show 0 + 0 ≤ 0 from by first | decide | omega, show 0 + 0 ≤ 0 from by first | decide | omega⟩)
          (fun u_ H locs hq hph (hP : va_P G.1 CL [(sa, .inl (G.2 0, 830, .inl f)), (ta, .inl (G.2 0, 830, .inl h)), (za, .inl (G.2 0, 6, .inl zf)), (m0, .inr (6, [.ref sa, .ref oa, .ref pa, .ref la, .ref za, .ref na, .int (nI u), .int (nI t), .int gw, .int gd, .int gm, .int gr, .int (nI 1), .int gv]))] H) (hD : va_D A [(sa, .inl (G.2 0, 830, .inl f)), (ta, .inl (G.2 0, 830, .inl h)), (za, .inl (G.2 0, 6, .inl zf)), (m0, .inr (6, [.ref sa, .ref oa, .ref pa, .ref la, .ref za, .ref na, .int (nI u), .int (nI t), .int gw, .int gd, .int gm, .int gr, .int (nI 1), .int gv]))]) hS hfz hfk => ?_)
      refine W.eq (g2 := F0 m 30 ls [.int (nI 1)]) rfl ?_
      refine n_if_ne (tgt := 65) hx hb (by omega) dX4_addTest_30 (by decide) (fun c_859 => ?_) (fun c_859 => absurd c_859 (by omega))
      refine lv_iconst (v := nI 0) hx hb dX4_addTest_65 (by decide) ?_
      have hq9 : o_addTest B d w = (1, 0, B) := by unfold o_addTest; rw [hir_853, hir_857] <;> rfl
      have hP : va_P G.1 CL [(sa, .inl (G.2 0, 830, .inl f)), (ta, .inl (G.2 0, 830, .inl h)), (za, .inl (G.2 0, 6, .inl zf)), (m0, .inr (6, [.ref sa, .ref oa, .ref pa, .ref la, .ref za, .ref na, .int (nI u), .int (nI t), .int gw, .int gd, .int gm, .int gr, .int (nI ((o_addTest B d w).1)), .int gv]))] H := by rw [hq9]; exact hP
      have hD : va_D A [(sa, .inl (G.2 0, 830, .inl f)), (ta, .inl (G.2 0, 830, .inl h)), (za, .inl (G.2 0, 6, .inl zf)), (m0, .inr (6, [.ref sa, .ref oa, .ref pa, .ref la, .ref za, .ref na, .int (nI u), .int (nI t), .int gw, .int gd, .int gm, .int gr, .int (nI ((o_addTest B d w).1)), .int gv]))] := by rw [hq9]; exact hD
      have hP9 : va_P G.1 CL [(m0, .inr (6, [.ref sa, .ref oa, .ref pa, .ref la, .ref za, .ref na, .int (nI u), .int (nI t), .int gw, .int gd, .int gm, .int gr, .int (nI ((o_addTest B d w).1)), .int gv])), (sa, .inl (G.2 0, 830, .inl f)), (ta, .inl (G.2 0, 830, .inl h)), (za, .inl (G.2 0, 6, .inl zf))] H := hP.sub [3, 0, 1, 2] rfl
      have hD9 : va_D A [(m0, .inr (6, [.ref sa, .ref oa, .ref pa, .ref la, .ref za, .ref na, .int (nI u), .int (nI t), .int gw, .int gd, .int gm, .int gr, .int (nI ((o_addTest B d w).1)), .int gv])), (sa, .inl (G.2 0, 830, .inl f)), (ta, .inl (G.2 0, 830, .inl h)), (za, .inl (G.2 0, 6, .inl zf))] := hD.sub [3, 0, 1, 2] (by decide) rfl
      exact end_i hx hb hr hlk (rfl) (qc_of ⟨nI 0, f, t, u, h, zf⟩ (v := some (.int (nI 0))) (by rfl) (by rw [hq9]; exact ⟨fun _ => ⟨rfl, rfl, rfl, rfl⟩, fun z => absurd (show (1 : Nat) = 0 from z) (by decide)⟩) hP9 hD9 (trivial) hS) hS dX4_addTest_66 (show 0 ≤ 0 from by first | exact Nat.le_refl _ | decide | omega) (show 0 ≤ 0 from by first | exact Nat.le_refl _ | decide | omega)
    · refine lv_ton (n := 1) rfl ?_
      have hin_860 : nI 50 ≤ w ∧ w ≤ nI 400 := hq_856.mp rfl
      obtain ⟨d_861, hv_862, h_863, h_864⟩ := in_nat (lo := 50) (hi := 400) (by omega) (by omega) hin_860.1 hin_860.2
      have hir_865 : inR w 50 400 = some d_861 := inR_some hv_862 h_863 h_864 (by omega)
      have hl : lv_has ls 7 [(0, .ref m0), (1, .int (nI d_849)), (2, .int (nI d_861))] := by
        have e9 : ((.int (nI d_861)) : Value) = .int w := by rw [hv_862]
        rw [e9]; exact hl
      refine n_if_ne (tgt := 25) hx hb (by omega) dX4_addTest_18 (by decide) (fun c_866 => ?_) (fun c_866 => absurd c_866 (by omega))
      refine lv_iconst (v := nI 0) hx hb dX4_addTest_25 (by decide) ?_
      refine lv_iconst (v := nI 1) hx hb dX4_addTest_26 (by decide) ?_
      have hF := hF_of (wc := [(m0, .inr (6, [.ref sa, .ref oa, .ref pa, .ref la, .ref za, .ref na, .int (nI u), .int (nI t), .int gw, .int gd, .int gm, .int gr, .int gh, .int gv]))]) hD hS hA [0] rfl
      refine go_ct hS hP hD [0] [1, 2, 3] hF rfl rfl (by decide) (by decide)
          (va_runV (As := [.int (nI 0), .int (nI 1)]) (rest := []) cf (mX4_isThrown_f l G m0 sa oa pa la za na (nI u) (nI t) gw gd gm gr gh gv 1  H.size) (cwV 2 hts (lw_V q1650 q1652 qs20 q58 q1653) rfl rfl rfl (by decide +kernel) ⟨Nat.le_of_ble_eq_true rfl, Nat.le_of_ble_eq_true rfl⟩) (preV_of hKB hE hS hF (va_recv hK hP (ci := 6) (q0 := 0) rfl rfl) (va_P.sub hP [0] rfl) ((va_D.sub hD [0] (by decide) rfl).weaken (fun _ _ _ _ => trivial)) trivial) rfl rfl hl.1 rfl (lv_room (Nat.le_of_ble_eq_true rfl)) dX4_addTest_27 ⟨show 0 + 0 ≤ 0 from by first | decide | omega, show 0 + 0 ≤ 0 from by first | decide | omega⟩)
          (fun u_ H locs hq hph (hP : va_P G.1 CL [(sa, .inl (G.2 0, 830, .inl f)), (ta, .inl (G.2 0, 830, .inl h)), (za, .inl (G.2 0, 6, .inl zf)), (m0, .inr (6, [.ref sa, .ref oa, .ref pa, .ref la, .ref za, .ref na, .int (nI u), .int (nI t), .int gw, .int gd, .int gm, .int gr, .int (nI 0), .int gv]))] H) (hD : va_D A [(sa, .inl (G.2 0, 830, .inl f)), (ta, .inl (G.2 0, 830, .inl h)), (za, .inl (G.2 0, 6, .inl zf)), (m0, .inr (6, [.ref sa, .ref oa, .ref pa, .ref la, .ref za, .ref na, .int (nI u), .int (nI t), .int gw, .int gd, .int gm, .int gr, .int (nI 0), .int gv]))]) hS hfz hfk => ?_)
      refine W.eq (g2 := F0 m 30 ls [.int (nI 0)]) rfl ?_
      refine n_if_ne (tgt := 65) hx hb (by omega) dX4_addTest_30 (by decide) (fun c_867 => absurd c_867 (by omega)) (fun c_867 => ?_)
      refine lv_aload_n hx hb dX4_addTest_33 rfl (lv_at hl 0 rfl) ?_
      refine lv_aload_n hx hb dX4_addTest_34 rfl (lv_at hl 0 rfl) ?_
      refine va_get hx hb hts in_X4 hown hK hP 3 rfl rfl 0 (by decide) (hts _ q1596) (fun _ h => h) rfl dX4_addTest_35 ?_
      refine lv_iconst (v := nI 3) hx hb dX4_addTest_38 (by decide) ?_
      refine r_iald (v := nI (tN B)) hx hb hK hP 0 0 rfl rfl (i := 3) (by omega) (by omega) (hM.tested) dX4_addTest_39 ?_
      refine lv_bipush (v := nI 10) hx hb dX4_addTest_40 (by decide) ?_
      refine n_icmp_eq (tgt := 53) hx hb (by omega) (by omega) dX4_addTest_42 (by decide) (fun c_868 => ?_) (fun c_868 => ?_)
      · refine lv_iconst (v := nI 1) hx hb dX4_addTest_53 (by decide) ?_
        refine lv_goto (tgt := 58) hx hb dX4_addTest_54 (by decide) ?_
        refine lv_iconst (v := nI 2) hx hb dX4_addTest_58 (by decide) ?_
        have hF := hF_of (wc := [(m0, .inr (6, [.ref sa, .ref oa, .ref pa, .ref la, .ref za, .ref na, .int (nI u), .int (nI t), .int gw, .int gd, .int gm, .int gr, .int (nI 0), .int gv]))]) hD hS hA [3] rfl
        refine go_ct hS hP hD [3] [0, 1, 2] hF rfl rfl (by decide) (by decide)
            (va_runV (As := [.int (nI 1), .int (nI 2)]) (rest := []) cf (mX4_isThrown_t l G m0 sa oa pa la za na (nI u) (nI t) gw gd gm gr (nI 0) gv 2  H.size) (cwV 2 hts (lw_V q1650 q1652 qs20 q58 q1653) rfl rfl rfl (by decide +kernel) ⟨Nat.le_of_ble_eq_true rfl, Nat.le_of_ble_eq_true rfl⟩) (preV_of hKB hE hS hF (va_recv hK hP (ci := 6) (q0 := 3) rfl rfl) (va_P.sub hP [3] rfl) ((va_D.sub hD [3] (by decide) rfl).weaken (fun _ _ _ _ => trivial)) trivial) rfl rfl hl.1 rfl (lv_room (Nat.le_of_ble_eq_true rfl)) dX4_addTest_59 ⟨show 0 + 0 ≤ 0 from by first | decide | omega, show 0 + 0 ≤ 0 from by first | decide | omega⟩)
            (fun u_ H locs hq hph (hP : va_P G.1 CL [(sa, .inl (G.2 0, 830, .inl f)), (ta, .inl (G.2 0, 830, .inl h)), (za, .inl (G.2 0, 6, .inl zf)), (m0, .inr (6, [.ref sa, .ref oa, .ref pa, .ref la, .ref za, .ref na, .int (nI u), .int (nI t), .int gw, .int gd, .int gm, .int gr, .int (nI 2), .int gv]))] H) (hD : va_D A [(sa, .inl (G.2 0, 830, .inl f)), (ta, .inl (G.2 0, 830, .inl h)), (za, .inl (G.2 0, 6, .inl zf)), (m0, .inr (6, [.ref sa, .ref oa, .ref pa, .ref la, .ref za, .ref na, .int (nI u), .int (nI t), .int gw, .int gd, .int gm, .int gr, .int (nI 2), .int gv]))]) hS hfz hfk => ?_)
        refine W.eq (g2 := F0 m 62 ls [.int (nI 1)]) rfl ?_
        refine n_if_eq (tgt := 67) hx hb (by omega) dX4_addTest_62 (by decide) (fun c_869 => absurd c_869 (by omega)) (fun c_869 => ?_)
        refine lv_iconst (v := nI 0) hx hb dX4_addTest_65 (by decide) ?_
        have hq9 : o_addTest B d w = (2, 0, B) := by unfold o_addTest; rw [hir_853, hir_865] <;> first | rfl | rw [if_pos (by first | exact Or.inl (by omega) | exact Or.inr (by rw [iT]; rfl))] | (rw [if_pos (by first | exact Or.inl (by omega) | exact Or.inr (by rw [iT]; rfl))]; rfl) | (dsimp only; rw [if_pos (by first | exact Or.inl (by omega) | exact Or.inr (by rw [iT]; rfl))]) | (dsimp only; rw [if_pos (by first | exact Or.inl (by omega) | exact Or.inr (by rw [iT]; rfl))]; rfl)
        have hP : va_P G.1 CL [(sa, .inl (G.2 0, 830, .inl f)), (ta, .inl (G.2 0, 830, .inl h)), (za, .inl (G.2 0, 6, .inl zf)), (m0, .inr (6, [.ref sa, .ref oa, .ref pa, .ref la, .ref za, .ref na, .int (nI u), .int (nI t), .int gw, .int gd, .int gm, .int gr, .int (nI ((o_addTest B d w).1)), .int gv]))] H := by rw [hq9]; exact hP
        have hD : va_D A [(sa, .inl (G.2 0, 830, .inl f)), (ta, .inl (G.2 0, 830, .inl h)), (za, .inl (G.2 0, 6, .inl zf)), (m0, .inr (6, [.ref sa, .ref oa, .ref pa, .ref la, .ref za, .ref na, .int (nI u), .int (nI t), .int gw, .int gd, .int gm, .int gr, .int (nI ((o_addTest B d w).1)), .int gv]))] := by rw [hq9]; exact hD
        have hP9 : va_P G.1 CL [(m0, .inr (6, [.ref sa, .ref oa, .ref pa, .ref la, .ref za, .ref na, .int (nI u), .int (nI t), .int gw, .int gd, .int gm, .int gr, .int (nI ((o_addTest B d w).1)), .int gv])), (sa, .inl (G.2 0, 830, .inl f)), (ta, .inl (G.2 0, 830, .inl h)), (za, .inl (G.2 0, 6, .inl zf))] H := hP.sub [3, 0, 1, 2] rfl
        have hD9 : va_D A [(m0, .inr (6, [.ref sa, .ref oa, .ref pa, .ref la, .ref za, .ref na, .int (nI u), .int (nI t), .int gw, .int gd, .int gm, .int gr, .int (nI ((o_addTest B d w).1)), .int gv])), (sa, .inl (G.2 0, 830, .inl f)), (ta, .inl (G.2 0, 830, .inl h)), (za, .inl (G.2 0, 6, .inl zf))] := hD.sub [3, 0, 1, 2] (by decide) rfl
        exact end_i hx hb hr hlk (rfl) (qc_of ⟨nI 0, f, t, u, h, zf⟩ (v := some (.int (nI 0))) (by rfl) (by rw [hq9]; exact ⟨fun _ => ⟨rfl, rfl, rfl, rfl⟩, fun z => absurd (show (2 : Nat) = 0 from z) (by decide)⟩) hP9 hD9 (trivial) hS) hS dX4_addTest_66 (show 0 ≤ 0 from by first | exact Nat.le_refl _ | decide | omega) (show 0 ≤ 0 from by first | exact Nat.le_refl _ | decide | omega)
      · refine lv_aload_n hx hb dX4_addTest_45 rfl (lv_at hl 0 rfl) ?_
        refine lv_iload_n hx hb dX4_addTest_46 rfl (lv_at hl 1 rfl) ?_
        have hF := hF_of (wc := []) hD hS hA [] rfl
        have hro_870 : va_P G.1 CL [(m0, .inr (6, [.ref sa, .ref oa, .ref pa, .ref la, .ref za, .ref na, .int (nI u), .int (nI t), .int gw, .int gd, .int gm, .int gr, .int (nI 0), .int gv])), (sa, .inl (G.2 0, 830, .inl f))] H := (va_P.sub hP [3, 0] rfl)
        refine go_ct hS hP hD [] [0, 1, 2, 3] hF rfl rfl (by decide) (by decide)
            (va_runV (As := [.int (nI d_849)]) (rest := [.ref m0]) cf (mX4_testOn l G m0 sa oa pa la za na (nI u) (nI t) gw gd gm gr (nI 0) gv f B (nI d_849) (show MR f B from by first | assumption | omega) (show Inv B from by first | assumption | omega) H.size) (cwV 1 hts (lw_V q1671 q1673 qs23 q58 q1674) rfl rfl rfl (by decide +kernel) ⟨Nat.le_of_ble_eq_true rfl, Nat.le_of_ble_eq_true rfl⟩) (preV_of hKB hE hS hF (va_recv hK hP (ci := 6) (q0 := 3) rfl rfl) (va_P.sub hP [] rfl) ((va_D.sub hD [] (by decide) rfl).weaken (fun _ _ _ _ => trivial)) (roW.nil hro_870)) rfl rfl hl.1 rfl (lv_room (Nat.le_of_ble_eq_true rfl)) dX4_addTest_47 ⟨show 0 + 0 ≤ 0 from by first | decide | omega, show 0 + 0 ≤ 0 from by first | decide | omega⟩)
            (fun u_ H locs hq hph (hP : va_P G.1 CL [(sa, .inl (G.2 0, 830, .inl f)), (ta, .inl (G.2 0, 830, .inl h)), (za, .inl (G.2 0, 6, .inl zf)), (m0, .inr (6, [.ref sa, .ref oa, .ref pa, .ref la, .ref za, .ref na, .int (nI u), .int (nI t), .int gw, .int gd, .int gm, .int gr, .int (nI 0), .int gv]))] H) (hD : va_D A [(sa, .inl (G.2 0, 830, .inl f)), (ta, .inl (G.2 0, 830, .inl h)), (za, .inl (G.2 0, 6, .inl zf)), (m0, .inr (6, [.ref sa, .ref oa, .ref pa, .ref la, .ref za, .ref na, .int (nI u), .int (nI t), .int gw, .int gd, .int gm, .int gr, .int (nI 0), .int gv]))]) hS hfz hfk => ?_)
        obtain ⟨fo_871, rfl⟩ : ∃ z, z = u_ := ⟨_, rfl⟩
        have hP : va_P G.1 CL [(sa, .inl (G.2 0, 830, .inl f)), (ta, .inl (G.2 0, 830, .inl h)), (za, .inl (G.2 0, 6, .inl zf)), (m0, .inr (6, [.ref sa, .ref oa, .ref pa, .ref la, .ref za, .ref na, .int (nI u), .int (nI t), .int gw, .int gd, .int gm, .int gr, .int (nI 0), .int gv]))] H := hP
        have hD : va_D A [(sa, .inl (G.2 0, 830, .inl f)), (ta, .inl (G.2 0, 830, .inl h)), (za, .inl (G.2 0, 6, .inl zf)), (m0, .inr (6, [.ref sa, .ref oa, .ref pa, .ref la, .ref za, .ref na, .int (nI u), .int (nI t), .int gw, .int gd, .int gm, .int gr, .int (nI 0), .int gv]))] := hD
        have hq_872 : PT B (nI d_849) (tN B) fo_871 := hq
        refine W.eq (g2 := F0 m 50 ls [.int (oI fo_871), .ref m0]) rfl ?_
        have hit_873 : ixT B d = fo_871 := by rw [hv_850]; exact ixT_eq hI hq_872
        rcases fo_871 with _ | k_874
        · refine lv_toi (y := (-1)) rfl ?_
          refine lv_if_lt (tgt := 57) hx hb dX4_addTest_50 (by decide) (fun c_875 => ?_) (fun c_875 => absurd c_875 (by decide))
          refine lv_iconst (v := nI 0) hx hb dX4_addTest_57 (by decide) ?_
          refine lv_iconst (v := nI 2) hx hb dX4_addTest_58 (by decide) ?_
          have hF := hF_of (wc := [(m0, .inr (6, [.ref sa, .ref oa, .ref pa, .ref la, .ref za, .ref na, .int (nI u), .int (nI t), .int gw, .int gd, .int gm, .int gr, .int (nI 0), .int gv]))]) hD hS hA [3] rfl
          refine go_ct hS hP hD [3] [0, 1, 2] hF rfl rfl (by decide) (by decide)
              (va_runV (As := [.int (nI 0), .int (nI 2)]) (rest := []) cf (mX4_isThrown_f l G m0 sa oa pa la za na (nI u) (nI t) gw gd gm gr (nI 0) gv 2  H.size) (cwV 2 hts (lw_V q1650 q1652 qs20 q58 q1653) rfl rfl rfl (by decide +kernel) ⟨Nat.le_of_ble_eq_true rfl, Nat.le_of_ble_eq_true rfl⟩) (preV_of hKB hE hS hF (va_recv hK hP (ci := 6) (q0 := 3) rfl rfl) (va_P.sub hP [3] rfl) ((va_D.sub hD [3] (by decide) rfl).weaken (fun _ _ _ _ => trivial)) trivial) rfl rfl hl.1 rfl (lv_room (Nat.le_of_ble_eq_true rfl)) dX4_addTest_59 ⟨show 0 + 0 ≤ 0 from by first | decide | omega, show 0 + 0 ≤ 0 from by first | decide | omega⟩)
              (fun u_ H locs hq hph (hP : va_P G.1 CL [(sa, .inl (G.2 0, 830, .inl f)), (ta, .inl (G.2 0, 830, .inl h)), (za, .inl (G.2 0, 6, .inl zf)), (m0, .inr (6, [.ref sa, .ref oa, .ref pa, .ref la, .ref za, .ref na, .int (nI u), .int (nI t), .int gw, .int gd, .int gm, .int gr, .int (nI 0), .int gv]))] H) (hD : va_D A [(sa, .inl (G.2 0, 830, .inl f)), (ta, .inl (G.2 0, 830, .inl h)), (za, .inl (G.2 0, 6, .inl zf)), (m0, .inr (6, [.ref sa, .ref oa, .ref pa, .ref la, .ref za, .ref na, .int (nI u), .int (nI t), .int gw, .int gd, .int gm, .int gr, .int (nI 0), .int gv]))]) hS hfz hfk => ?_)
          refine W.eq (g2 := F0 m 62 ls [.int (nI 0)]) rfl ?_
          refine n_if_eq (tgt := 67) hx hb (by omega) dX4_addTest_62 (by decide) (fun c_876 => ?_) (fun c_876 => absurd c_876 (by omega))
          refine lv_aload_n hx hb dX4_addTest_67 rfl (lv_at hl 0 rfl) ?_
          have hF := hF_of (wc := [(m0, .inr (6, [.ref sa, .ref oa, .ref pa, .ref la, .ref za, .ref na, .int (nI u), .int (nI t), .int gw, .int gd, .int gm, .int gr, .int (nI 0), .int gv])), (ta, .inl (G.2 0, 830, .inl h))]) hD hS hA [3, 1] rfl
          have hro_877 : roW G (va_A [(m0, .inr (6, [.ref sa, .ref oa, .ref pa, .ref la, .ref za, .ref na, .int (nI u), .int (nI t), .int gw, .int gd, .int gm, .int gr, .int (nI 0), .int gv])), (ta, .inl (G.2 0, 830, .inl h))] H.size) H [(oa, .inl (G.2 7, 6, .inr (.inr (.inr (.inr og))))), (sa, .inl (G.2 0, 830, .inl f))] := (((hR0.kp hF hS.2.1).sub (ws' := [(oa, .inl (G.2 7, 6, .inr (.inr (.inr (.inr og)))))]) [0] rfl).app (roW.of (w' := [(sa, .inl (G.2 0, 830, .inl f))]) hP hD [3, 1] [0] rfl rfl (by decide)))
          refine go_ct hS hP hD [3, 1] [0, 2] hF rfl rfl (by decide) (by decide)
              (va_runV (As := []) (rest := []) cf (mX4_keeps l G m0 sa oa pa la za na gw gd gm gr (nI 0) gv f t u ta h og (show t < 6 from by first | assumption | omega) (show u ≤ 6 from by first | assumption | omega) (show og ((t + 1) % 6) = some ta from by first | assumption | omega) H.size) (cwV 0 hts (lw_V q1654 q1656 qs21 q58 q1657) rfl rfl rfl (by decide +kernel) ⟨Nat.le_of_ble_eq_true rfl, Nat.le_of_ble_eq_true rfl⟩) (preV_of hKB hE hS hF (va_recv hK hP (ci := 6) (q0 := 3) rfl rfl) (va_P.sub hP [3, 1] rfl) ((va_D.sub hD [3, 1] (by decide) rfl).weaken (fun _ _ _ _ => trivial)) hro_877) rfl rfl hl.1 rfl (lv_room (Nat.le_of_ble_eq_true rfl)) dX4_addTest_68 ⟨show 0 + 0 ≤ 0 from by first | decide | omega, show 0 + 0 ≤ 0 from by first | decide | omega⟩)
              (fun u_ H locs hq hph (hP : va_P G.1 CL [(sa, .inl (G.2 0, 830, .inl f)), (za, .inl (G.2 0, 6, .inl zf)), (m0, .inr (6, [.ref sa, .ref oa, .ref pa, .ref la, .ref za, .ref na, .int (nI (min 6 (u + 1))), .int (nI ((t + 1) % 6)), .int gw, .int gd, .int gm, .int gr, .int (nI 0), .int gv])), (ta, .inl (G.2 0, 830, .inl f))] H) (hD : va_D A [(sa, .inl (G.2 0, 830, .inl f)), (za, .inl (G.2 0, 6, .inl zf)), (m0, .inr (6, [.ref sa, .ref oa, .ref pa, .ref la, .ref za, .ref na, .int (nI (min 6 (u + 1))), .int (nI ((t + 1) % 6)), .int gw, .int gd, .int gm, .int gr, .int (nI 0), .int gv])), (ta, .inl (G.2 0, 830, .inl f))]) hS hfz hfk => ?_)
          refine W.eq (g2 := F0 m 71 ls []) rfl ?_
          refine lv_aload_n hx hb dX4_addTest_71 rfl (lv_at hl 0 rfl) ?_
          refine va_get hx hb hts in_X4 hown hK hP 2 rfl rfl 0 (by decide) (hts _ q1596) (fun _ h => h) rfl dX4_addTest_72 ?_
          refine lv_bipush (v := nI 20) hx hb dX4_addTest_75 (by decide) ?_
          refine lv_iconst (v := nI 2) hx hb dX4_addTest_77 (by decide) ?_
          refine lv_aload_n hx hb dX4_addTest_78 rfl (lv_at hl 0 rfl) ?_
          refine va_get hx hb hts in_X4 hown hK hP 2 rfl rfl 0 (by decide) (hts _ q1596) (fun _ h => h) rfl dX4_addTest_79 ?_
          refine lv_iconst (v := nI 3) hx hb dX4_addTest_82 (by decide) ?_
          refine r_iald (v := nI (tN B)) hx hb hK hP 0 0 rfl rfl (i := 3) (by omega) (by omega) (hM.tested) dX4_addTest_83 ?_
          refine lv_imul hx hb dX4_addTest_84 ?_
          refine lv_ton (n := 2 * (tN B)) (nmul (by omega)) ?_
          refine lv_iadd hx hb dX4_addTest_85 ?_
          refine lv_ton (n := 2 * (tN B) + 20) (nadd (by omega)) ?_
          refine lv_iload_n hx hb dX4_addTest_86 rfl (lv_at hl 1 rfl) ?_
          refine r_iast hx hb hK hP hD hS 0 0 rfl rfl (i := 2 * (tN B) + 20) (by omega) (by omega) dX4_addTest_87 (fun H locs (hP : va_P G.1 CL [(sa, .inl (G.2 0, 830, .inl (upd f (2 * (tN B) + 20) (nI d_849)))), (za, .inl (G.2 0, 6, .inl zf)), (m0, .inr (6, [.ref sa, .ref oa, .ref pa, .ref la, .ref za, .ref na, .int (nI (min 6 (u + 1))), .int (nI ((t + 1) % 6)), .int gw, .int gd, .int gm, .int gr, .int (nI 0), .int gv])), (ta, .inl (G.2 0, 830, .inl f))] H) (hD : va_D A [(sa, .inl (G.2 0, 830, .inl (upd f (2 * (tN B) + 20) (nI d_849)))), (za, .inl (G.2 0, 6, .inl zf)), (m0, .inr (6, [.ref sa, .ref oa, .ref pa, .ref la, .ref za, .ref na, .int (nI (min 6 (u + 1))), .int (nI ((t + 1) % 6)), .int gw, .int gd, .int gm, .int gr, .int (nI 0), .int gv])), (ta, .inl (G.2 0, 830, .inl f))]) hS => ?_)
          refine lv_aload_n hx hb dX4_addTest_88 rfl (lv_at hl 0 rfl) ?_
          refine va_get hx hb hts in_X4 hown hK hP 2 rfl rfl 0 (by decide) (hts _ q1596) (fun _ h => h) rfl dX4_addTest_89 ?_
          refine lv_bipush (v := nI 20) hx hb dX4_addTest_92 (by decide) ?_
          refine lv_iconst (v := nI 2) hx hb dX4_addTest_94 (by decide) ?_
          refine lv_aload_n hx hb dX4_addTest_95 rfl (lv_at hl 0 rfl) ?_
          refine va_get hx hb hts in_X4 hown hK hP 2 rfl rfl 0 (by decide) (hts _ q1596) (fun _ h => h) rfl dX4_addTest_96 ?_
          refine lv_iconst (v := nI 3) hx hb dX4_addTest_99 (by decide) ?_
          refine r_iald (v := nI (tN B)) hx hb hK hP 0 0 rfl rfl (i := 3) (by omega) (by omega) ((pk_un (by omega)).trans (hM.tested)) dX4_addTest_100 ?_
          refine lv_imul hx hb dX4_addTest_101 ?_
          refine lv_ton (n := 2 * (tN B)) (nmul (by omega)) ?_
          refine lv_iadd hx hb dX4_addTest_102 ?_
          refine lv_ton (n := 2 * (tN B) + 20) (nadd (by omega)) ?_
          refine lv_iconst (v := nI 1) hx hb dX4_addTest_103 (by decide) ?_
          refine lv_iadd hx hb dX4_addTest_104 ?_
          refine lv_ton (n := 2 * (tN B) + 21) (nadd (by omega)) ?_
          refine lv_iload_n hx hb dX4_addTest_105 rfl (lv_at hl 2 rfl) ?_
          refine r_iast hx hb hK hP hD hS 0 0 rfl rfl (i := 2 * (tN B) + 21) (by omega) (by omega) dX4_addTest_106 (fun H locs (hP : va_P G.1 CL [(sa, .inl (G.2 0, 830, .inl (upd (upd f (2 * (tN B) + 20) (nI d_849)) (2 * (tN B) + 21) (nI d_861)))), (za, .inl (G.2 0, 6, .inl zf)), (m0, .inr (6, [.ref sa, .ref oa, .ref pa, .ref la, .ref za, .ref na, .int (nI (min 6 (u + 1))), .int (nI ((t + 1) % 6)), .int gw, .int gd, .int gm, .int gr, .int (nI 0), .int gv])), (ta, .inl (G.2 0, 830, .inl f))] H) (hD : va_D A [(sa, .inl (G.2 0, 830, .inl (upd (upd f (2 * (tN B) + 20) (nI d_849)) (2 * (tN B) + 21) (nI d_861)))), (za, .inl (G.2 0, 6, .inl zf)), (m0, .inr (6, [.ref sa, .ref oa, .ref pa, .ref la, .ref za, .ref na, .int (nI (min 6 (u + 1))), .int (nI ((t + 1) % 6)), .int gw, .int gd, .int gm, .int gr, .int (nI 0), .int gv])), (ta, .inl (G.2 0, 830, .inl f))]) hS => ?_)
          refine lv_aload_n hx hb dX4_addTest_107 rfl (lv_at hl 0 rfl) ?_
          refine va_get hx hb hts in_X4 hown hK hP 2 rfl rfl 0 (by decide) (hts _ q1596) (fun _ h => h) rfl dX4_addTest_108 ?_
          refine lv_iconst (v := nI 3) hx hb dX4_addTest_111 (by decide) ?_
          refine lv_dup2_11 hx hb dX4_addTest_112 rfl rfl ?_
          refine r_iald (v := nI (tN B)) hx hb hK hP 0 0 rfl rfl (i := 3) (by omega) (by omega) ((pk_un (by omega)).trans ((pk_un (by omega)).trans (hM.tested))) dX4_addTest_113 ?_
          refine lv_iconst (v := nI 1) hx hb dX4_addTest_114 (by decide) ?_
          refine lv_iadd hx hb dX4_addTest_115 ?_
          refine lv_ton (n := (tN B) + 1) (nadd (by omega)) ?_
          refine r_iast hx hb hK hP hD hS 0 0 rfl rfl (i := 3) (by omega) (by omega) dX4_addTest_116 (fun H locs (hP : va_P G.1 CL [(sa, .inl (G.2 0, 830, .inl (upd (upd (upd f (2 * (tN B) + 20) (nI d_849)) (2 * (tN B) + 21) (nI d_861)) 3 (nI ((tN B) + 1))))), (za, .inl (G.2 0, 6, .inl zf)), (m0, .inr (6, [.ref sa, .ref oa, .ref pa, .ref la, .ref za, .ref na, .int (nI (min 6 (u + 1))), .int (nI ((t + 1) % 6)), .int gw, .int gd, .int gm, .int gr, .int (nI 0), .int gv])), (ta, .inl (G.2 0, 830, .inl f))] H) (hD : va_D A [(sa, .inl (G.2 0, 830, .inl (upd (upd (upd f (2 * (tN B) + 20) (nI d_849)) (2 * (tN B) + 21) (nI d_861)) 3 (nI ((tN B) + 1))))), (za, .inl (G.2 0, 6, .inl zf)), (m0, .inr (6, [.ref sa, .ref oa, .ref pa, .ref la, .ref za, .ref na, .int (nI (min 6 (u + 1))), .int (nI ((t + 1) % 6)), .int gw, .int gd, .int gm, .int gr, .int (nI 0), .int gv])), (ta, .inl (G.2 0, 830, .inl f))]) hS => ?_)
          refine lv_iconst (v := nI 0) hx hb dX4_addTest_117 (by decide) ?_
          refine lv_istore_n (lv' := [(3, .int (nI 0)), (0, .ref m0), (1, .int (nI d_849)), (2, .int (nI d_861))]) hx hb dX4_addTest_118 rfl hl (by decide) rfl (fun ls hl => ?_)
          have hM2 : MR (upd (upd (upd f (2 * (tN B) + 20) (nI d_849)) (2 * (tN B) + 21) (nI d_861)) 3 (nI ((tN B) + 1))) (wT B (bT B ++ [(d_849, d_861)])) := MR_addTest hI hM (by omega)
          have hI2 : Inv (wT B (bT B ++ [(d_849, d_861)])) := Inv_addTest hI (by omega) (by omega) (by omega) hit_873 hv_850
          refine lv_aload_n hx hb dX4_addTest_119 rfl (lv_at hl 1 rfl) ?_
          refine va_get hx hb hts in_X4 hown hK hP 2 rfl rfl 0 (by decide) (hts _ q1596) (fun _ h => h) rfl dX4_addTest_120 ?_
          refine lv_astore (lv' := [(4, .ref sa), (3, .int (nI 0)), (0, .ref m0), (1, .int (nI d_849)), (2, .int (nI d_861))]) hx hb dX4_addTest_123 hl (by decide) rfl (fun ls hl => ?_)
          refine lv_iconst (v := nI 0) hx hb dX4_addTest_125 (by decide) ?_
          refine lv_istore (lv' := [(5, .int (nI 0)), (4, .ref sa), (3, .int (nI 0)), (0, .ref m0), (1, .int (nI d_849)), (2, .int (nI d_861))]) hx hb dX4_addTest_126 hl (by decide) rfl (fun ls hl => ?_)
          have hl := lv_sub hl [3, 4, 5, 2, 1, 0] (l' := [(0, .ref m0), (1, .int (nI d_849)), (2, .int (nI d_861)), (3, .int (nI (psum (fun k9 => if loadS (wT B (bT B ++ [(d_849, d_861)])) (sAt B k9) = loadS B (sAt B k9) then 0 else 1) 0))), (4, .ref sa), (5, .int (nI 0))]) rfl
          refine lp_W (σ := Nat × (Nat → Int32)) (hpc := 128) (fun x => sN B - x.1) (fun x => 0) (fun x => 0) (fun x H locs ls => va_P G.1 CL [(sa, .inl (G.2 0, 830, .inl (upd (upd (upd f (2 * (tN B) + 20) (nI d_849)) (2 * (tN B) + 21) (nI d_861)) 3 (nI ((tN B) + 1))))), (za, .inl (G.2 0, 6, .inl x.2)), (m0, .inr (6, [.ref sa, .ref oa, .ref pa, .ref la, .ref za, .ref na, .int (nI (min 6 (u + 1))), .int (nI ((t + 1) % 6)), .int gw, .int gd, .int gm, .int gr, .int (nI 0), .int gv])), (ta, .inl (G.2 0, 830, .inl f))] H ∧ va_D A [(sa, .inl (G.2 0, 830, .inl (upd (upd (upd f (2 * (tN B) + 20) (nI d_849)) (2 * (tN B) + 21) (nI d_861)) 3 (nI ((tN B) + 1))))), (za, .inl (G.2 0, 6, .inl x.2)), (m0, .inr (6, [.ref sa, .ref oa, .ref pa, .ref la, .ref za, .ref na, .int (nI (min 6 (u + 1))), .int (nI ((t + 1) % 6)), .int gw, .int gd, .int gm, .int gr, .int (nI 0), .int gv])), (ta, .inl (G.2 0, 830, .inl f))] ∧ va_S A s.heap H locs ∧ lv_has ls 7 [(0, .ref m0), (1, .int (nI d_849)), (2, .int (nI d_861)), (3, .int (nI (psum (fun k9 => if loadS (wT B (bT B ++ [(d_849, d_861)])) (sAt B k9) = loadS B (sAt B k9) then 0 else 1) x.1))), (4, .ref sa), (5, .int (nI x.1))] ∧ (x.1 ≤ sN B)) ?_ (0, zf) ⟨(show va_P G.1 CL [(sa, .inl (G.2 0, 830, .inl (upd (upd (upd f (2 * (tN B) + 20) (nI d_849)) (2 * (tN B) + 21) (nI d_861)) 3 (nI ((tN B) + 1))))), (za, .inl (G.2 0, 6, .inl zf)), (m0, .inr (6, [.ref sa, .ref oa, .ref pa, .ref la, .ref za, .ref na, .int (nI (min 6 (u + 1))), .int (nI ((t + 1) % 6)), .int gw, .int gd, .int gm, .int gr, .int (nI 0), .int gv])), (ta, .inl (G.2 0, 830, .inl f))] H from hP), (show va_D A [(sa, .inl (G.2 0, 830, .inl (upd (upd (upd f (2 * (tN B) + 20) (nI d_849)) (2 * (tN B) + 21) (nI d_861)) 3 (nI ((tN B) + 1))))), (za, .inl (G.2 0, 6, .inl zf)), (m0, .inr (6, [.ref sa, .ref oa, .ref pa, .ref la, .ref za, .ref na, .int (nI (min 6 (u + 1))), .int (nI ((t + 1) % 6)), .int gw, .int gd, .int gm, .int gr, .int (nI 0), .int gv])), (ta, .inl (G.2 0, 830, .inl f))] from hD), hS, hl, (show 0 ≤ sN B from by omega)⟩ (show 0 ≤ 0 from by first | exact Nat.le_refl _ | omega) (show 0 ≤ 0 from by first | exact Nat.le_refl _ | omega)
          intro x H locs ls hI9 ih128
          obtain ⟨k_879, g_880⟩ := x
          obtain ⟨hP, hD, hS, hl, hp_878⟩ := hI9
          have hP : va_P G.1 CL [(sa, .inl (G.2 0, 830, .inl (upd (upd (upd f (2 * (tN B) + 20) (nI d_849)) (2 * (tN B) + 21) (nI d_861)) 3 (nI ((tN B) + 1))))), (za, .inl (G.2 0, 6, .inl g_880)), (m0, .inr (6, [.ref sa, .ref oa, .ref pa, .ref la, .ref za, .ref na, .int (nI (min 6 (u + 1))), .int (nI ((t + 1) % 6)), .int gw, .int gd, .int gm, .int gr, .int (nI 0), .int gv])), (ta, .inl (G.2 0, 830, .inl f))] H := hP
          have hD : va_D A [(sa, .inl (G.2 0, 830, .inl (upd (upd (upd f (2 * (tN B) + 20) (nI d_849)) (2 * (tN B) + 21) (nI d_861)) 3 (nI ((tN B) + 1))))), (za, .inl (G.2 0, 6, .inl g_880)), (m0, .inr (6, [.ref sa, .ref oa, .ref pa, .ref la, .ref za, .ref na, .int (nI (min 6 (u + 1))), .int (nI ((t + 1) % 6)), .int gw, .int gd, .int gm, .int gr, .int (nI 0), .int gv])), (ta, .inl (G.2 0, 830, .inl f))] := hD
          have hl : lv_has ls 7 [(0, .ref m0), (1, .int (nI d_849)), (2, .int (nI d_861)), (3, .int (nI (psum (fun k9 => if loadS (wT B (bT B ++ [(d_849, d_861)])) (sAt B k9) = loadS B (sAt B k9) then 0 else 1) k_879))), (4, .ref sa), (5, .int (nI k_879))] := hl
          have hp_878 : k_879 ≤ sN B := hp_878
          refine lv_iload hx hb dX4_addTest_128 (lv_at hl 5 rfl) ?_
          refine lv_aload hx hb dX4_addTest_130 (lv_at hl 4 rfl) ?_
          refine lv_iconst (v := nI 2) hx hb dX4_addTest_132 (by decide) ?_
          refine r_iald (v := nI (sN B)) hx hb hK hP 0 0 rfl rfl (i := 2) (by omega) (by omega) ((pk_un (by omega)).trans ((pk_un (by omega)).trans ((pk_un (by omega)).trans (hM.many)))) dX4_addTest_133 ?_
          refine n_icmp_ge (tgt := 189) hx hb (by omega) (by omega) dX4_addTest_134 (by decide) (fun c_881 => ?_) (fun c_881 => ?_)
          · have hk9 : k_879 = sN B := by omega
            have hl : lv_has ls 7 [(0, .ref m0), (1, .int (nI d_849)), (2, .int (nI d_861)), (3, .int (nI (chg B (wT B (bT B ++ [(d_849, d_861)]))))), (4, .ref sa), (5, .int (nI (sN B)))] := by rw [hk9] at hl; exact hl
            refine lv_iload_n hx hb dX4_addTest_189 rfl (lv_at hl 3 rfl) ?_
            have hq9 : o_addTest B d w = (0, nI (chg B (wT B (bT B ++ [(d_849, d_861)]))), wT B (bT B ++ [(d_849, d_861)])) := by unfold o_addTest; rw [hir_853, hir_865] <;> first | rfl | rw [if_neg (fun z => z.elim (fun w => absurd w (by omega)) (fun w => by rw [hit_873] at w; exact absurd w (by decide)))] | (rw [if_neg (fun z => z.elim (fun w => absurd w (by omega)) (fun w => by rw [hit_873] at w; exact absurd w (by decide)))]; rfl) | (dsimp only; rw [if_neg (fun z => z.elim (fun w => absurd w (by omega)) (fun w => by rw [hit_873] at w; exact absurd w (by decide)))]) | (dsimp only; rw [if_neg (fun z => z.elim (fun w => absurd w (by omega)) (fun w => by rw [hit_873] at w; exact absurd w (by decide)))]; rfl)
            have hP : va_P G.1 CL [(sa, .inl (G.2 0, 830, .inl (upd (upd (upd f (2 * (tN B) + 20) (nI d_849)) (2 * (tN B) + 21) (nI d_861)) 3 (nI ((tN B) + 1))))), (za, .inl (G.2 0, 6, .inl g_880)), (m0, .inr (6, [.ref sa, .ref oa, .ref pa, .ref la, .ref za, .ref na, .int (nI (min 6 (u + 1))), .int (nI ((t + 1) % 6)), .int gw, .int gd, .int gm, .int gr, .int (nI ((o_addTest B d w).1)), .int gv])), (ta, .inl (G.2 0, 830, .inl f))] H := by rw [hq9]; exact hP
            have hD : va_D A [(sa, .inl (G.2 0, 830, .inl (upd (upd (upd f (2 * (tN B) + 20) (nI d_849)) (2 * (tN B) + 21) (nI d_861)) 3 (nI ((tN B) + 1))))), (za, .inl (G.2 0, 6, .inl g_880)), (m0, .inr (6, [.ref sa, .ref oa, .ref pa, .ref la, .ref za, .ref na, .int (nI (min 6 (u + 1))), .int (nI ((t + 1) % 6)), .int gw, .int gd, .int gm, .int gr, .int (nI ((o_addTest B d w).1)), .int gv])), (ta, .inl (G.2 0, 830, .inl f))] := by rw [hq9]; exact hD
            have hP9 : va_P G.1 CL [(m0, .inr (6, [.ref sa, .ref oa, .ref pa, .ref la, .ref za, .ref na, .int (nI (min 6 (u + 1))), .int (nI ((t + 1) % 6)), .int gw, .int gd, .int gm, .int gr, .int (nI ((o_addTest B d w).1)), .int gv])), (sa, .inl (G.2 0, 830, .inl (upd (upd (upd f (2 * (tN B) + 20) (nI d_849)) (2 * (tN B) + 21) (nI d_861)) 3 (nI ((tN B) + 1))))), (ta, .inl (G.2 0, 830, .inl f)), (za, .inl (G.2 0, 6, .inl g_880))] H := hP.sub [2, 0, 3, 1] rfl
            have hD9 : va_D A [(m0, .inr (6, [.ref sa, .ref oa, .ref pa, .ref la, .ref za, .ref na, .int (nI (min 6 (u + 1))), .int (nI ((t + 1) % 6)), .int gw, .int gd, .int gm, .int gr, .int (nI ((o_addTest B d w).1)), .int gv])), (sa, .inl (G.2 0, 830, .inl (upd (upd (upd f (2 * (tN B) + 20) (nI d_849)) (2 * (tN B) + 21) (nI d_861)) 3 (nI ((tN B) + 1))))), (ta, .inl (G.2 0, 830, .inl f)), (za, .inl (G.2 0, 6, .inl g_880))] := hD.sub [2, 0, 3, 1] (by decide) rfl
            exact end_i hx hb hr hlk (rfl) (qc_of ⟨nI (chg B (wT B (bT B ++ [(d_849, d_861)]))), upd (upd (upd f (2 * (tN B) + 20) (nI d_849)) (2 * (tN B) + 21) (nI d_861)) 3 (nI ((tN B) + 1)), ((t + 1) % 6), (min 6 (u + 1)), f, g_880⟩ (v := some (.int (nI (chg B (wT B (bT B ++ [(d_849, d_861)])))))) (by rfl) (by rw [hq9]; exact ⟨fun z => absurd rfl z, fun _ => ⟨rfl, hM2, rfl, rfl, rfl⟩⟩) hP9 hD9 (trivial) hS) hS dX4_addTest_190 (show 0 ≤ 0 from by first | exact Nat.le_refl _ | decide | omega) (show 0 ≤ 0 from by first | exact Nat.le_refl _ | decide | omega)
          · refine lv_aload_n hx hb dX4_addTest_137 rfl (lv_at hl 0 rfl) ?_
            refine lv_iload hx hb dX4_addTest_138 (lv_at hl 5 rfl) ?_
            have hF := hF_of (wc := [(za, .inl (G.2 0, 6, .inl g_880))]) hD hS hA [1] rfl
            refine go_ct hS hP hD [1] [0, 2, 3] hF rfl rfl (by decide) (by decide)
                (va_runV (As := [.int (nI k_879)]) (rest := []) cf (mX4_loadAt l G m0 sa oa pa la za na (nI (min 6 (u + 1))) (nI ((t + 1) % 6)) gw gd gm gr (nI 0) gv (upd (upd (upd f (2 * (tN B) + 20) (nI d_849)) (2 * (tN B) + 21) (nI d_861)) 3 (nI ((tN B) + 1))) (wT B (bT B ++ [(d_849, d_861)])) g_880 k_879 (hM2) (hI2) (show k_879 < sN B from by omega) H.size) (cwV 1 hts (lw_V q1675 q1677 qs24 q58 q1678) rfl rfl rfl (by decide +kernel) ⟨Nat.le_of_ble_eq_true rfl, Nat.le_of_ble_eq_true rfl⟩) (preV_of hKB hE hS hF (va_recv hK hP (ci := 6) (q0 := 2) rfl rfl) (va_P.sub hP [1] rfl) ((va_D.sub hD [1] (by decide) rfl).weaken (fun _ _ _ _ => trivial)) (roW.of (w' := [(m0, .inr (6, [.ref sa, .ref oa, .ref pa, .ref la, .ref za, .ref na, .int (nI (min 6 (u + 1))), .int (nI ((t + 1) % 6)), .int gw, .int gd, .int gm, .int gr, .int (nI 0), .int gv])), (sa, .inl (G.2 0, 830, .inl (upd (upd (upd f (2 * (tN B) + 20) (nI d_849)) (2 * (tN B) + 21) (nI d_861)) 3 (nI ((tN B) + 1)))))]) hP hD [1] [2, 0] rfl rfl (by decide))) rfl rfl hl.1 rfl (lv_room (Nat.le_of_ble_eq_true rfl)) dX4_addTest_140 ⟨show 0 + 0 ≤ 0 from by first | decide | omega, show 0 + 0 ≤ 0 from by first | decide | omega⟩)
                (fun u_ H locs hq hph (hP : va_P G.1 CL [(sa, .inl (G.2 0, 830, .inl (upd (upd (upd f (2 * (tN B) + 20) (nI d_849)) (2 * (tN B) + 21) (nI d_861)) 3 (nI ((tN B) + 1))))), (m0, .inr (6, [.ref sa, .ref oa, .ref pa, .ref la, .ref za, .ref na, .int (nI (min 6 (u + 1))), .int (nI ((t + 1) % 6)), .int gw, .int gd, .int gm, .int gr, .int (nI 0), .int gv])), (ta, .inl (G.2 0, 830, .inl f)), (za, .inl (G.2 0, 6, .inl (zAdd zz (wT B (bT B ++ [(d_849, d_861)])) (sAt (wT B (bT B ++ [(d_849, d_861)])) k_879) (nP (sAt (wT B (bT B ++ [(d_849, d_861)])) k_879)))))] H) (hD : va_D A [(sa, .inl (G.2 0, 830, .inl (upd (upd (upd f (2 * (tN B) + 20) (nI d_849)) (2 * (tN B) + 21) (nI d_861)) 3 (nI ((tN B) + 1))))), (m0, .inr (6, [.ref sa, .ref oa, .ref pa, .ref la, .ref za, .ref na, .int (nI (min 6 (u + 1))), .int (nI ((t + 1) % 6)), .int gw, .int gd, .int gm, .int gr, .int (nI 0), .int gv])), (ta, .inl (G.2 0, 830, .inl f)), (za, .inl (G.2 0, 6, .inl (zAdd zz (wT B (bT B ++ [(d_849, d_861)])) (sAt (wT B (bT B ++ [(d_849, d_861)])) k_879) (nP (sAt (wT B (bT B ++ [(d_849, d_861)])) k_879)))))]) hS hfz hfk => ?_)
            refine W.eq (g2 := F0 m 143 ls [.int (nI (loadS (wT B (bT B ++ [(d_849, d_861)])) (sAt (wT B (bT B ++ [(d_849, d_861)])) k_879)))]) rfl ?_
            refine lv_ton (n := (loadS (wT B (bT B ++ [(d_849, d_861)])) (sAt B k_879))) (rfl) ?_
            have hl1 := loadS_le' hI2 (sAt B k_879) (Nat.le_refl (nP (sAt B k_879)))
            have hl2 : loadS (wT B (bT B ++ [(d_849, d_861)])) (sAt B k_879) ≤ 24000 := loadS_le hI2 (x := sAt (wT B (bT B ++ [(d_849, d_861)])) k_879) (iv_ses hI2 (k := k_879) (show k_879 < sN B from by omega))
            have hl3 : loadS B (sAt B k_879) ≤ 24000 := loadS_le hI (iv_ses hI (by omega))
            refine lv_istore (lv' := [(6, .int (nI (loadS (wT B (bT B ++ [(d_849, d_861)])) (sAt B k_879)))), (0, .ref m0), (1, .int (nI d_849)), (2, .int (nI d_861)), (3, .int (nI (psum (fun k9 => if loadS (wT B (bT B ++ [(d_849, d_861)])) (sAt B k9) = loadS B (sAt B k9) then 0 else 1) k_879))), (4, .ref sa), (5, .int (nI k_879))]) hx hb dX4_addTest_143 hl (by decide) rfl (fun ls hl => ?_)
            refine lv_aload_n hx hb dX4_addTest_145 rfl (lv_at hl 1 rfl) ?_
            refine lv_aload_n hx hb dX4_addTest_146 rfl (lv_at hl 1 rfl) ?_
            refine va_get hx hb hts in_X4 hown hK hP 1 rfl rfl 1 (by decide) (hts _ q1597) (fun _ h => h) rfl dX4_addTest_147 ?_
            refine lv_aload_n hx hb dX4_addTest_150 rfl (lv_at hl 1 rfl) ?_
            refine va_get hx hb hts in_X4 hown hK hP 1 rfl rfl 7 (by decide) (hts _ q1603) (fun _ h => h) rfl dX4_addTest_151 ?_
            refine r_aaldI (v := ta) hx hb hK (hR0.w hS) 0 7 rfl rfl (i := ((t + 1) % 6)) (by omega) (by omega) (hog) dX4_addTest_154 ?_
            refine va_put (v := .ref ta) (ty := (.array .int)) hx hb hts in_X4 tyX4 tyX4_ok nmX4 hown hK hP hD hS 1 rfl rfl 0 (by decide) (hts _ q1596) (fun _ h => h) rfl (by decide +kernel) rfl rfl (Nat.le_of_ble_eq_true rfl) dX4_addTest_155 (fun H locs (hP : va_P G.1 CL [(sa, .inl (G.2 0, 830, .inl (upd (upd (upd f (2 * (tN B) + 20) (nI d_849)) (2 * (tN B) + 21) (nI d_861)) 3 (nI ((tN B) + 1))))), (m0, .inr (6, [.ref ta, .ref oa, .ref pa, .ref la, .ref za, .ref na, .int (nI (min 6 (u + 1))), .int (nI ((t + 1) % 6)), .int gw, .int gd, .int gm, .int gr, .int (nI 0), .int gv])), (ta, .inl (G.2 0, 830, .inl f)), (za, .inl (G.2 0, 6, .inl (zAdd zz (wT B (bT B ++ [(d_849, d_861)])) (sAt (wT B (bT B ++ [(d_849, d_861)])) k_879) (nP (sAt (wT B (bT B ++ [(d_849, d_861)])) k_879)))))] H) (hD : va_D A [(sa, .inl (G.2 0, 830, .inl (upd (upd (upd f (2 * (tN B) + 20) (nI d_849)) (2 * (tN B) + 21) (nI d_861)) 3 (nI ((tN B) + 1))))), (m0, .inr (6, [.ref ta, .ref oa, .ref pa, .ref la, .ref za, .ref na, .int (nI (min 6 (u + 1))), .int (nI ((t + 1) % 6)), .int gw, .int gd, .int gm, .int gr, .int (nI 0), .int gv])), (ta, .inl (G.2 0, 830, .inl f)), (za, .inl (G.2 0, 6, .inl (zAdd zz (wT B (bT B ++ [(d_849, d_861)])) (sAt (wT B (bT B ++ [(d_849, d_861)])) k_879) (nP (sAt (wT B (bT B ++ [(d_849, d_861)])) k_879)))))]) hS => ?_)
            refine lv_iload_n hx hb dX4_addTest_158 rfl (lv_at hl 4 rfl) ?_
            refine lv_aload_n hx hb dX4_addTest_159 rfl (lv_at hl 1 rfl) ?_
            refine lv_iload hx hb dX4_addTest_160 (lv_at hl 6 rfl) ?_
            have hF := hF_of (wc := [(za, .inl (G.2 0, 6, .inl (zAdd zz (wT B (bT B ++ [(d_849, d_861)])) (sAt (wT B (bT B ++ [(d_849, d_861)])) k_879) (nP (sAt (wT B (bT B ++ [(d_849, d_861)])) k_879)))))]) hD hS hA [3] rfl
            refine go_ct hS hP hD [3] [0, 1, 2] hF rfl rfl (by decide) (by decide)
                (va_runV (As := [.int (nI k_879)]) (rest := [.int (nI (psum (fun k9 => if loadS (wT B (bT B ++ [(d_849, d_861)])) (sAt B k9) = loadS B (sAt B k9) then 0 else 1) k_879))]) cf (mX4_loadAt l G m0 ta oa pa la za na (nI (min 6 (u + 1))) (nI ((t + 1) % 6)) gw gd gm gr (nI 0) gv f B (zAdd zz (wT B (bT B ++ [(d_849, d_861)])) (sAt (wT B (bT B ++ [(d_849, d_861)])) k_879) (nP (sAt (wT B (bT B ++ [(d_849, d_861)])) k_879))) k_879 (show MR f B from by first | assumption | omega) (show Inv B from by first | assumption | omega) (show k_879 < sN B from by first | assumption | omega) H.size) (cwV 1 hts (lw_V q1675 q1677 qs24 q58 q1678) rfl rfl rfl (by decide +kernel) ⟨Nat.le_of_ble_eq_true rfl, Nat.le_of_ble_eq_true rfl⟩) (preV_of hKB hE hS hF (va_recv hK hP (ci := 6) (q0 := 1) rfl rfl) (va_P.sub hP [3] rfl) ((va_D.sub hD [3] (by decide) rfl).weaken (fun _ _ _ _ => trivial)) (roW.of (w' := [(m0, .inr (6, [.ref ta, .ref oa, .ref pa, .ref la, .ref za, .ref na, .int (nI (min 6 (u + 1))), .int (nI ((t + 1) % 6)), .int gw, .int gd, .int gm, .int gr, .int (nI 0), .int gv])), (ta, .inl (G.2 0, 830, .inl f))]) hP hD [3] [1, 2] rfl rfl (by decide))) rfl rfl hl.1 rfl (lv_room (Nat.le_of_ble_eq_true rfl)) dX4_addTest_162 ⟨show 0 + 0 ≤ 0 from by first | decide | omega, show 0 + 0 ≤ 0 from by first | decide | omega⟩)
                (fun u_ H locs hq hph (hP : va_P G.1 CL [(sa, .inl (G.2 0, 830, .inl (upd (upd (upd f (2 * (tN B) + 20) (nI d_849)) (2 * (tN B) + 21) (nI d_861)) 3 (nI ((tN B) + 1))))), (m0, .inr (6, [.ref ta, .ref oa, .ref pa, .ref la, .ref za, .ref na, .int (nI (min 6 (u + 1))), .int (nI ((t + 1) % 6)), .int gw, .int gd, .int gm, .int gr, .int (nI 0), .int gv])), (ta, .inl (G.2 0, 830, .inl f)), (za, .inl (G.2 0, 6, .inl (zAdd zz B (sAt B k_879) (nP (sAt B k_879)))))] H) (hD : va_D A [(sa, .inl (G.2 0, 830, .inl (upd (upd (upd f (2 * (tN B) + 20) (nI d_849)) (2 * (tN B) + 21) (nI d_861)) 3 (nI ((tN B) + 1))))), (m0, .inr (6, [.ref ta, .ref oa, .ref pa, .ref la, .ref za, .ref na, .int (nI (min 6 (u + 1))), .int (nI ((t + 1) % 6)), .int gw, .int gd, .int gm, .int gr, .int (nI 0), .int gv])), (ta, .inl (G.2 0, 830, .inl f)), (za, .inl (G.2 0, 6, .inl (zAdd zz B (sAt B k_879) (nP (sAt B k_879)))))]) hS hfz hfk => ?_)
            refine W.eq (g2 := F0 m 165 ls [.int (nI (loadS B (sAt B k_879))), .int (nI (psum (fun k9 => if loadS (wT B (bT B ++ [(d_849, d_861)])) (sAt B k9) = loadS B (sAt B k9) then 0 else 1) k_879))]) rfl ?_
            refine lv_iload hx hb dX4_addTest_165 (lv_at hl 0 rfl) ?_
            refine n_icmp_ne (tgt := 174) hx hb (by omega) (by omega) dX4_addTest_167 (by decide) (fun c_882 => ?_) (fun c_882 => ?_)
            · refine lv_iconst (v := nI 1) hx hb dX4_addTest_174 (by decide) ?_
              refine lv_iadd hx hb dX4_addTest_175 ?_
              refine lv_ton (n := (psum (fun k9 => if loadS (wT B (bT B ++ [(d_849, d_861)])) (sAt B k9) = loadS B (sAt B k9) then 0 else 1) k_879) + 1) (nadd (by omega)) ?_
              refine lv_ton (n := (psum (fun k9 => if loadS (wT B (bT B ++ [(d_849, d_861)])) (sAt B k9) = loadS B (sAt B k9) then 0 else 1) (k_879 + 1))) (congrArg nI (by simp only [psum]; first | (rw [if_pos (by omega)] <;> omega) | (rw [if_neg (by omega)] <;> omega))) ?_
              refine lv_istore_n (lv' := [(3, .int (nI (psum (fun k9 => if loadS (wT B (bT B ++ [(d_849, d_861)])) (sAt B k9) = loadS B (sAt B k9) then 0 else 1) (k_879 + 1)))), (6, .int (nI (loadS (wT B (bT B ++ [(d_849, d_861)])) (sAt B k_879)))), (0, .ref m0), (1, .int (nI d_849)), (2, .int (nI d_861)), (4, .ref sa), (5, .int (nI k_879))]) hx hb dX4_addTest_176 rfl hl (by decide) rfl (fun ls hl => ?_)
              refine lv_aload_n hx hb dX4_addTest_177 rfl (lv_at hl 2 rfl) ?_
              refine lv_aload hx hb dX4_addTest_178 (lv_at hl 5 rfl) ?_
              refine va_put (v := .ref sa) (ty := (.array .int)) hx hb hts in_X4 tyX4 tyX4_ok nmX4 hown hK hP hD hS 1 rfl rfl 0 (by decide) (hts _ q1596) (fun _ h => h) rfl (by decide +kernel) rfl rfl (Nat.le_of_ble_eq_true rfl) dX4_addTest_180 (fun H locs (hP : va_P G.1 CL [(sa, .inl (G.2 0, 830, .inl (upd (upd (upd f (2 * (tN B) + 20) (nI d_849)) (2 * (tN B) + 21) (nI d_861)) 3 (nI ((tN B) + 1))))), (m0, .inr (6, [.ref sa, .ref oa, .ref pa, .ref la, .ref za, .ref na, .int (nI (min 6 (u + 1))), .int (nI ((t + 1) % 6)), .int gw, .int gd, .int gm, .int gr, .int (nI 0), .int gv])), (ta, .inl (G.2 0, 830, .inl f)), (za, .inl (G.2 0, 6, .inl (zAdd zz B (sAt B k_879) (nP (sAt B k_879)))))] H) (hD : va_D A [(sa, .inl (G.2 0, 830, .inl (upd (upd (upd f (2 * (tN B) + 20) (nI d_849)) (2 * (tN B) + 21) (nI d_861)) 3 (nI ((tN B) + 1))))), (m0, .inr (6, [.ref sa, .ref oa, .ref pa, .ref la, .ref za, .ref na, .int (nI (min 6 (u + 1))), .int (nI ((t + 1) % 6)), .int gw, .int gd, .int gm, .int gr, .int (nI 0), .int gv])), (ta, .inl (G.2 0, 830, .inl f)), (za, .inl (G.2 0, 6, .inl (zAdd zz B (sAt B k_879) (nP (sAt B k_879)))))]) hS => ?_)
              refine lv_iinc (v := nI (k_879 + 1)) (lv' := [(5, .int (nI (k_879 + 1))), (3, .int (nI (psum (fun k9 => if loadS (wT B (bT B ++ [(d_849, d_861)])) (sAt B k9) = loadS B (sAt B k9) then 0 else 1) (k_879 + 1)))), (6, .int (nI (loadS (wT B (bT B ++ [(d_849, d_861)])) (sAt B k_879)))), (0, .ref m0), (1, .int (nI d_849)), (2, .int (nI d_861)), (4, .ref sa)]) hx hb dX4_addTest_183 hl (k := 6) rfl (ninc (b := 1) (by decide) (by omega)) (by decide) rfl (fun ls hl => ?_)
              refine lv_goto (tgt := 128) hx hb dX4_addTest_186 (by decide) ?_
              have hP : va_P G.1 CL [(sa, .inl (G.2 0, 830, .inl (upd (upd (upd f (2 * (tN B) + 20) (nI d_849)) (2 * (tN B) + 21) (nI d_861)) 3 (nI ((tN B) + 1))))), (za, .inl (G.2 0, 6, .inl (zAdd zz B (sAt B k_879) (nP (sAt B k_879))))), (m0, .inr (6, [.ref sa, .ref oa, .ref pa, .ref la, .ref za, .ref na, .int (nI (min 6 (u + 1))), .int (nI ((t + 1) % 6)), .int gw, .int gd, .int gm, .int gr, .int (nI 0), .int gv])), (ta, .inl (G.2 0, 830, .inl f))] H := hP.sub [0, 3, 1, 2] rfl
              have hD : va_D A [(sa, .inl (G.2 0, 830, .inl (upd (upd (upd f (2 * (tN B) + 20) (nI d_849)) (2 * (tN B) + 21) (nI d_861)) 3 (nI ((tN B) + 1))))), (za, .inl (G.2 0, 6, .inl (zAdd zz B (sAt B k_879) (nP (sAt B k_879))))), (m0, .inr (6, [.ref sa, .ref oa, .ref pa, .ref la, .ref za, .ref na, .int (nI (min 6 (u + 1))), .int (nI ((t + 1) % 6)), .int gw, .int gd, .int gm, .int gr, .int (nI 0), .int gv])), (ta, .inl (G.2 0, 830, .inl f))] := hD.sub [0, 3, 1, 2] (by decide) rfl
              have hl := lv_sub hl [3, 4, 5, 1, 6, 0] (l' := [(0, .ref m0), (1, .int (nI d_849)), (2, .int (nI d_861)), (3, .int (nI (psum (fun k9 => if loadS (wT B (bT B ++ [(d_849, d_861)])) (sAt B k9) = loadS B (sAt B k9) then 0 else 1) (k_879 + 1)))), (4, .ref sa), (5, .int (nI (k_879 + 1)))]) rfl
              exact W.widen (show 0 ≤ 0 from by first | exact Nat.le_refl _ | omega) (show 0 ≤ 0 from by first | exact Nat.le_refl _ | omega) (ih128 ((k_879 + 1), zAdd zz B (sAt B k_879) (nP (sAt B k_879))) H locs ls ⟨hP, hD, hS, hl, (show (k_879 + 1) ≤ sN B from by omega)⟩ (show sN B - (k_879 + 1) < sN B - k_879 from by omega))
            · refine lv_iconst (v := nI 0) hx hb dX4_addTest_170 (by decide) ?_
              refine lv_goto (tgt := 175) hx hb dX4_addTest_171 (by decide) ?_
              refine lv_iadd hx hb dX4_addTest_175 ?_
              refine lv_ton (n := (psum (fun k9 => if loadS (wT B (bT B ++ [(d_849, d_861)])) (sAt B k9) = loadS B (sAt B k9) then 0 else 1) k_879)) (nadd (by omega)) ?_
              refine lv_ton (n := (psum (fun k9 => if loadS (wT B (bT B ++ [(d_849, d_861)])) (sAt B k9) = loadS B (sAt B k9) then 0 else 1) (k_879 + 1))) (congrArg nI (by simp only [psum]; first | (rw [if_pos (by omega)] <;> omega) | (rw [if_neg (by omega)] <;> omega))) ?_
              refine lv_istore_n (lv' := [(3, .int (nI (psum (fun k9 => if loadS (wT B (bT B ++ [(d_849, d_861)])) (sAt B k9) = loadS B (sAt B k9) then 0 else 1) (k_879 + 1)))), (6, .int (nI (loadS (wT B (bT B ++ [(d_849, d_861)])) (sAt B k_879)))), (0, .ref m0), (1, .int (nI d_849)), (2, .int (nI d_861)), (4, .ref sa), (5, .int (nI k_879))]) hx hb dX4_addTest_176 rfl hl (by decide) rfl (fun ls hl => ?_)
              refine lv_aload_n hx hb dX4_addTest_177 rfl (lv_at hl 2 rfl) ?_
              refine lv_aload hx hb dX4_addTest_178 (lv_at hl 5 rfl) ?_
              refine va_put (v := .ref sa) (ty := (.array .int)) hx hb hts in_X4 tyX4 tyX4_ok nmX4 hown hK hP hD hS 1 rfl rfl 0 (by decide) (hts _ q1596) (fun _ h => h) rfl (by decide +kernel) rfl rfl (Nat.le_of_ble_eq_true rfl) dX4_addTest_180 (fun H locs (hP : va_P G.1 CL [(sa, .inl (G.2 0, 830, .inl (upd (upd (upd f (2 * (tN B) + 20) (nI d_849)) (2 * (tN B) + 21) (nI d_861)) 3 (nI ((tN B) + 1))))), (m0, .inr (6, [.ref sa, .ref oa, .ref pa, .ref la, .ref za, .ref na, .int (nI (min 6 (u + 1))), .int (nI ((t + 1) % 6)), .int gw, .int gd, .int gm, .int gr, .int (nI 0), .int gv])), (ta, .inl (G.2 0, 830, .inl f)), (za, .inl (G.2 0, 6, .inl (zAdd zz B (sAt B k_879) (nP (sAt B k_879)))))] H) (hD : va_D A [(sa, .inl (G.2 0, 830, .inl (upd (upd (upd f (2 * (tN B) + 20) (nI d_849)) (2 * (tN B) + 21) (nI d_861)) 3 (nI ((tN B) + 1))))), (m0, .inr (6, [.ref sa, .ref oa, .ref pa, .ref la, .ref za, .ref na, .int (nI (min 6 (u + 1))), .int (nI ((t + 1) % 6)), .int gw, .int gd, .int gm, .int gr, .int (nI 0), .int gv])), (ta, .inl (G.2 0, 830, .inl f)), (za, .inl (G.2 0, 6, .inl (zAdd zz B (sAt B k_879) (nP (sAt B k_879)))))]) hS => ?_)
              refine lv_iinc (v := nI (k_879 + 1)) (lv' := [(5, .int (nI (k_879 + 1))), (3, .int (nI (psum (fun k9 => if loadS (wT B (bT B ++ [(d_849, d_861)])) (sAt B k9) = loadS B (sAt B k9) then 0 else 1) (k_879 + 1)))), (6, .int (nI (loadS (wT B (bT B ++ [(d_849, d_861)])) (sAt B k_879)))), (0, .ref m0), (1, .int (nI d_849)), (2, .int (nI d_861)), (4, .ref sa)]) hx hb dX4_addTest_183 hl (k := 6) rfl (ninc (b := 1) (by decide) (by omega)) (by decide) rfl (fun ls hl => ?_)
              refine lv_goto (tgt := 128) hx hb dX4_addTest_186 (by decide) ?_
              have hP : va_P G.1 CL [(sa, .inl (G.2 0, 830, .inl (upd (upd (upd f (2 * (tN B) + 20) (nI d_849)) (2 * (tN B) + 21) (nI d_861)) 3 (nI ((tN B) + 1))))), (za, .inl (G.2 0, 6, .inl (zAdd zz B (sAt B k_879) (nP (sAt B k_879))))), (m0, .inr (6, [.ref sa, .ref oa, .ref pa, .ref la, .ref za, .ref na, .int (nI (min 6 (u + 1))), .int (nI ((t + 1) % 6)), .int gw, .int gd, .int gm, .int gr, .int (nI 0), .int gv])), (ta, .inl (G.2 0, 830, .inl f))] H := hP.sub [0, 3, 1, 2] rfl
              have hD : va_D A [(sa, .inl (G.2 0, 830, .inl (upd (upd (upd f (2 * (tN B) + 20) (nI d_849)) (2 * (tN B) + 21) (nI d_861)) 3 (nI ((tN B) + 1))))), (za, .inl (G.2 0, 6, .inl (zAdd zz B (sAt B k_879) (nP (sAt B k_879))))), (m0, .inr (6, [.ref sa, .ref oa, .ref pa, .ref la, .ref za, .ref na, .int (nI (min 6 (u + 1))), .int (nI ((t + 1) % 6)), .int gw, .int gd, .int gm, .int gr, .int (nI 0), .int gv])), (ta, .inl (G.2 0, 830, .inl f))] := hD.sub [0, 3, 1, 2] (by decide) rfl
              have hl := lv_sub hl [3, 4, 5, 1, 6, 0] (l' := [(0, .ref m0), (1, .int (nI d_849)), (2, .int (nI d_861)), (3, .int (nI (psum (fun k9 => if loadS (wT B (bT B ++ [(d_849, d_861)])) (sAt B k9) = loadS B (sAt B k9) then 0 else 1) (k_879 + 1)))), (4, .ref sa), (5, .int (nI (k_879 + 1)))]) rfl
              exact W.widen (show 0 ≤ 0 from by first | exact Nat.le_refl _ | omega) (show 0 ≤ 0 from by first | exact Nat.le_refl _ | omega) (ih128 ((k_879 + 1), zAdd zz B (sAt B k_879) (nP (sAt B k_879))) H locs ls ⟨hP, hD, hS, hl, (show (k_879 + 1) ≤ sN B from by omega)⟩ (show sN B - (k_879 + 1) < sN B - k_879 from by omega))
        · refine lv_ton (n := k_874) rfl ?_
          have hkk : k_874 < tN B := (hq_872).1
          refine n_if_lt (tgt := 57) hx hb (by omega) dX4_addTest_50 (by decide) ?_
          refine lv_iconst (v := nI 1) hx hb dX4_addTest_53 (by decide) ?_
          refine lv_goto (tgt := 58) hx hb dX4_addTest_54 (by decide) ?_
          refine lv_iconst (v := nI 2) hx hb dX4_addTest_58 (by decide) ?_
          have hF := hF_of (wc := [(m0, .inr (6, [.ref sa, .ref oa, .ref pa, .ref la, .ref za, .ref na, .int (nI u), .int (nI t), .int gw, .int gd, .int gm, .int gr, .int (nI 0), .int gv]))]) hD hS hA [3] rfl
          refine go_ct hS hP hD [3] [0, 1, 2] hF rfl rfl (by decide) (by decide)
              (va_runV (As := [.int (nI 1), .int (nI 2)]) (rest := []) cf (mX4_isThrown_t l G m0 sa oa pa la za na (nI u) (nI t) gw gd gm gr (nI 0) gv 2  H.size) (cwV 2 hts (lw_V q1650 q1652 qs20 q58 q1653) rfl rfl rfl (by decide +kernel) ⟨Nat.le_of_ble_eq_true rfl, Nat.le_of_ble_eq_true rfl⟩) (preV_of hKB hE hS hF (va_recv hK hP (ci := 6) (q0 := 3) rfl rfl) (va_P.sub hP [3] rfl) ((va_D.sub hD [3] (by decide) rfl).weaken (fun _ _ _ _ => trivial)) trivial) rfl rfl hl.1 rfl (lv_room (Nat.le_of_ble_eq_true rfl)) dX4_addTest_59 ⟨show 0 + 0 ≤ 0 from by first | decide | omega, show 0 + 0 ≤ 0 from by first | decide | omega⟩)
              (fun u_ H locs hq hph (hP : va_P G.1 CL [(sa, .inl (G.2 0, 830, .inl f)), (ta, .inl (G.2 0, 830, .inl h)), (za, .inl (G.2 0, 6, .inl zf)), (m0, .inr (6, [.ref sa, .ref oa, .ref pa, .ref la, .ref za, .ref na, .int (nI u), .int (nI t), .int gw, .int gd, .int gm, .int gr, .int (nI 2), .int gv]))] H) (hD : va_D A [(sa, .inl (G.2 0, 830, .inl f)), (ta, .inl (G.2 0, 830, .inl h)), (za, .inl (G.2 0, 6, .inl zf)), (m0, .inr (6, [.ref sa, .ref oa, .ref pa, .ref la, .ref za, .ref na, .int (nI u), .int (nI t), .int gw, .int gd, .int gm, .int gr, .int (nI 2), .int gv]))]) hS hfz hfk => ?_)
          refine W.eq (g2 := F0 m 62 ls [.int (nI 1)]) rfl ?_
          refine n_if_eq (tgt := 67) hx hb (by omega) dX4_addTest_62 (by decide) (fun c_883 => absurd c_883 (by omega)) (fun c_883 => ?_)
          refine lv_iconst (v := nI 0) hx hb dX4_addTest_65 (by decide) ?_
          have hq9 : o_addTest B d w = (2, 0, B) := by unfold o_addTest; rw [hir_853, hir_865] <;> first | rfl | rw [if_pos (by first | exact Or.inl (by omega) | exact Or.inr (by rw [hit_873]; rfl))] | (rw [if_pos (by first | exact Or.inl (by omega) | exact Or.inr (by rw [hit_873]; rfl))]; rfl) | (dsimp only; rw [if_pos (by first | exact Or.inl (by omega) | exact Or.inr (by rw [hit_873]; rfl))]) | (dsimp only; rw [if_pos (by first | exact Or.inl (by omega) | exact Or.inr (by rw [hit_873]; rfl))]; rfl)
          have hP : va_P G.1 CL [(sa, .inl (G.2 0, 830, .inl f)), (ta, .inl (G.2 0, 830, .inl h)), (za, .inl (G.2 0, 6, .inl zf)), (m0, .inr (6, [.ref sa, .ref oa, .ref pa, .ref la, .ref za, .ref na, .int (nI u), .int (nI t), .int gw, .int gd, .int gm, .int gr, .int (nI ((o_addTest B d w).1)), .int gv]))] H := by rw [hq9]; exact hP
          have hD : va_D A [(sa, .inl (G.2 0, 830, .inl f)), (ta, .inl (G.2 0, 830, .inl h)), (za, .inl (G.2 0, 6, .inl zf)), (m0, .inr (6, [.ref sa, .ref oa, .ref pa, .ref la, .ref za, .ref na, .int (nI u), .int (nI t), .int gw, .int gd, .int gm, .int gr, .int (nI ((o_addTest B d w).1)), .int gv]))] := by rw [hq9]; exact hD
          have hP9 : va_P G.1 CL [(m0, .inr (6, [.ref sa, .ref oa, .ref pa, .ref la, .ref za, .ref na, .int (nI u), .int (nI t), .int gw, .int gd, .int gm, .int gr, .int (nI ((o_addTest B d w).1)), .int gv])), (sa, .inl (G.2 0, 830, .inl f)), (ta, .inl (G.2 0, 830, .inl h)), (za, .inl (G.2 0, 6, .inl zf))] H := hP.sub [3, 0, 1, 2] rfl
          have hD9 : va_D A [(m0, .inr (6, [.ref sa, .ref oa, .ref pa, .ref la, .ref za, .ref na, .int (nI u), .int (nI t), .int gw, .int gd, .int gm, .int gr, .int (nI ((o_addTest B d w).1)), .int gv])), (sa, .inl (G.2 0, 830, .inl f)), (ta, .inl (G.2 0, 830, .inl h)), (za, .inl (G.2 0, 6, .inl zf))] := hD.sub [3, 0, 1, 2] (by decide) rfl
          exact end_i hx hb hr hlk (rfl) (qc_of ⟨nI 0, f, t, u, h, zf⟩ (v := some (.int (nI 0))) (by rfl) (by rw [hq9]; exact ⟨fun _ => ⟨rfl, rfl, rfl, rfl⟩, fun z => absurd (show (2 : Nat) = 0 from z) (by decide)⟩) hP9 hD9 (trivial) hS) hS dX4_addTest_66 (show 0 ≤ 0 from by first | exact Nat.le_refl _ | decide | omega) (show 0 ≤ 0 from by first | exact Nat.le_refl _ | decide | omega)
  · refine lv_ton (n := 1) rfl ?_
    have hir_884 : inR d 0 (bD B) = none := inR_none (fun z => absurd z (hq_847.mp rfl))
    refine n_if_ne (tgt := 21) hx hb (by omega) dX4_addTest_6 (by decide) (fun c_885 => ?_) (fun c_885 => absurd c_885 (by omega))
    refine lv_iconst (v := nI 1) hx hb dX4_addTest_21 (by decide) ?_
    refine lv_goto (tgt := 26) hx hb dX4_addTest_22 (by decide) ?_
    refine lv_iconst (v := nI 1) hx hb dX4_addTest_26 (by decide) ?_
    have hF := hF_of (wc := [(m0, .inr (6, [.ref sa, .ref oa, .ref pa, .ref la, .ref za, .ref na, .int (nI u), .int (nI t), .int gw, .int gd, .int gm, .int gr, .int gh, .int gv]))]) hD hS hA [0] rfl
    refine go_ct hS hP hD [0] [1, 2, 3] hF rfl rfl (by decide) (by decide)
        (va_runV (As := [.int (nI 1), .int (nI 1)]) (rest := []) cf (mX4_isThrown_t l G m0 sa oa pa la za na (nI u) (nI t) gw gd gm gr gh gv 1  H.size) (cwV 2 hts (lw_V q1650 q1652 qs20 q58 q1653) rfl rfl rfl (by decide +kernel) ⟨Nat.le_of_ble_eq_true rfl, Nat.le_of_ble_eq_true rfl⟩) (preV_of hKB hE hS hF (va_recv hK hP (ci := 6) (q0 := 0) rfl rfl) (va_P.sub hP [0] rfl) ((va_D.sub hD [0] (by decide) rfl).weaken (fun _ _ _ _ => trivial)) trivial) rfl rfl hl.1 rfl (lv_room (Nat.le_of_ble_eq_true rfl)) dX4_addTest_27 ⟨show 0 + 0 ≤ 0 from by first | decide | omega, show 0 + 0 ≤ 0 from by first | decide | omega⟩)
        (fun u_ H locs hq hph (hP : va_P G.1 CL [(sa, .inl (G.2 0, 830, .inl f)), (ta, .inl (G.2 0, 830, .inl h)), (za, .inl (G.2 0, 6, .inl zf)), (m0, .inr (6, [.ref sa, .ref oa, .ref pa, .ref la, .ref za, .ref na, .int (nI u), .int (nI t), .int gw, .int gd, .int gm, .int gr, .int (nI 1), .int gv]))] H) (hD : va_D A [(sa, .inl (G.2 0, 830, .inl f)), (ta, .inl (G.2 0, 830, .inl h)), (za, .inl (G.2 0, 6, .inl zf)), (m0, .inr (6, [.ref sa, .ref oa, .ref pa, .ref la, .ref za, .ref na, .int (nI u), .int (nI t), .int gw, .int gd, .int gm, .int gr, .int (nI 1), .int gv]))]) hS hfz hfk => ?_)
    refine W.eq (g2 := F0 m 30 ls [.int (nI 1)]) rfl ?_
    refine n_if_ne (tgt := 65) hx hb (by omega) dX4_addTest_30 (by decide) (fun c_886 => ?_) (fun c_886 => absurd c_886 (by omega))
    refine lv_iconst (v := nI 0) hx hb dX4_addTest_65 (by decide) ?_
    have hq9 : o_addTest B d w = (1, 0, B) := by unfold o_addTest; rw [hir_884] <;> rfl
    have hP : va_P G.1 CL [(sa, .inl (G.2 0, 830, .inl f)), (ta, .inl (G.2 0, 830, .inl h)), (za, .inl (G.2 0, 6, .inl zf)), (m0, .inr (6, [.ref sa, .ref oa, .ref pa, .ref la, .ref za, .ref na, .int (nI u), .int (nI t), .int gw, .int gd, .int gm, .int gr, .int (nI ((o_addTest B d w).1)), .int gv]))] H := by rw [hq9]; exact hP
    have hD : va_D A [(sa, .inl (G.2 0, 830, .inl f)), (ta, .inl (G.2 0, 830, .inl h)), (za, .inl (G.2 0, 6, .inl zf)), (m0, .inr (6, [.ref sa, .ref oa, .ref pa, .ref la, .ref za, .ref na, .int (nI u), .int (nI t), .int gw, .int gd, .int gm, .int gr, .int (nI ((o_addTest B d w).1)), .int gv]))] := by rw [hq9]; exact hD
    have hP9 : va_P G.1 CL [(m0, .inr (6, [.ref sa, .ref oa, .ref pa, .ref la, .ref za, .ref na, .int (nI u), .int (nI t), .int gw, .int gd, .int gm, .int gr, .int (nI ((o_addTest B d w).1)), .int gv])), (sa, .inl (G.2 0, 830, .inl f)), (ta, .inl (G.2 0, 830, .inl h)), (za, .inl (G.2 0, 6, .inl zf))] H := hP.sub [3, 0, 1, 2] rfl
    have hD9 : va_D A [(m0, .inr (6, [.ref sa, .ref oa, .ref pa, .ref la, .ref za, .ref na, .int (nI u), .int (nI t), .int gw, .int gd, .int gm, .int gr, .int (nI ((o_addTest B d w).1)), .int gv])), (sa, .inl (G.2 0, 830, .inl f)), (ta, .inl (G.2 0, 830, .inl h)), (za, .inl (G.2 0, 6, .inl zf))] := hD.sub [3, 0, 1, 2] (by decide) rfl
    exact end_i hx hb hr hlk (rfl) (qc_of ⟨nI 0, f, t, u, h, zf⟩ (v := some (.int (nI 0))) (by rfl) (by rw [hq9]; exact ⟨fun _ => ⟨rfl, rfl, rfl, rfl⟩, fun z => absurd (show (1 : Nat) = 0 from z) (by decide)⟩) hP9 hD9 (trivial) hS) hS dX4_addTest_66 (show 0 ≤ 0 from by first | exact Nat.le_refl _ | decide | omega) (show 0 ≤ 0 from by first | exact Nat.le_refl _ | decide | omega)
