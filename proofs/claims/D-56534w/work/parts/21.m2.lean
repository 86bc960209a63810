/-! the model: loads, throws -/
set_option maxRecDepth 100000
set_option maxHeartbeats 4000000 in
theorem mX4_isThrown_t (l : Launch) (G : Gt) (m0 : Nat) (sa : Nat) (oa : Nat) (pa : Nat) (la : Nat) (za : Nat) (na : Nat) (gu : Int32) (gt : Int32) (gw : Int32) (gd : Int32) (gm : Int32) (gr : Int32) (gh : Int32) (gv : Int32) (c9 : Nat) : CT l G yX4_isThrown cX4_isThrown 3 (some .boolean) ({ frames := 1, cells := 0, slots := 0, locals := 12 } : Room) [.ref m0, .int (nI 1), .int (nI c9)] [(m0, .inr (6, [.ref sa, .ref oa, .ref pa, .ref la, .ref za, .ref na, .int gu, .int gt, .int gw, .int gd, .int gm, .int gr, .int gh, .int gv]))] RH0 (S := Unit) (fun (u_ : Unit) => some (.int (nI 1))) (fun (u_ : Unit) => True) (fun (u_ : Unit) => [(m0, .inr (6, [.ref sa, .ref oa, .ref pa, .ref la, .ref za, .ref na, .int gu, .int gt, .int gw, .int gd, .int gm, .int gr, .int (nI c9), .int gv]))]) (fun (u_ : Unit) (H : Heap) => True) := by
  refine CT.of (by decide) (Nat.le_of_ble_eq_true rfl) ?_
  intro p e s m below meth c ls A H locs h9 hH0 hP hS
  obtain ⟨cf, hr, hlk, hnm, hKB, hE, -, hD, -, hA, hAw, hRH, hl⟩ := h9
  have hx := cf.1
  have hb := cf.2.1
  have hml := cf.2.2.1
  have hown : s.vm.findClass RX4 = some m.cls := cf.2.2.2.1
  have hts := cf.2.2.2.2
  have hK := hKB.1
  have hl : lv_has ls 3 [(0, .ref m0), (1, .int (nI 1)), (2, .int (nI c9))] := hl
  refine lv_aload_n hx hb dX4_isThrown_0 rfl (lv_at hl 0 rfl) ?_
  refine lv_iload_n hx hb dX4_isThrown_1 rfl (lv_at hl 1 rfl) ?_
  refine n_if_eq (tgt := 9) hx hb (by omega) dX4_isThrown_2 (by decide) (fun c_44 => absurd c_44 (by omega)) (fun c_44 => ?_)
  refine lv_iload_n hx hb dX4_isThrown_5 rfl (lv_at hl 2 rfl) ?_
  refine lv_goto (tgt := 10) hx hb dX4_isThrown_6 (by decide) ?_
  refine va_put (v := .int (nI c9)) (ty := .int) hx hb hts in_X4 tyX4 tyX4_ok nmX4 hown hK hP hD hS 0 rfl rfl 12 (by decide) (hts _ q1608) (fun _ h => h) rfl (by decide +kernel) rfl rfl (Nat.le_of_ble_eq_true rfl) dX4_isThrown_10 (fun H locs (hP : va_P G.1 CL [(m0, .inr (6, [.ref sa, .ref oa, .ref pa, .ref la, .ref za, .ref na, .int gu, .int gt, .int gw, .int gd, .int gm, .int gr, .int (nI c9), .int gv]))] H) (hD : va_D A [(m0, .inr (6, [.ref sa, .ref oa, .ref pa, .ref la, .ref za, .ref na, .int gu, .int gt, .int gw, .int gd, .int gm, .int gr, .int (nI c9), .int gv]))]) hS => ?_)
  refine lv_iload_n hx hb dX4_isThrown_13 rfl (lv_at hl 1 rfl) ?_
  have hP9 : va_P G.1 CL [(m0, .inr (6, [.ref sa, .ref oa, .ref pa, .ref la, .ref za, .ref na, .int gu, .int gt, .int gw, .int gd, .int gm, .int gr, .int (nI c9), .int gv]))] H := hP.sub [0] rfl
  have hD9 : va_D A [(m0, .inr (6, [.ref sa, .ref oa, .ref pa, .ref la, .ref za, .ref na, .int gu, .int gt, .int gw, .int gd, .int gm, .int gr, .int (nI c9), .int gv]))] := hD.sub [0] (by decide) rfl
  exact end_i hx hb hr hlk (by decide) (qc_of () (v := some (.int (nI 1))) (by rfl) (trivial) hP9 hD9 (trivial) hS) hS dX4_isThrown_14 (show 0 ≤ 0 from by first | exact Nat.le_refl _ | decide | omega) (show 0 ≤ 0 from by first | exact Nat.le_refl _ | decide | omega)

set_option maxHeartbeats 4000000 in
theorem mX4_isThrown_f (l : Launch) (G : Gt) (m0 : Nat) (sa : Nat) (oa : Nat) (pa : Nat) (la : Nat) (za : Nat) (na : Nat) (gu : Int32) (gt : Int32) (gw : Int32) (gd : Int32) (gm : Int32) (gr : Int32) (gh : Int32) (gv : Int32) (c9 : Nat) : CT l G yX4_isThrown cX4_isThrown 3 (some .boolean) ({ frames := 1, cells := 0, slots := 0, locals := 12 } : Room) [.ref m0, .int (nI 0), .int (nI c9)] [(m0, .inr (6, [.ref sa, .ref oa, .ref pa, .ref la, .ref za, .ref na, .int gu, .int gt, .int gw, .int gd, .int gm, .int gr, .int gh, .int gv]))] RH0 (S := Unit) (fun (u_ : Unit) => some (.int (nI 0))) (fun (u_ : Unit) => True) (fun (u_ : Unit) => [(m0, .inr (6, [.ref sa, .ref oa, .ref pa, .ref la, .ref za, .ref na, .int gu, .int gt, .int gw, .int gd, .int gm, .int gr, .int (nI 0), .int gv]))]) (fun (u_ : Unit) (H : Heap) => True) := by
  refine CT.of (by decide) (Nat.le_of_ble_eq_true rfl) ?_
  intro p e s m below meth c ls A H locs h9 hH0 hP hS
  obtain ⟨cf, hr, hlk, hnm, hKB, hE, -, hD, -, hA, hAw, hRH, hl⟩ := h9
  have hx := cf.1
  have hb := cf.2.1
  have hml := cf.2.2.1
  have hown : s.vm.findClass RX4 = some m.cls := cf.2.2.2.1
  have hts := cf.2.2.2.2
  have hK := hKB.1
  have hl : lv_has ls 3 [(0, .ref m0), (1, .int (nI 0)), (2, .int (nI c9))] := hl
  refine lv_aload_n hx hb dX4_isThrown_0 rfl (lv_at hl 0 rfl) ?_
  refine lv_iload_n hx hb dX4_isThrown_1 rfl (lv_at hl 1 rfl) ?_
  refine n_if_eq (tgt := 9) hx hb (by omega) dX4_isThrown_2 (by decide) (fun c_45 => ?_) (fun c_45 => absurd c_45 (by omega))
  refine lv_iconst (v := nI 0) hx hb dX4_isThrown_9 (by decide) ?_
  refine va_put (v := .int (nI 0)) (ty := .int) hx hb hts in_X4 tyX4 tyX4_ok nmX4 hown hK hP hD hS 0 rfl rfl 12 (by decide) (hts _ q1608) (fun _ h => h) rfl (by decide +kernel) rfl rfl (Nat.le_of_ble_eq_true rfl) dX4_isThrown_10 (fun H locs (hP : va_P G.1 CL [(m0, .inr (6, [.ref sa, .ref oa, .ref pa, .ref la, .ref za, .ref na, .int gu, .int gt, .int gw, .int gd, .int gm, .int gr, .int (nI 0), .int gv]))] H) (hD : va_D A [(m0, .inr (6, [.ref sa, .ref oa, .ref pa, .ref la, .ref za, .ref na, .int gu, .int gt, .int gw, .int gd, .int gm, .int gr, .int (nI 0), .int gv]))]) hS => ?_)
  refine lv_iload_n hx hb dX4_isThrown_13 rfl (lv_at hl 1 rfl) ?_
  have hP9 : va_P G.1 CL [(m0, .inr (6, [.ref sa, .ref oa, .ref pa, .ref la, .ref za, .ref na, .int gu, .int gt, .int gw, .int gd, .int gm, .int gr, .int (nI 0), .int gv]))] H := hP.sub [0] rfl
  have hD9 : va_D A [(m0, .inr (6, [.ref sa, .ref oa, .ref pa, .ref la, .ref za, .ref na, .int gu, .int gt, .int gw, .int gd, .int gm, .int gr, .int (nI 0), .int gv]))] := hD.sub [0] (by decide) rfl
  exact end_i hx hb hr hlk (by decide) (qc_of () (v := some (.int (nI 0))) (by rfl) (trivial) hP9 hD9 (trivial) hS) hS dX4_isThrown_14 (show 0 ≤ 0 from by first | exact Nat.le_refl _ | decide | omega) (show 0 ≤ 0 from by first | exact Nat.le_refl _ | decide | omega)

set_option maxHeartbeats 4000000 in
theorem mX4_isNoDay (l : Launch) (G : Gt) (m0 : Nat) (sa : Nat) (oa : Nat) (pa : Nat) (la : Nat) (za : Nat) (na : Nat) (gu : Int32) (gt : Int32) (gw : Int32) (gd : Int32) (gm : Int32) (gr : Int32) (gh : Int32) (gv : Int32) (f : Nat → Int32) (B : Bk) (v : Int32) (hM : MR f B) (hI : Inv B) : CT l G yX4_isNoDay cX4_isNoDay 2 (some .boolean) ({ frames := 2, cells := 0, slots := 0, locals := 34 } : Room) [.ref m0, .int v] [] (fun (A : Nat → Prop) (H : Heap) => roW G A H [(m0, .inr (6, [.ref sa, .ref oa, .ref pa, .ref la, .ref za, .ref na, .int gu, .int gt, .int gw, .int gd, .int gm, .int gr, .int gh, .int gv])), (sa, .inl (G.2 0, 830, .inl f))]) (S := Bool) (fun (u_ : Bool) => some (.int (bI u_))) (fun (u_ : Bool) => (u_ = true ↔ ¬ (nI 0 ≤ v ∧ v ≤ nI (bD B)))) (fun (u_ : Bool) => []) (fun (u_ : Bool) (H : Heap) => True) := by
  refine CT.of (by decide) (Nat.le_of_ble_eq_true rfl) ?_
  intro p e s m below meth c ls A H locs h9 hH0 hP hS
  obtain ⟨cf, hr, hlk, hnm, hKB, hE, -, hD, -, hA, hAw, hR0, hl⟩ := h9
  have hx := cf.1
  have hb := cf.2.1
  have hml := cf.2.2.1
  have hown : s.vm.findClass RX4 = some m.cls := cf.2.2.2.1
  have hts := cf.2.2.2.2
  have hK := hKB.1
  have hl : lv_has ls 2 [(0, .ref m0), (1, .int v)] := hl
  have iN := iv_sN hI
  have iT := iv_tN hI
  have iD := iv_bD hI
  have iE := iv_bE hI
  have iW := iv_id hI
  refine lv_iload_n hx hb dX4_isNoDay_0 rfl (lv_at hl 1 rfl) ?_
  refine lv_iconst (v := nI 0) hx hb dX4_isNoDay_1 (by decide) ?_
  refine lv_aload_n hx hb dX4_isNoDay_2 rfl (lv_at hl 0 rfl) ?_
  refine va_get hx hb hts in_X4 hown hK (hR0.w hS) 0 rfl rfl 0 (by decide) (hts _ q1596) (fun _ h => h) rfl dX4_isNoDay_3 ?_
  refine lv_iconst (v := nI 0) hx hb dX4_isNoDay_6 (by decide) ?_
  refine r_iald (v := nI (bD B)) hx hb hK (hR0.w hS) 1 0 rfl rfl (i := 0) (by omega) (by omega) (hM.today) dX4_isNoDay_7 ?_
  have hF := hF_of (wc := []) hD hS hA [] rfl
  refine go_ct hS hP hD [] [] hF rfl rfl (by decide) (by decide)
      (va_runS (As := [.int v, .int (nI 0), .int (nI (bD B))]) (rest := []) cf (mX4_isIn l G v (nI 0) (nI (bD B))  H.size) (va_cwS 3 hts (lw_S q1647 q1648 q58 q1649) rfl rfl rfl (by decide +kernel) ⟨Nat.le_of_ble_eq_true rfl, Nat.le_of_ble_eq_true rfl⟩) (preS_of hKB hE hS hF (va_P.sub hP [] rfl) ((va_D.sub hD [] (by decide) rfl).weaken (fun _ _ _ _ => trivial)) trivial) rfl rfl hl.1 rfl (lv_room (Nat.le_of_ble_eq_true rfl)) dX4_isNoDay_8 ⟨show 0 + 0 ≤ 0 from by first | decide | omega, show 0 + 0 ≤ 0 from by first | decide | omega⟩)
      (fun u_ H locs hq hph (hP : va_P G.1 CL [] H) (hD : va_D A []) hS hfz hfk => ?_)
  obtain ⟨b_46, rfl⟩ : ∃ z, z = u_ := ⟨_, rfl⟩
  have hP : va_P G.1 CL [] H := hP
  have hD : va_D A [] := hD
  have hq_47 : (b_46 = true ↔ (nI 0) ≤ v ∧ v ≤ (nI (bD B))) := hq
  refine W.eq (g2 := F0 m 11 ls [.int (bI b_46)]) rfl ?_
  cases b_46
  · refine lv_ton (n := 0) rfl ?_
    refine n_if_ne (tgt := 18) hx hb (by omega) dX4_isNoDay_11 (by decide) (fun c_48 => absurd c_48 (by omega)) (fun c_48 => ?_)
    refine lv_iconst (v := nI 1) hx hb dX4_isNoDay_14 (by decide) ?_
    refine lv_goto (tgt := 19) hx hb dX4_isNoDay_15 (by decide) ?_
    have hP9 : va_P G.1 CL [] H := hP.sub [] rfl
    have hD9 : va_D A [] := hD.sub [] (by decide) rfl
    exact end_i hx hb hr hlk (by decide) (qc_of true (v := some (.int (nI 1))) (by rfl) (⟨fun _ z => absurd (hq_47.mpr z) (by decide), fun _ => rfl⟩) hP9 hD9 (trivial) hS) hS dX4_isNoDay_19 (show 0 ≤ 0 from by first | exact Nat.le_refl _ | decide | omega) (show 0 ≤ 0 from by first | exact Nat.le_refl _ | decide | omega)
  · refine lv_ton (n := 1) rfl ?_
    refine n_if_ne (tgt := 18) hx hb (by omega) dX4_isNoDay_11 (by decide) (fun c_49 => ?_) (fun c_49 => absurd c_49 (by omega))
    refine lv_iconst (v := nI 0) hx hb dX4_isNoDay_18 (by decide) ?_
    have hP9 : va_P G.1 CL [] H := hP.sub [] rfl
    have hD9 : va_D A [] := hD.sub [] (by decide) rfl
    exact end_i hx hb hr hlk (by decide) (qc_of false (v := some (.int (nI 0))) (by rfl) (⟨fun z => absurd z (by decide), fun z => absurd (hq_47.mp rfl) z⟩) hP9 hD9 (trivial) hS) hS dX4_isNoDay_19 (show 0 ≤ 0 from by first | exact Nat.le_refl _ | decide | omega) (show 0 ≤ 0 from by first | exact Nat.le_refl _ | decide | omega)

set_option maxHeartbeats 4000000 in
theorem mX4_isNoSession (l : Launch) (G : Gt) (m0 : Nat) (sa : Nat) (oa : Nat) (pa : Nat) (la : Nat) (za : Nat) (na : Nat) (gu : Int32) (gt : Int32) (gw : Int32) (gd : Int32) (gm : Int32) (gr : Int32) (gh : Int32) (gv : Int32) (f : Nat → Int32) (B : Bk) (id : Int32) (hM : MR f B) (hI : Inv B) : CT l G yX4_isNoSession cX4_isNoSession 2 (some .boolean) ({ frames := 3, cells := 0, slots := 0, locals := 56 } : Room) [.ref m0, .int id] [(m0, .inr (6, [.ref sa, .ref oa, .ref pa, .ref la, .ref za, .ref na, .int gu, .int gt, .int gw, .int gd, .int gm, .int gr, .int gh, .int gv]))] (fun (A : Nat → Prop) (H : Heap) => roW G A H [(sa, .inl (G.2 0, 830, .inl f))]) (S := (Option Nat)) (fun (u_ : (Option Nat)) => some (.int (nS u_))) (fun (u_ : (Option Nat)) => PL B id (sN B) u_) (fun (u_ : (Option Nat)) => [(m0, .inr (6, [.ref sa, .ref oa, .ref pa, .ref la, .ref za, .ref na, .int gu, .int gt, .int gw, .int gd, .int gm, .int gr, .int (nS u_), .int gv]))]) (fun (u_ : (Option Nat)) (H : Heap) => True) := by
  refine CT.of (by decide) (Nat.le_of_ble_eq_true rfl) ?_
  intro p e s m below meth c ls A H locs h9 hH0 hP hS
  obtain ⟨cf, hr, hlk, hnm, hKB, hE, -, hD, -, hA, hAw, hR0, hl⟩ := h9
  have hx := cf.1
  have hb := cf.2.1
  have hml := cf.2.2.1
  have hown : s.vm.findClass RX4 = some m.cls := cf.2.2.2.1
  have hts := cf.2.2.2.2
  have hK := hKB.1
  have hl : lv_has ls 2 [(0, .ref m0), (1, .int id)] := hl
  have iN := iv_sN hI
  have iT := iv_tN hI
  have iD := iv_bD hI
  have iE := iv_bE hI
  have iW := iv_id hI
  refine lv_aload_n hx hb dX4_isNoSession_0 rfl (lv_at hl 0 rfl) ?_
  refine lv_aload_n hx hb dX4_isNoSession_1 rfl (lv_at hl 0 rfl) ?_
  refine lv_iload_n hx hb dX4_isNoSession_2 rfl (lv_at hl 1 rfl) ?_
  have hF := hF_of (wc := []) hD hS hA [] rfl
  have hro_50 : va_P G.1 CL [(m0, .inr (6, [.ref sa, .ref oa, .ref pa, .ref la, .ref za, .ref na, .int gu, .int gt, .int gw, .int gd, .int gm, .int gr, .int gh, .int gv])), (sa, .inl (G.2 0, 830, .inl f))] H := ((va_P.sub hP [0] rfl).app ((hR0.w hS).sub [0] rfl))
  refine go_ct hS hP hD [] [0] hF rfl rfl (by decide) (by decide)
      (va_runV (As := [.int id]) (rest := [.ref m0]) cf (mX4_place l G m0 sa oa pa la za na gu gt gw gd gm gr gh gv f B id (show MR f B from by first | assumption | omega) (show Inv B from by first | assumption | omega) H.size) (cwV 1 hts (lw_V q1739 q1741 qs30 q58 q1742) rfl rfl rfl (by decide +kernel) ⟨Nat.le_of_ble_eq_true rfl, Nat.le_of_ble_eq_true rfl⟩) (preV_of hKB hE hS hF (va_recv hK hP (ci := 6) (q0 := 0) rfl rfl) (va_P.sub hP [] rfl) ((va_D.sub hD [] (by decide) rfl).weaken (fun _ _ _ _ => trivial)) (roW.nil hro_50)) rfl rfl hl.1 rfl (lv_room (Nat.le_of_ble_eq_true rfl)) dX4_isNoSession_3 ⟨show 0 + 0 ≤ 0 from by first | decide | omega, show 0 + 0 ≤ 0 from by first | decide | omega⟩)
      (fun u_ H locs hq hph (hP : va_P G.1 CL [(m0, .inr (6, [.ref sa, .ref oa, .ref pa, .ref la, .ref za, .ref na, .int gu, .int gt, .int gw, .int gd, .int gm, .int gr, .int gh, .int gv]))] H) (hD : va_D A [(m0, .inr (6, [.ref sa, .ref oa, .ref pa, .ref la, .ref za, .ref na, .int gu, .int gt, .int gw, .int gd, .int gm, .int gr, .int gh, .int gv]))]) hS hfz hfk => ?_)
  obtain ⟨fo_51, rfl⟩ : ∃ z, z = u_ := ⟨_, rfl⟩
  have hP : va_P G.1 CL [(m0, .inr (6, [.ref sa, .ref oa, .ref pa, .ref la, .ref za, .ref na, .int gu, .int gt, .int gw, .int gd, .int gm, .int gr, .int gh, .int gv]))] H := hP
  have hD : va_D A [(m0, .inr (6, [.ref sa, .ref oa, .ref pa, .ref la, .ref za, .ref na, .int gu, .int gt, .int gw, .int gd, .int gm, .int gr, .int gh, .int gv]))] := hD
  have hq_52 : PL B id (sN B) fo_51 := hq
  refine W.eq (g2 := F0 m 6 ls [.int (oI fo_51), .ref m0]) rfl ?_
  rcases fo_51 with _ | k_53
  · refine lv_toi (y := (-1)) rfl ?_
    refine lv_if_ge (tgt := 13) hx hb dX4_isNoSession_6 (by decide) (fun c_54 => absurd c_54 (by decide)) (fun c_54 => ?_)
    refine lv_iconst (v := nI 1) hx hb dX4_isNoSession_9 (by decide) ?_
    refine lv_goto (tgt := 14) hx hb dX4_isNoSession_10 (by decide) ?_
    refine lv_iconst (v := nI 1) hx hb dX4_isNoSession_14 (by decide) ?_
    have hF := hF_of (wc := [(m0, .inr (6, [.ref sa, .ref oa, .ref pa, .ref la, .ref za, .ref na, .int gu, .int gt, .int gw, .int gd, .int gm, .int gr, .int gh, .int gv]))]) hD hS hA [0] rfl
    refine go_ct hS hP hD [0] [] hF rfl rfl (by decide) (by decide)
        (va_runV (As := [.int (nI 1), .int (nI 1)]) (rest := []) cf (mX4_isThrown_t l G m0 sa oa pa la za na gu gt gw gd gm gr gh gv 1  H.size) (cwV 2 hts (lw_V q1650 q1652 qs20 q58 q1653) rfl rfl rfl (by decide +kernel) ⟨Nat.le_of_ble_eq_true rfl, Nat.le_of_ble_eq_true rfl⟩) (preV_of hKB hE hS hF (va_recv hK hP (ci := 6) (q0 := 0) rfl rfl) (va_P.sub hP [0] rfl) ((va_D.sub hD [0] (by decide) rfl).weaken (fun _ _ _ _ => trivial)) trivial) rfl rfl hl.1 rfl (lv_room (Nat.le_of_ble_eq_true rfl)) dX4_isNoSession_15 ⟨show 0 + 0 ≤ 0 from by first | decide | omega, show 0 + 0 ≤ 0 from by first | decide | omega⟩)
        (fun u_ H locs hq hph (hP : va_P G.1 CL [(m0, .inr (6, [.ref sa, .ref oa, .ref pa, .ref la, .ref za, .ref na, .int gu, .int gt, .int gw, .int gd, .int gm, .int gr, .int (nI 1), .int gv]))] H) (hD : va_D A [(m0, .inr (6, [.ref sa, .ref oa, .ref pa, .ref la, .ref za, .ref na, .int gu, .int gt, .int gw, .int gd, .int gm, .int gr, .int (nI 1), .int gv]))]) hS hfz hfk => ?_)
    refine W.eq (g2 := F0 m 18 ls [.int (nI 1)]) rfl ?_
    have hP9 : va_P G.1 CL [(m0, .inr (6, [.ref sa, .ref oa, .ref pa, .ref la, .ref za, .ref na, .int gu, .int gt, .int gw, .int gd, .int gm, .int gr, .int (nI 1), .int gv]))] H := hP.sub [0] rfl
    have hD9 : va_D A [(m0, .inr (6, [.ref sa, .ref oa, .ref pa, .ref la, .ref za, .ref na, .int gu, .int gt, .int gw, .int gd, .int gm, .int gr, .int (nI 1), .int gv]))] := hD.sub [0] (by decide) rfl
    exact end_i hx hb hr hlk (by decide) (qc_of none (v := some (.int (nI 1))) (by rfl) (hq_52) hP9 hD9 (trivial) hS) hS dX4_isNoSession_18 (show 0 ≤ 0 from by first | exact Nat.le_refl _ | decide | omega) (show 0 ≤ 0 from by first | exact Nat.le_refl _ | decide | omega)
  · refine lv_ton (n := k_53) rfl ?_
    have hk9 : k_53 < sN B := (hq_52).1
    refine n_if_ge (tgt := 13) hx hb (by omega) dX4_isNoSession_6 (by decide) ?_
    refine lv_iconst (v := nI 0) hx hb dX4_isNoSession_13 (by decide) ?_
    refine lv_iconst (v := nI 1) hx hb dX4_isNoSession_14 (by decide) ?_
    have hF := hF_of (wc := [(m0, .inr (6, [.ref sa, .ref oa, .ref pa, .ref la, .ref za, .ref na, .int gu, .int gt, .int gw, .int gd, .int gm, .int gr, .int gh, .int gv]))]) hD hS hA [0] rfl
    refine go_ct hS hP hD [0] [] hF rfl rfl (by decide) (by decide)
        (va_runV (As := [.int (nI 0), .int (nI 1)]) (rest := []) cf (mX4_isThrown_f l G m0 sa oa pa la za na gu gt gw gd gm gr gh gv 1  H.size) (cwV 2 hts (lw_V q1650 q1652 qs20 q58 q1653) rfl rfl rfl (by decide +kernel) ⟨Nat.le_of_ble_eq_true rfl, Nat.le_of_ble_eq_true rfl⟩) (preV_of hKB hE hS hF (va_recv hK hP (ci := 6) (q0 := 0) rfl rfl) (va_P.sub hP [0] rfl) ((va_D.sub hD [0] (by decide) rfl).weaken (fun _ _ _ _ => trivial)) trivial) rfl rfl hl.1 rfl (lv_room (Nat.le_of_ble_eq_true rfl)) dX4_isNoSession_15 ⟨show 0 + 0 ≤ 0 from by first | decide | omega, show 0 + 0 ≤ 0 from by first | decide | omega⟩)
        (fun u_ H locs hq hph (hP : va_P G.1 CL [(m0, .inr (6, [.ref sa, .ref oa, .ref pa, .ref la, .ref za, .ref na, .int gu, .int gt, .int gw, .int gd, .int gm, .int gr, .int (nI 0), .int gv]))] H) (hD : va_D A [(m0, .inr (6, [.ref sa, .ref oa, .ref pa, .ref la, .ref za, .ref na, .int gu, .int gt, .int gw, .int gd, .int gm, .int gr, .int (nI 0), .int gv]))]) hS hfz hfk => ?_)
    refine W.eq (g2 := F0 m 18 ls [.int (nI 0)]) rfl ?_
    have hP9 : va_P G.1 CL [(m0, .inr (6, [.ref sa, .ref oa, .ref pa, .ref la, .ref za, .ref na, .int gu, .int gt, .int gw, .int gd, .int gm, .int gr, .int (nI 0), .int gv]))] H := hP.sub [0] rfl
    have hD9 : va_D A [(m0, .inr (6, [.ref sa, .ref oa, .ref pa, .ref la, .ref za, .ref na, .int gu, .int gt, .int gw, .int gd, .int gm, .int gr, .int (nI 0), .int gv]))] := hD.sub [0] (by decide) rfl
    exact end_i hx hb hr hlk (by decide) (qc_of (some k_53) (v := some (.int (nI 0))) (by rfl) (hq_52) hP9 hD9 (trivial) hS) hS dX4_isNoSession_18 (show 0 ≤ 0 from by first | exact Nat.le_refl _ | decide | omega) (show 0 ≤ 0 from by first | exact Nat.le_refl _ | decide | omega)

set_option maxHeartbeats 4000000 in
theorem mX4_keeps (l : Launch) (G : Gt) (m0 : Nat) (sa : Nat) (oa : Nat) (pa : Nat) (la : Nat) (za : Nat) (na : Nat) (gw : Int32) (gd : Int32) (gm : Int32) (gr : Int32) (gh : Int32) (gv : Int32) (f : Nat → Int32) (t : Nat) (u : Nat) (ta : Nat) (h : Nat → Int32) (og : Nat → Option Nat) (ht : t < 6) (hu : u ≤ 6) (hog : og ((t + 1) % 6) = some ta) : CT l G yX4_keeps cX4_keeps 2 none ({ frames := 1, cells := 0, slots := 0, locals := 20 } : Room) [.ref m0] [(m0, .inr (6, [.ref sa, .ref oa, .ref pa, .ref la, .ref za, .ref na, .int (nI u), .int (nI t), .int gw, .int gd, .int gm, .int gr, .int gh, .int gv])), (ta, .inl (G.2 0, 830, .inl h))] (fun (A : Nat → Prop) (H : Heap) => roW G A H [(oa, .inl (G.2 7, 6, .inr (.inr (.inr (.inr og))))), (sa, .inl (G.2 0, 830, .inl f))]) (S := Unit) (fun (u_ : Unit) => (none : Option Value)) (fun (u_ : Unit) => True) (fun (u_ : Unit) => [(m0, .inr (6, [.ref sa, .ref oa, .ref pa, .ref la, .ref za, .ref na, .int (nI (min 6 (u + 1))), .int (nI ((t + 1) % 6)), .int gw, .int gd, .int gm, .int gr, .int gh, .int gv])), (ta, .inl (G.2 0, 830, .inl f))]) (fun (u_ : Unit) (H : Heap) => True) := by
  refine CT.of (by decide) (Nat.le_of_ble_eq_true rfl) ?_
  intro p e s m below meth c ls A H locs h9 hH0 hP hS
  obtain ⟨cf, hr, hlk, hnm, hKB, hE, -, hD, -, hA, hAw, hR0, hl⟩ := h9
  have hx := cf.1
  have hb := cf.2.1
  have hml := cf.2.2.1
  have hown : s.vm.findClass RX4 = some m.cls := cf.2.2.2.1
  have hts := cf.2.2.2.2
  have hK := hKB.1
  have hl : lv_has ls 2 [(0, .ref m0)] := hl
  refine lv_aload_n hx hb dX4_keeps_0 rfl (lv_at hl 0 rfl) ?_
  refine lv_aload_n hx hb dX4_keeps_1 rfl (lv_at hl 0 rfl) ?_
  refine va_get hx hb hts in_X4 hown hK hP 0 rfl rfl 7 (by decide) (hts _ q1603) (fun _ h => h) rfl dX4_keeps_2 ?_
  refine lv_iconst (v := nI 1) hx hb dX4_keeps_5 (by decide) ?_
  refine lv_iadd hx hb dX4_keeps_6 ?_
  refine lv_ton (n := t + 1) (nadd (by omega)) ?_
  refine lv_bipush (v := nI 6) hx hb dX4_keeps_7 (by decide) ?_
  refine lv_irem hx hb dX4_keeps_9 (by decide) ?_
  refine lv_ton (n := ((t + 1) % 6)) (nrem (by omega) (by omega) (by omega) rfl) ?_
  refine va_put (v := .int (nI ((t + 1) % 6))) (ty := .int) hx hb hts in_X4 tyX4 tyX4_ok nmX4 hown hK hP hD hS 0 rfl rfl 7 (by decide) (hts _ q1603) (fun _ h => h) rfl (by decide +kernel) rfl rfl (Nat.le_of_ble_eq_true rfl) dX4_keeps_10 (fun H locs (hP : va_P G.1 CL [(m0, .inr (6, [.ref sa, .ref oa, .ref pa, .ref la, .ref za, .ref na, .int (nI u), .int (nI ((t + 1) % 6)), .int gw, .int gd, .int gm, .int gr, .int gh, .int gv])), (ta, .inl (G.2 0, 830, .inl h))] H) (hD : va_D A [(m0, .inr (6, [.ref sa, .ref oa, .ref pa, .ref la, .ref za, .ref na, .int (nI u), .int (nI ((t + 1) % 6)), .int gw, .int gd, .int gm, .int gr, .int gh, .int gv])), (ta, .inl (G.2 0, 830, .inl h))]) hS => ?_)
  refine lv_iconst (v := nI 0) hx hb dX4_keeps_13 (by decide) ?_
  refine lv_istore_n (lv' := [(1, .int (nI 0)), (0, .ref m0)]) hx hb dX4_keeps_14 rfl hl (by decide) rfl (fun ls hl => ?_)
  have hl := lv_sub hl [1, 0] (l' := [(0, .ref m0), (1, .int (nI 0))]) rfl
  refine lp_W (σ := Nat × (Nat → Int32)) (hpc := 15) (fun x => 830 - x.1) (fun x => 0) (fun x => 0) (fun x H locs ls => va_P G.1 CL [(m0, .inr (6, [.ref sa, .ref oa, .ref pa, .ref la, .ref za, .ref na, .int (nI u), .int (nI ((t + 1) % 6)), .int gw, .int gd, .int gm, .int gr, .int gh, .int gv])), (ta, .inl (G.2 0, 830, .inl x.2))] H ∧ va_D A [(m0, .inr (6, [.ref sa, .ref oa, .ref pa, .ref la, .ref za, .ref na, .int (nI u), .int (nI ((t + 1) % 6)), .int gw, .int gd, .int gm, .int gr, .int gh, .int gv])), (ta, .inl (G.2 0, 830, .inl x.2))] ∧ va_S A s.heap H locs ∧ lv_has ls 2 [(0, .ref m0), (1, .int (nI x.1))] ∧ (x.1 ≤ 830) ∧ (∀ z, z < x.1 → x.2 z = f z)) ?_ (0, h) ⟨(show va_P G.1 CL [(m0, .inr (6, [.ref sa, .ref oa, .ref pa, .ref la, .ref za, .ref na, .int (nI u), .int (nI ((t + 1) % 6)), .int gw, .int gd, .int gm, .int gr, .int gh, .int gv])), (ta, .inl (G.2 0, 830, .inl h))] H from hP), (show va_D A [(m0, .inr (6, [.ref sa, .ref oa, .ref pa, .ref la, .ref za, .ref na, .int (nI u), .int (nI ((t + 1) % 6)), .int gw, .int gd, .int gm, .int gr, .int gh, .int gv])), (ta, .inl (G.2 0, 830, .inl h))] from hD), hS, hl, (show 0 ≤ 830 from by omega), (show ∀ z, z < 0 → h z = f z from (fun z hz => absurd hz (by omega)))⟩ (show 0 ≤ 0 from by first | exact Nat.le_refl _ | omega) (show 0 ≤ 0 from by first | exact Nat.le_refl _ | omega)
  intro x H locs ls hI9 ih15
  obtain ⟨k_57, g_58⟩ := x
  obtain ⟨hP, hD, hS, hl, hp_55, hp_56⟩ := hI9
  have hP : va_P G.1 CL [(m0, .inr (6, [.ref sa, .ref oa, .ref pa, .ref la, .ref za, .ref na, .int (nI u), .int (nI ((t + 1) % 6)), .int gw, .int gd, .int gm, .int gr, .int gh, .int gv])), (ta, .inl (G.2 0, 830, .inl g_58))] H := hP
  have hD : va_D A [(m0, .inr (6, [.ref sa, .ref oa, .ref pa, .ref la, .ref za, .ref na, .int (nI u), .int (nI ((t + 1) % 6)), .int gw, .int gd, .int gm, .int gr, .int gh, .int gv])), (ta, .inl (G.2 0, 830, .inl g_58))] := hD
  have hl : lv_has ls 2 [(0, .ref m0), (1, .int (nI k_57))] := hl
  have hp_55 : k_57 ≤ 830 := hp_55
  have hp_56 : ∀ z, z < k_57 → g_58 z = f z := hp_56
  refine lv_iload_n hx hb dX4_keeps_15 rfl (lv_at hl 1 rfl) ?_
  refine lv_sipush (v := nI 830) hx hb dX4_keeps_16 (by decide) ?_
  refine n_icmp_ge (tgt := 45) hx hb (by omega) (by omega) dX4_keeps_19 (by decide) (fun c_59 => ?_) (fun c_59 => ?_)
  · have he_60 : ∀ j9, j9 < 830 → g_58 j9 = f j9 := fun z hz => hp_56 z (by omega)
    have hP : va_P G.1 CL [(m0, .inr (6, [.ref sa, .ref oa, .ref pa, .ref la, .ref za, .ref na, .int (nI u), .int (nI ((t + 1) % 6)), .int gw, .int gd, .int gm, .int gr, .int gh, .int gv])), (ta, .inl (G.2 0, 830, .inl f))] H := va_P.extI hP 1 rfl he_60
    have hD : va_D A [(m0, .inr (6, [.ref sa, .ref oa, .ref pa, .ref la, .ref za, .ref na, .int (nI u), .int (nI ((t + 1) % 6)), .int gw, .int gd, .int gm, .int gr, .int gh, .int gv])), (ta, .inl (G.2 0, 830, .inl f))] := hD.set (p := 1) rfl
    refine lv_aload_n hx hb dX4_keeps_45 rfl (lv_at hl 0 rfl) ?_
    refine lv_bipush (v := nI 6) hx hb dX4_keeps_46 (by decide) ?_
    refine lv_aload_n hx hb dX4_keeps_48 rfl (lv_at hl 0 rfl) ?_
    refine va_get hx hb hts in_X4 hown hK hP 0 rfl rfl 6 (by decide) (hts _ q1602) (fun _ h => h) rfl dX4_keeps_49 ?_
    refine lv_iconst (v := nI 1) hx hb dX4_keeps_52 (by decide) ?_
    refine lv_iadd hx hb dX4_keeps_53 ?_
    refine lv_ton (n := u + 1) (nadd (by omega)) ?_
    refine va_mmin hx hb (by rw [hml]; exact hl.1.symm) hown (hts _ q1658) (hts _ q543) (hts _ q67) (hts _ q544) (Nat.le_of_ble_eq_true rfl) (Nat.le_of_ble_eq_true rfl) (show 0 ≤ 0 from by first | decide | omega) (show 0 ≤ 0 from by first | decide | omega) dX4_keeps_54 ?_
    refine lv_toi (y := imin (nI 6) (nI (u + 1))) (rfl) ?_
    refine W.eq (g2 := F0 m 57 ls [.int (imin (nI 6) (nI (u + 1))), .ref m0]) rfl ?_
    refine lv_ton (n := (min 6 (u + 1))) (imin_n (by omega) (by omega)) ?_
    refine va_put (v := .int (nI (min 6 (u + 1)))) (ty := .int) hx hb hts in_X4 tyX4 tyX4_ok nmX4 hown hK hP hD hS 0 rfl rfl 6 (by decide) (hts _ q1602) (fun _ h => h) rfl (by decide +kernel) rfl rfl (Nat.le_of_ble_eq_true rfl) dX4_keeps_57 (fun H locs (hP : va_P G.1 CL [(m0, .inr (6, [.ref sa, .ref oa, .ref pa, .ref la, .ref za, .ref na, .int (nI (min 6 (u + 1))), .int (nI ((t + 1) % 6)), .int gw, .int gd, .int gm, .int gr, .int gh, .int gv])), (ta, .inl (G.2 0, 830, .inl f))] H) (hD : va_D A [(m0, .inr (6, [.ref sa, .ref oa, .ref pa, .ref la, .ref za, .ref na, .int (nI (min 6 (u + 1))), .int (nI ((t + 1) % 6)), .int gw, .int gd, .int gm, .int gr, .int gh, .int gv])), (ta, .inl (G.2 0, 830, .inl f))]) hS => ?_)
    have hP9 : va_P G.1 CL [(m0, .inr (6, [.ref sa, .ref oa, .ref pa, .ref la, .ref za, .ref na, .int (nI (min 6 (u + 1))), .int (nI ((t + 1) % 6)), .int gw, .int gd, .int gm, .int gr, .int gh, .int gv])), (ta, .inl (G.2 0, 830, .inl f))] H := hP.sub [0, 1] rfl
    have hD9 : va_D A [(m0, .inr (6, [.ref sa, .ref oa, .ref pa, .ref la, .ref za, .ref na, .int (nI (min 6 (u + 1))), .int (nI ((t + 1) % 6)), .int gw, .int gd, .int gm, .int gr, .int gh, .int gv])), (ta, .inl (G.2 0, 830, .inl f))] := hD.sub [0, 1] (by decide) rfl
    exact end_v hx hb hr hlk (qc_of () (v := none) (by rfl) (trivial) hP9 hD9 (trivial) hS) hS dX4_keeps_60 (show 0 ≤ 0 from by first | exact Nat.le_refl _ | decide | omega) (show 0 ≤ 0 from by first | exact Nat.le_refl _ | decide | omega)
  · refine lv_aload_n hx hb dX4_keeps_22 rfl (lv_at hl 0 rfl) ?_
    refine va_get hx hb hts in_X4 hown hK hP 0 rfl rfl 1 (by decide) (hts _ q1597) (fun _ h => h) rfl dX4_keeps_23 ?_
    refine lv_aload_n hx hb dX4_keeps_26 rfl (lv_at hl 0 rfl) ?_
    refine va_get hx hb hts in_X4 hown hK hP 0 rfl rfl 7 (by decide) (hts _ q1603) (fun _ h => h) rfl dX4_keeps_27 ?_
    refine r_aaldI (v := ta) hx hb hK (hR0.w hS) 0 7 rfl rfl (i := ((t + 1) % 6)) (by omega) (by omega) (hog) dX4_keeps_30 ?_
    refine lv_iload_n hx hb dX4_keeps_31 rfl (lv_at hl 1 rfl) ?_
    refine lv_aload_n hx hb dX4_keeps_32 rfl (lv_at hl 0 rfl) ?_
    refine va_get hx hb hts in_X4 hown hK hP 0 rfl rfl 0 (by decide) (hts _ q1596) (fun _ h => h) rfl dX4_keeps_33 ?_
    refine lv_iload_n hx hb dX4_keeps_36 rfl (lv_at hl 1 rfl) ?_
    refine r_iald (v := f k_57) hx hb hK (hR0.w hS) 1 0 rfl rfl (i := k_57) (by omega) (by omega) (rfl) dX4_keeps_37 ?_
    refine r_iast hx hb hK hP hD hS 1 0 rfl rfl (i := k_57) (by omega) (by omega) dX4_keeps_38 (fun H locs (hP : va_P G.1 CL [(m0, .inr (6, [.ref sa, .ref oa, .ref pa, .ref la, .ref za, .ref na, .int (nI u), .int (nI ((t + 1) % 6)), .int gw, .int gd, .int gm, .int gr, .int gh, .int gv])), (ta, .inl (G.2 0, 830, .inl (upd g_58 k_57 (f k_57))))] H) (hD : va_D A [(m0, .inr (6, [.ref sa, .ref oa, .ref pa, .ref la, .ref za, .ref na, .int (nI u), .int (nI ((t + 1) % 6)), .int gw, .int gd, .int gm, .int gr, .int gh, .int gv])), (ta, .inl (G.2 0, 830, .inl (upd g_58 k_57 (f k_57))))]) hS => ?_)
    refine lv_iinc (v := nI (k_57 + 1)) (lv' := [(1, .int (nI (k_57 + 1))), (0, .ref m0)]) hx hb dX4_keeps_39 hl (k := 1) rfl (ninc (b := 1) (by decide) (by omega)) (by decide) rfl (fun ls hl => ?_)
    refine lv_goto (tgt := 15) hx hb dX4_keeps_42 (by decide) ?_
    have hP : va_P G.1 CL [(m0, .inr (6, [.ref sa, .ref oa, .ref pa, .ref la, .ref za, .ref na, .int (nI u), .int (nI ((t + 1) % 6)), .int gw, .int gd, .int gm, .int gr, .int gh, .int gv])), (ta, .inl (G.2 0, 830, .inl (upd g_58 k_57 (f k_57))))] H := hP.sub [0, 1] rfl
    have hD : va_D A [(m0, .inr (6, [.ref sa, .ref oa, .ref pa, .ref la, .ref za, .ref na, .int (nI u), .int (nI ((t + 1) % 6)), .int gw, .int gd, .int gm, .int gr, .int gh, .int gv])), (ta, .inl (G.2 0, 830, .inl (upd g_58 k_57 (f k_57))))] := hD.sub [0, 1] (by decide) rfl
    have hl := lv_sub hl [1, 0] (l' := [(0, .ref m0), (1, .int (nI (k_57 + 1)))]) rfl
    exact W.widen (show 0 ≤ 0 from by first | exact Nat.le_refl _ | omega) (show 0 ≤ 0 from by first | exact Nat.le_refl _ | omega) (ih15 ((k_57 + 1), upd g_58 k_57 (f k_57)) H locs ls ⟨hP, hD, hS, hl, (show (k_57 + 1) ≤ 830 from by omega), (show ∀ z, z < (k_57 + 1) → (upd g_58 k_57 (f k_57)) z = f z from (fun z hz => by by_cases e : z = k_57; rw [e, pk_us]; rw [pk_un e]; exact hp_56 z (by omega)))⟩ (show 830 - (k_57 + 1) < 830 - k_57 from by omega))

set_option maxHeartbeats 4000000 in
theorem mX4_loads (l : Launch) (G : Gt) (m0 : Nat) (sa : Nat) (oa : Nat) (pa : Nat) (la : Nat) (za : Nat) (na : Nat) (gu : Int32) (gt : Int32) (gw : Int32) (gd : Int32) (gm : Int32) (gr : Int32) (gh : Int32) (gv : Int32) (f : Nat → Int32) (B : Bk) (lf : Nat → Int32) (zf : Nat → Int32) (hM : MR f B) (hI : Inv B) : CT l G yX4_loads cX4_loads 2 none ({ frames := 5, cells := 0, slots := 0, locals := 106 } : Room) [.ref m0] [(la, .inl (G.2 0, 200, .inl lf)), (za, .inl (G.2 0, 6, .inl zf))] (fun (A : Nat → Prop) (H : Heap) => roW G A H [(m0, .inr (6, [.ref sa, .ref oa, .ref pa, .ref la, .ref za, .ref na, .int gu, .int gt, .int gw, .int gd, .int gm, .int gr, .int gh, .int gv])), (sa, .inl (G.2 0, 830, .inl f))]) (S := (Nat → Int32)) (fun (u_ : (Nat → Int32)) => (none : Option Value)) (fun (u_ : (Nat → Int32)) => True) (fun (u_ : (Nat → Int32)) => [(la, .inl (G.2 0, 200, .inl (ldF B))), (za, .inl (G.2 0, 6, .inl u_))]) (fun (u_ : (Nat → Int32)) (H : Heap) => True) := by
  refine CT.of (by decide) (Nat.le_of_ble_eq_true rfl) ?_
  intro p e s m below meth c ls A H locs h9 hH0 hP hS
  obtain ⟨cf, hr, hlk, hnm, hKB, hE, -, hD, -, hA, hAw, hR0, hl⟩ := h9
  have hx := cf.1
  have hb := cf.2.1
  have hml := cf.2.2.1
  have hown : s.vm.findClass RX4 = some m.cls := cf.2.2.2.1
  have hts := cf.2.2.2.2
  have hK := hKB.1
  have hl : lv_has ls 2 [(0, .ref m0)] := hl
  have iN := iv_sN hI
  have iT := iv_tN hI
  have iD := iv_bD hI
  have iE := iv_bE hI
  have iW := iv_id hI
  refine lv_iconst (v := nI 0) hx hb dX4_loads_0 (by decide) ?_
  refine lv_istore_n (lv' := [(1, .int (nI 0)), (0, .ref m0)]) hx hb dX4_loads_1 rfl hl (by decide) rfl (fun ls hl => ?_)
  have hl := lv_sub hl [1, 0] (l' := [(0, .ref m0), (1, .int (nI 0))]) rfl
  refine lp_W (σ := Nat × (Nat → Int32)) (hpc := 2) (fun x => 200 - x.1) (fun x => 0) (fun x => 0) (fun x H locs ls => va_P G.1 CL [(la, .inl (G.2 0, 200, .inl x.2)), (za, .inl (G.2 0, 6, .inl zf))] H ∧ va_D A [(la, .inl (G.2 0, 200, .inl x.2)), (za, .inl (G.2 0, 6, .inl zf))] ∧ va_S A s.heap H locs ∧ lv_has ls 2 [(0, .ref m0), (1, .int (nI x.1))] ∧ (x.1 ≤ 200) ∧ (∀ z, z < x.1 → x.2 z = 0)) ?_ (0, lf) ⟨(show va_P G.1 CL [(la, .inl (G.2 0, 200, .inl lf)), (za, .inl (G.2 0, 6, .inl zf))] H from hP), (show va_D A [(la, .inl (G.2 0, 200, .inl lf)), (za, .inl (G.2 0, 6, .inl zf))] from hD), hS, hl, (show 0 ≤ 200 from by omega), (show ∀ z, z < 0 → lf z = 0 from (fun z hz => absurd hz (by omega)))⟩ (show 0 ≤ 0 from by first | exact Nat.le_refl _ | omega) (show 0 ≤ 0 from by first | exact Nat.le_refl _ | omega)
  intro x H locs ls hI9 ih2
  obtain ⟨i_63, g_64⟩ := x
  obtain ⟨hP, hD, hS, hl, hp_61, hp_62⟩ := hI9
  have hP : va_P G.1 CL [(la, .inl (G.2 0, 200, .inl g_64)), (za, .inl (G.2 0, 6, .inl zf))] H := hP
  have hD : va_D A [(la, .inl (G.2 0, 200, .inl g_64)), (za, .inl (G.2 0, 6, .inl zf))] := hD
  have hl : lv_has ls 2 [(0, .ref m0), (1, .int (nI i_63))] := hl
  have hp_61 : i_63 ≤ 200 := hp_61
  have hp_62 : ∀ z, z < i_63 → g_64 z = 0 := hp_62
  refine lv_iload_n hx hb dX4_loads_2 rfl (lv_at hl 1 rfl) ?_
  refine lv_sipush (v := nI 199) hx hb dX4_loads_3 (by decide) ?_
  refine n_icmp_gt (tgt := 22) hx hb (by omega) (by omega) dX4_loads_6 (by decide) (fun c_65 => ?_) (fun c_65 => ?_)
  · refine lv_iconst (v := nI 0) hx hb dX4_loads_22 (by decide) ?_
    refine lv_istore_n (lv' := [(1, .int (nI 0)), (0, .ref m0)]) hx hb dX4_loads_23 rfl hl (by decide) rfl (fun ls hl => ?_)
    have he_66 : ∀ j9, j9 < 200 → g_64 j9 = (ldW B 0) j9 := fun z hz => (hp_62 z (by omega)).trans rfl
    have hP : va_P G.1 CL [(la, .inl (G.2 0, 200, .inl (ldW B 0))), (za, .inl (G.2 0, 6, .inl zf))] H := va_P.extI hP 0 rfl he_66
    have hD : va_D A [(la, .inl (G.2 0, 200, .inl (ldW B 0))), (za, .inl (G.2 0, 6, .inl zf))] := hD.set (p := 0) rfl
    have hl := lv_sub hl [1, 0] (l' := [(0, .ref m0), (1, .int (nI 0))]) rfl
    refine lp_W (σ := Nat × (Nat → Int32)) (hpc := 24) (fun x => sN B - x.1) (fun x => 0) (fun x => 0) (fun x H locs ls => va_P G.1 CL [(la, .inl (G.2 0, 200, .inl (ldW B x.1))), (za, .inl (G.2 0, 6, .inl x.2))] H ∧ va_D A [(la, .inl (G.2 0, 200, .inl (ldW B x.1))), (za, .inl (G.2 0, 6, .inl x.2))] ∧ va_S A s.heap H locs ∧ lv_has ls 2 [(0, .ref m0), (1, .int (nI x.1))] ∧ (x.1 ≤ sN B)) ?_ (0, zf) ⟨(show va_P G.1 CL [(la, .inl (G.2 0, 200, .inl (ldW B 0))), (za, .inl (G.2 0, 6, .inl zf))] H from hP), (show va_D A [(la, .inl (G.2 0, 200, .inl (ldW B 0))), (za, .inl (G.2 0, 6, .inl zf))] from hD), hS, hl, (show 0 ≤ sN B from by omega)⟩ (show 0 ≤ 0 from by first | exact Nat.le_refl _ | omega) (show 0 ≤ 0 from by first | exact Nat.le_refl _ | omega)
    intro x H locs ls hI9 ih24
    obtain ⟨i_68, g_69⟩ := x
    obtain ⟨hP, hD, hS, hl, hp_67⟩ := hI9
    have hP : va_P G.1 CL [(la, .inl (G.2 0, 200, .inl (ldW B i_68))), (za, .inl (G.2 0, 6, .inl g_69))] H := hP
    have hD : va_D A [(la, .inl (G.2 0, 200, .inl (ldW B i_68))), (za, .inl (G.2 0, 6, .inl g_69))] := hD
    have hl : lv_has ls 2 [(0, .ref m0), (1, .int (nI i_68))] := hl
    have hp_67 : i_68 ≤ sN B := hp_67
    refine lv_iload_n hx hb dX4_loads_24 rfl (lv_at hl 1 rfl) ?_
    refine lv_aload_n hx hb dX4_loads_25 rfl (lv_at hl 0 rfl) ?_
    refine va_get hx hb hts in_X4 hown hK (hR0.w hS) 0 rfl rfl 0 (by decide) (hts _ q1596) (fun _ h => h) rfl dX4_loads_26 ?_
    refine lv_iconst (v := nI 2) hx hb dX4_loads_29 (by decide) ?_
    refine r_iald (v := nI (sN B)) hx hb hK (hR0.w hS) 1 0 rfl rfl (i := 2) (by omega) (by omega) (hM.many) dX4_loads_30 ?_
    refine n_icmp_ge (tgt := 65) hx hb (by omega) (by omega) dX4_loads_31 (by decide) (fun c_70 => ?_) (fun c_70 => ?_)
    · have he_71 : ∀ j9, j9 < 200 → (ldW B i_68) j9 = (ldF B) j9 := fun _ _ => by rw [show i_68 = sN B from by omega] <;> rfl
      have hP : va_P G.1 CL [(la, .inl (G.2 0, 200, .inl (ldF B))), (za, .inl (G.2 0, 6, .inl g_69))] H := va_P.extI hP 0 rfl he_71
      have hD : va_D A [(la, .inl (G.2 0, 200, .inl (ldF B))), (za, .inl (G.2 0, 6, .inl g_69))] := hD.set (p := 0) rfl
      have hP9 : va_P G.1 CL [(la, .inl (G.2 0, 200, .inl (ldF B))), (za, .inl (G.2 0, 6, .inl g_69))] H := hP.sub [0, 1] rfl
      have hD9 : va_D A [(la, .inl (G.2 0, 200, .inl (ldF B))), (za, .inl (G.2 0, 6, .inl g_69))] := hD.sub [0, 1] (by decide) rfl
      exact end_v hx hb hr hlk (qc_of g_69 (v := none) (by rfl) (trivial) hP9 hD9 (trivial) hS) hS dX4_loads_65 (show 0 ≤ 0 from by first | exact Nat.le_refl _ | decide | omega) (show 0 ≤ 0 from by first | exact Nat.le_refl _ | decide | omega)
    · have hs9 := (iv_ses hI (k := i_68) (by omega)).2.1
      refine lv_aload_n hx hb dX4_loads_34 rfl (lv_at hl 0 rfl) ?_
      refine va_get hx hb hts in_X4 hown hK (hR0.w hS) 0 rfl rfl 3 (by decide) (hts _ q1599) (fun _ h => h) rfl dX4_loads_35 ?_
      refine lv_aload_n hx hb dX4_loads_38 rfl (lv_at hl 0 rfl) ?_
      refine va_get hx hb hts in_X4 hown hK (hR0.w hS) 0 rfl rfl 0 (by decide) (hts _ q1596) (fun _ h => h) rfl dX4_loads_39 ?_
      refine lv_aload_n hx hb dX4_loads_42 rfl (lv_at hl 0 rfl) ?_
      refine lv_iload_n hx hb dX4_loads_43 rfl (lv_at hl 1 rfl) ?_
      have hF := hF_of (wc := []) hD hS hA [] rfl
      refine go_ct hS hP hD [] [0, 1] hF rfl rfl (by decide) (by decide)
          (va_runV (As := [.int (nI i_68)]) (rest := [.ref sa, .ref la]) cf (mX4_at l G m0 i_68  H.size) (cwV 1 hts (lw_V q1687 q1689 qs27 q58 q1690) rfl rfl rfl (by decide +kernel) ⟨Nat.le_of_ble_eq_true rfl, Nat.le_of_ble_eq_true rfl⟩) (preV_of hKB hE hS hF (va_recv hK (hR0.w hS) (ci := 6) (q0 := 0) rfl rfl) (va_P.sub hP [] rfl) ((va_D.sub hD [] (by decide) rfl).weaken (fun _ _ _ _ => trivial)) trivial) rfl rfl hl.1 rfl (lv_room (Nat.le_of_ble_eq_true rfl)) dX4_loads_44 ⟨show 0 + 0 ≤ 0 from by first | decide | omega, show 0 + 0 ≤ 0 from by first | decide | omega⟩)
          (fun u_ H locs hq hph (hP : va_P G.1 CL [(la, .inl (G.2 0, 200, .inl (ldW B i_68))), (za, .inl (G.2 0, 6, .inl g_69))] H) (hD : va_D A [(la, .inl (G.2 0, 200, .inl (ldW B i_68))), (za, .inl (G.2 0, 6, .inl g_69))]) hS hfz hfk => ?_)
      refine W.eq (g2 := F0 m 47 ls [.int (nI (19 * i_68 + 70)), .ref sa, .ref la]) rfl ?_
      refine lv_iconst (v := nI 1) hx hb dX4_loads_47 (by decide) ?_
      refine lv_iadd hx hb dX4_loads_48 ?_
      refine lv_ton (n := 19 * i_68 + 71) (nadd (by omega)) ?_
      refine r_iald (v := nI (sDay (sAt B i_68))) hx hb hK (hR0.w hS) 1 0 rfl rfl (i := 19 * i_68 + 71) (by omega) (by omega) (hM.sday (k := i_68) (by omega)) dX4_loads_49 ?_
      refine lv_dup2_11 hx hb dX4_loads_50 rfl rfl ?_
      refine r_iald (v := (ldW B i_68) (sDay (sAt B i_68))) hx hb hK hP 0 0 rfl rfl (i := (sDay (sAt B i_68))) (by omega) (by omega) (rfl) dX4_loads_51 ?_
      refine lv_aload_n hx hb dX4_loads_52 rfl (lv_at hl 0 rfl) ?_
      refine lv_iload_n hx hb dX4_loads_53 rfl (lv_at hl 1 rfl) ?_
      have hF := hF_of (wc := [(za, .inl (G.2 0, 6, .inl g_69))]) hD hS hA [1] rfl
      have hro_72 : roW G (va_A [(za, .inl (G.2 0, 6, .inl g_69))] H.size) H [(m0, .inr (6, [.ref sa, .ref oa, .ref pa, .ref la, .ref za, .ref na, .int gu, .int gt, .int gw, .int gd, .int gm, .int gr, .int gh, .int gv])), (sa, .inl (G.2 0, 830, .inl f))] := ((hR0.kp hF hS.2.1).sub (ws' := [(m0, .inr (6, [.ref sa, .ref oa, .ref pa, .ref la, .ref za, .ref na, .int gu, .int gt, .int gw, .int gd, .int gm, .int gr, .int gh, .int gv])), (sa, .inl (G.2 0, 830, .inl f))]) [0, 1] rfl)
      refine go_ct hS hP hD [1] [0] hF rfl rfl (by decide) (by decide)
          (va_runV (As := [.int (nI i_68)]) (rest := [.int ((ldW B i_68) (sDay (sAt B i_68))), .int (nI (sDay (sAt B i_68))), .ref la]) cf (mX4_loadAt l G m0 sa oa pa la za na gu gt gw gd gm gr gh gv f B g_69 i_68 (show MR f B from by first | assumption | omega) (show Inv B from by first | assumption | omega) (show i_68 < sN B from by first | assumption | omega) H.size) (cwV 1 hts (lw_V q1675 q1677 qs24 q58 q1678) rfl rfl rfl (by decide +kernel) ⟨Nat.le_of_ble_eq_true rfl, Nat.le_of_ble_eq_true rfl⟩) (preV_of hKB hE hS hF (va_recv hK (hR0.w hS) (ci := 6) (q0 := 0) rfl rfl) (va_P.sub hP [1] rfl) ((va_D.sub hD [1] (by decide) rfl).weaken (fun _ _ _ _ => trivial)) hro_72) rfl rfl hl.1 rfl (lv_room (Nat.le_of_ble_eq_true rfl)) dX4_loads_54 ⟨show 0 + 0 ≤ 0 from by first | decide | omega, show 0 + 0 ≤ 0 from by first | decide | omega⟩)
          (fun u_ H locs hq hph (hP : va_P G.1 CL [(la, .inl (G.2 0, 200, .inl (ldW B i_68))), (za, .inl (G.2 0, 6, .inl (zAdd zz B (sAt B i_68) (nP (sAt B i_68)))))] H) (hD : va_D A [(la, .inl (G.2 0, 200, .inl (ldW B i_68))), (za, .inl (G.2 0, 6, .inl (zAdd zz B (sAt B i_68) (nP (sAt B i_68)))))]) hS hfz hfk => ?_)
      refine W.eq (g2 := F0 m 57 ls [.int (nI (loadS B (sAt B i_68))), .int ((ldW B i_68) (sDay (sAt B i_68))), .int (nI (sDay (sAt B i_68))), .ref la]) rfl ?_
      refine lv_iadd hx hb dX4_loads_57 ?_
      refine r_iast hx hb hK hP hD hS 0 0 rfl rfl (i := (sDay (sAt B i_68))) (by omega) (by omega) dX4_loads_58 (fun H locs (hP : va_P G.1 CL [(la, .inl (G.2 0, 200, .inl (upd (ldW B i_68) (sDay (sAt B i_68)) (((ldW B i_68) (sDay (sAt B i_68))) + (nI (loadS B (sAt B i_68))))))), (za, .inl (G.2 0, 6, .inl (zAdd zz B (sAt B i_68) (nP (sAt B i_68)))))] H) (hD : va_D A [(la, .inl (G.2 0, 200, .inl (upd (ldW B i_68) (sDay (sAt B i_68)) (((ldW B i_68) (sDay (sAt B i_68))) + (nI (loadS B (sAt B i_68))))))), (za, .inl (G.2 0, 6, .inl (zAdd zz B (sAt B i_68) (nP (sAt B i_68)))))]) hS => ?_)
      have hP : va_P G.1 CL [(la, .inl (G.2 0, 200, .inl (ldW B (i_68 + 1)))), (za, .inl (G.2 0, 6, .inl (zAdd zz B (sAt B i_68) (nP (sAt B i_68)))))] H := by rw [← ldW_s]; exact hP
      have hD : va_D A [(la, .inl (G.2 0, 200, .inl (ldW B (i_68 + 1)))), (za, .inl (G.2 0, 6, .inl (zAdd zz B (sAt B i_68) (nP (sAt B i_68)))))] := by rw [← ldW_s]; exact hD
      refine lv_iinc (v := nI (i_68 + 1)) (lv' := [(1, .int (nI (i_68 + 1))), (0, .ref m0)]) hx hb dX4_loads_59 hl (k := 1) rfl (ninc (b := 1) (by decide) (by omega)) (by decide) rfl (fun ls hl => ?_)
      refine lv_goto (tgt := 24) hx hb dX4_loads_62 (by decide) ?_
      have hP : va_P G.1 CL [(la, .inl (G.2 0, 200, .inl (ldW B (i_68 + 1)))), (za, .inl (G.2 0, 6, .inl (zAdd zz B (sAt B i_68) (nP (sAt B i_68)))))] H := hP.sub [0, 1] rfl
      have hD : va_D A [(la, .inl (G.2 0, 200, .inl (ldW B (i_68 + 1)))), (za, .inl (G.2 0, 6, .inl (zAdd zz B (sAt B i_68) (nP (sAt B i_68)))))] := hD.sub [0, 1] (by decide) rfl
      have hl := lv_sub hl [1, 0] (l' := [(0, .ref m0), (1, .int (nI (i_68 + 1)))]) rfl
      exact W.widen (show 0 ≤ 0 from by first | exact Nat.le_refl _ | omega) (show 0 ≤ 0 from by first | exact Nat.le_refl _ | omega) (ih24 ((i_68 + 1), zAdd zz B (sAt B i_68) (nP (sAt B i_68))) H locs ls ⟨hP, hD, hS, hl, (show (i_68 + 1) ≤ sN B from by omega)⟩ (show sN B - (i_68 + 1) < sN B - i_68 from by omega))
  · refine lv_aload_n hx hb dX4_loads_9 rfl (lv_at hl 0 rfl) ?_
    refine va_get hx hb hts in_X4 hown hK (hR0.w hS) 0 rfl rfl 3 (by decide) (hts _ q1599) (fun _ h => h) rfl dX4_loads_10 ?_
    refine lv_iload_n hx hb dX4_loads_13 rfl (lv_at hl 1 rfl) ?_
    refine lv_iconst (v := nI 0) hx hb dX4_loads_14 (by decide) ?_
    refine r_iast hx hb hK hP hD hS 0 0 rfl rfl (i := i_63) (by omega) (by omega) dX4_loads_15 (fun H locs (hP : va_P G.1 CL [(la, .inl (G.2 0, 200, .inl (upd g_64 i_63 (nI 0)))), (za, .inl (G.2 0, 6, .inl zf))] H) (hD : va_D A [(la, .inl (G.2 0, 200, .inl (upd g_64 i_63 (nI 0)))), (za, .inl (G.2 0, 6, .inl zf))]) hS => ?_)
    refine lv_iinc (v := nI (i_63 + 1)) (lv' := [(1, .int (nI (i_63 + 1))), (0, .ref m0)]) hx hb dX4_loads_16 hl (k := 1) rfl (ninc (b := 1) (by decide) (by omega)) (by decide) rfl (fun ls hl => ?_)
    refine lv_goto (tgt := 2) hx hb dX4_loads_19 (by decide) ?_
    have hP : va_P G.1 CL [(la, .inl (G.2 0, 200, .inl (upd g_64 i_63 (nI 0)))), (za, .inl (G.2 0, 6, .inl zf))] H := hP.sub [0, 1] rfl
    have hD : va_D A [(la, .inl (G.2 0, 200, .inl (upd g_64 i_63 (nI 0)))), (za, .inl (G.2 0, 6, .inl zf))] := hD.sub [0, 1] (by decide) rfl
    have hl := lv_sub hl [1, 0] (l' := [(0, .ref m0), (1, .int (nI (i_63 + 1)))]) rfl
    exact W.widen (show 0 ≤ 0 from by first | exact Nat.le_refl _ | omega) (show 0 ≤ 0 from by first | exact Nat.le_refl _ | omega) (ih2 ((i_63 + 1), upd g_64 i_63 (nI 0)) H locs ls ⟨hP, hD, hS, hl, (show (i_63 + 1) ≤ 200 from by omega), (show ∀ z, z < (i_63 + 1) → (upd g_64 i_63 (nI 0)) z = 0 from (fun z hz => by by_cases e : z = i_63; rw [e, pk_us] <;> rfl; rw [pk_un e]; exact hp_62 z (by omega)))⟩ (show 200 - (i_63 + 1) < 200 - i_63 from by omega))

set_option maxHeartbeats 4000000 in
theorem mX4_decayed (l : Launch) (G : Gt) (m0 : Nat) (sa : Nat) (oa : Nat) (pa : Nat) (la : Nat) (za : Nat) (na : Nat) (gu : Int32) (gt : Int32) (gw : Int32) (gd : Int32) (gm : Int32) (gr : Int32) (gh : Int32) (gv : Int32) (B : Bk) (dn : Nat) (by9 : Nat) (hI : Inv B) (hdn : dn ≤ 1000) (hby : 1 ≤ by9 ∧ by9 ≤ 100) : CT l G yX4_decayed cX4_decayed 5 (some .int) ({ frames := 1, cells := 0, slots := 0, locals := 12 } : Room) [.ref m0, .int (lI dn), .int (nI by9)] [] (fun (A : Nat → Prop) (H : Heap) => roW G A H [(m0, .inr (6, [.ref sa, .ref oa, .ref pa, .ref la, .ref za, .ref na, .int gu, .int gt, .int gw, .int gd, .int gm, .int gr, .int gh, .int gv])), (la, .inl (G.2 0, 200, .inl (ldF B)))]) (S := Unit) (fun (u_ : Unit) => some (.int (decay by9 (loadD B) dn))) (fun (u_ : Unit) => True) (fun (u_ : Unit) => []) (fun (u_ : Unit) (H : Heap) => True) := by
  refine CT.of (by decide) (Nat.le_of_ble_eq_true rfl) ?_
  intro p e s m below meth c ls A H locs h9 hH0 hP hS
  obtain ⟨cf, hr, hlk, hnm, hKB, hE, -, hD, -, hA, hAw, hR0, hl⟩ := h9
  have hx := cf.1
  have hb := cf.2.1
  have hml := cf.2.2.1
  have hown : s.vm.findClass RX4 = some m.cls := cf.2.2.2.1
  have hts := cf.2.2.2.2
  have hK := hKB.1
  have hl : lv_has ls 5 [(0, .ref m0), (1, .int (lI dn)), (2, .int (nI by9))] := hl
  have iD := iv_bD hI
  refine lv_iconst (v := nI 0) hx hb dX4_decayed_0 (by decide) ?_
  refine lv_istore_n (lv' := [(3, .int (nI 0)), (0, .ref m0), (1, .int (lI dn)), (2, .int (nI by9))]) hx hb dX4_decayed_1 rfl hl (by decide) rfl (fun ls hl => ?_)
  refine lv_iconst (v := nI 0) hx hb dX4_decayed_2 (by decide) ?_
  refine lv_istore (lv' := [(4, .int (nI 0)), (3, .int (nI 0)), (0, .ref m0), (1, .int (lI dn)), (2, .int (nI by9))]) hx hb dX4_decayed_3 hl (by decide) rfl (fun ls hl => ?_)
  have hl := lv_sub hl [2, 3, 4, 1, 0] (l' := [(0, .ref m0), (1, .int (lI dn)), (2, .int (nI by9)), (3, .int (decay by9 (loadD B) 0)), (4, .int (nI 0))]) rfl
  refine lp_W (σ := Nat) (hpc := 5) (fun x => dn - x) (fun x => 0) (fun x => 0) (fun x H locs ls => va_P G.1 CL [] H ∧ va_D A [] ∧ va_S A s.heap H locs ∧ lv_has ls 5 [(0, .ref m0), (1, .int (lI dn)), (2, .int (nI by9)), (3, .int (decay by9 (loadD B) x)), (4, .int (nI x))] ∧ (x ≤ dn)) ?_ (0) ⟨(show va_P G.1 CL [] H from hP), (show va_D A [] from hD), hS, hl, (show 0 ≤ dn from by omega)⟩ (show 0 ≤ 0 from by first | exact Nat.le_refl _ | omega) (show 0 ≤ 0 from by first | exact Nat.le_refl _ | omega)
  intro x H locs ls hI9 ih5
  obtain ⟨i_74, rfl⟩ : ∃ z, z = x := ⟨_, rfl⟩
  obtain ⟨hP, hD, hS, hl, hp_73⟩ := hI9
  have hP : va_P G.1 CL [] H := hP
  have hD : va_D A [] := hD
  have hl : lv_has ls 5 [(0, .ref m0), (1, .int (lI dn)), (2, .int (nI by9)), (3, .int (decay by9 (loadD B) i_74)), (4, .int (nI i_74))] := hl
  have hp_73 : i_74 ≤ dn := hp_73
  refine lv_iload hx hb dX4_decayed_5 (lv_at hl 4 rfl) ?_
  refine lv_iload_n hx hb dX4_decayed_7 rfl (lv_at hl 1 rfl) ?_
  refine lv_icmp_gt (tgt := 47) hx hb  dX4_decayed_8 (by decide) (fun c_75 => ?_) (fun c_75 => ?_)
  · have hi9 : i_74 = dn := Nat.le_antisymm (by assumption) ((lI_gt (t := i_74) (a := dn) (by omega) (by omega)).mp (by assumption))
    refine lv_iload_n hx hb dX4_decayed_47 rfl (lv_at hl 3 rfl) ?_
    have hP9 : va_P G.1 CL [] H := hP.sub [] rfl
    have hD9 : va_D A [] := hD.sub [] (by decide) rfl
    exact end_i hx hb hr hlk (rfl) (qc_of () (v := some (.int (decay by9 (loadD B) i_74))) (by rw [hi9]) (trivial) hP9 hD9 (trivial) hS) hS dX4_decayed_48 (show 0 ≤ 0 from by first | exact Nat.le_refl _ | decide | omega) (show 0 ≤ 0 from by first | exact Nat.le_refl _ | decide | omega)
  · have hi9 : i_74 < dn := Nat.not_le.mp (fun z => by first | exact absurd ((lI_gt (t := i_74) (a := dn) (by omega) (by omega)).mpr z) (by assumption))
    refine lv_iload_n hx hb dX4_decayed_11 rfl (lv_at hl 3 rfl) ?_
    refine lv_sipush (v := nI 1000) hx hb dX4_decayed_12 (by decide) ?_
    refine lv_iload hx hb dX4_decayed_15 (lv_at hl 4 rfl) ?_
    refine lv_sipush (v := nI 199) hx hb dX4_decayed_17 (by decide) ?_
    refine n_icmp_gt (tgt := 33) hx hb (by omega) (by omega) dX4_decayed_20 (by decide) (fun c_76 => ?_) (fun c_76 => ?_)
    · refine lv_iconst (v := nI 0) hx hb dX4_decayed_33 (by decide) ?_
      refine lv_ton (n := (loadD B i_74)) (congrArg nI (loadD_out hI (by omega)).symm) ?_
      refine lv_imul hx hb dX4_decayed_34 ?_
      refine lv_ton (n := 1000 * (loadD B i_74)) (nmul (by omega)) ?_
      refine lv_iload_n hx hb dX4_decayed_35 rfl (lv_at hl 3 rfl) ?_
      refine lv_isub hx hb dX4_decayed_36 ?_
      refine lv_iload_n hx hb dX4_decayed_37 rfl (lv_at hl 2 rfl) ?_
      refine lv_idiv hx hb dX4_decayed_38 (nI_ne0 (by omega) (by omega)) ?_
      refine lv_iadd hx hb dX4_decayed_39 ?_
      refine lv_toi (y := decay by9 (loadD B) (i_74 + 1)) (rfl) ?_
      refine lv_istore_n (lv' := [(3, .int (decay by9 (loadD B) (i_74 + 1))), (0, .ref m0), (1, .int (lI dn)), (2, .int (nI by9)), (4, .int (nI i_74))]) hx hb dX4_decayed_40 rfl hl (by decide) rfl (fun ls hl => ?_)
      refine lv_iinc (v := nI (i_74 + 1)) (lv' := [(4, .int (nI (i_74 + 1))), (3, .int (decay by9 (loadD B) (i_74 + 1))), (0, .ref m0), (1, .int (lI dn)), (2, .int (nI by9))]) hx hb dX4_decayed_41 hl (k := 4) rfl (ninc (b := 1) (by decide) (by omega)) (by decide) rfl (fun ls hl => ?_)
      refine lv_goto (tgt := 5) hx hb dX4_decayed_44 (by decide) ?_
      have hP : va_P G.1 CL [] H := hP.sub [] rfl
      have hD : va_D A [] := hD.sub [] (by decide) rfl
      have hl := lv_sub hl [2, 3, 4, 1, 0] (l' := [(0, .ref m0), (1, .int (lI dn)), (2, .int (nI by9)), (3, .int (decay by9 (loadD B) (i_74 + 1))), (4, .int (nI (i_74 + 1)))]) rfl
      exact W.widen (show 0 ≤ 0 from by first | exact Nat.le_refl _ | omega) (show 0 ≤ 0 from by first | exact Nat.le_refl _ | omega) (ih5 ((i_74 + 1)) H locs ls ⟨hP, hD, hS, hl, (show (i_74 + 1) ≤ dn from by omega)⟩ (show dn - (i_74 + 1) < dn - i_74 from by omega))
    · refine lv_aload_n hx hb dX4_decayed_23 rfl (lv_at hl 0 rfl) ?_
      refine va_get hx hb hts in_X4 hown hK (hR0.w hS) 0 rfl rfl 3 (by decide) (hts _ q1599) (fun _ h => h) rfl dX4_decayed_24 ?_
      refine lv_iload hx hb dX4_decayed_27 (lv_at hl 4 rfl) ?_
      refine r_iald (v := nI (loadD B i_74)) hx hb hK (hR0.w hS) 1 0 rfl rfl (i := i_74) (by omega) (by omega) (rfl) dX4_decayed_29 ?_
      refine lv_goto (tgt := 34) hx hb dX4_decayed_30 (by decide) ?_
      refine lv_imul hx hb dX4_decayed_34 ?_
      refine lv_ton (n := 1000 * (loadD B i_74)) (nmul (by omega)) ?_
      refine lv_iload_n hx hb dX4_decayed_35 rfl (lv_at hl 3 rfl) ?_
      refine lv_isub hx hb dX4_decayed_36 ?_
      refine lv_iload_n hx hb dX4_decayed_37 rfl (lv_at hl 2 rfl) ?_
      refine lv_idiv hx hb dX4_decayed_38 (nI_ne0 (by omega) (by omega)) ?_
      refine lv_iadd hx hb dX4_decayed_39 ?_
      refine lv_toi (y := decay by9 (loadD B) (i_74 + 1)) (rfl) ?_
      refine lv_istore_n (lv' := [(3, .int (decay by9 (loadD B) (i_74 + 1))), (0, .ref m0), (1, .int (lI dn)), (2, .int (nI by9)), (4, .int (nI i_74))]) hx hb dX4_decayed_40 rfl hl (by decide) rfl (fun ls hl => ?_)
      refine lv_iinc (v := nI (i_74 + 1)) (lv' := [(4, .int (nI (i_74 + 1))), (3, .int (decay by9 (loadD B) (i_74 + 1))), (0, .ref m0), (1, .int (lI dn)), (2, .int (nI by9))]) hx hb dX4_decayed_41 hl (k := 4) rfl (ninc (b := 1) (by decide) (by omega)) (by decide) rfl (fun ls hl => ?_)
      refine lv_goto (tgt := 5) hx hb dX4_decayed_44 (by decide) ?_
      have hP : va_P G.1 CL [] H := hP.sub [] rfl
      have hD : va_D A [] := hD.sub [] (by decide) rfl
      have hl := lv_sub hl [2, 3, 4, 1, 0] (l' := [(0, .ref m0), (1, .int (lI dn)), (2, .int (nI by9)), (3, .int (decay by9 (loadD B) (i_74 + 1))), (4, .int (nI (i_74 + 1)))]) rfl
      exact W.widen (show 0 ≤ 0 from by first | exact Nat.le_refl _ | omega) (show 0 ≤ 0 from by first | exact Nat.le_refl _ | omega) (ih5 ((i_74 + 1)) H locs ls ⟨hP, hD, hS, hl, (show (i_74 + 1) ≤ dn from by omega)⟩ (show dn - (i_74 + 1) < dn - i_74 from by omega))

set_option maxHeartbeats 4000000 in
theorem mX4_form (l : Launch) (G : Gt) (m0 : Nat) (sa : Nat) (oa : Nat) (pa : Nat) (la : Nat) (za : Nat) (na : Nat) (gu : Int32) (gt : Int32) (gw : Int32) (gd : Int32) (gm : Int32) (gr : Int32) (gh : Int32) (gv : Int32) (B : Bk) (d : Nat) (hI : Inv B) (hd : d ≤ 1000) : CT l G yX4_form cX4_form 2 (some .int) ({ frames := 2, cells := 0, slots := 0, locals := 36 } : Room) [.ref m0, .int (nI d)] [] (fun (A : Nat → Prop) (H : Heap) => roW G A H [(m0, .inr (6, [.ref sa, .ref oa, .ref pa, .ref la, .ref za, .ref na, .int gu, .int gt, .int gw, .int gd, .int gm, .int gr, .int gh, .int gv])), (la, .inl (G.2 0, 200, .inl (ldF B)))]) (S := Unit) (fun (u_ : Unit) => some (.int (formS B d))) (fun (u_ : Unit) => True) (fun (u_ : Unit) => []) (fun (u_ : Unit) (H : Heap) => True) := by
  refine CT.of (by decide) (Nat.le_of_ble_eq_true rfl) ?_
  intro p e s m below meth c ls A H locs h9 hH0 hP hS
  obtain ⟨cf, hr, hlk, hnm, hKB, hE, -, hD, -, hA, hAw, hR0, hl⟩ := h9
  have hx := cf.1
  have hb := cf.2.1
  have hml := cf.2.2.1
  have hown : s.vm.findClass RX4 = some m.cls := cf.2.2.2.1
  have hts := cf.2.2.2.2
  have hK := hKB.1
  have hl : lv_has ls 2 [(0, .ref m0), (1, .int (nI d))] := hl
  have iD := iv_bD hI
  refine lv_aload_n hx hb dX4_form_0 rfl (lv_at hl 0 rfl) ?_
  refine lv_iload_n hx hb dX4_form_1 rfl (lv_at hl 1 rfl) ?_
  refine lv_iconst (v := nI 1) hx hb dX4_form_2 (by decide) ?_
  refine lv_isub hx hb dX4_form_3 ?_
  refine lv_toi (y := lI d) (rfl) ?_
  refine lv_bipush (v := nI 42) hx hb dX4_form_4 (by decide) ?_
  have hF := hF_of (wc := []) hD hS hA [] rfl
  have hro_77 : va_P G.1 CL [(m0, .inr (6, [.ref sa, .ref oa, .ref pa, .ref la, .ref za, .ref na, .int gu, .int gt, .int gw, .int gd, .int gm, .int gr, .int gh, .int gv])), (la, .inl (G.2 0, 200, .inl (ldF B)))] H := ((hR0.w hS).sub [0, 1] rfl)
  refine go_ct hS hP hD [] [] hF rfl rfl (by decide) (by decide)
      (va_runV (As := [.int (lI d), .int (nI 42)]) (rest := []) cf (mX4_decayed l G m0 sa oa pa la za na gu gt gw gd gm gr gh gv B d 42 (show Inv B from by first | assumption | omega) (show d ≤ 1000 from by first | assumption | omega) (show 1 ≤ 42 ∧ 42 ≤ 100 from by first | assumption | omega) H.size) (cwV 2 hts (lw_V q1811 q1813 qs35 q58 q1814) rfl rfl rfl (by decide +kernel) ⟨Nat.le_of_ble_eq_true rfl, Nat.le_of_ble_eq_true rfl⟩) (preV_of hKB hE hS hF (va_recv hK (hR0.w hS) (ci := 6) (q0 := 0) rfl rfl) (va_P.sub hP [] rfl) ((va_D.sub hD [] (by decide) rfl).weaken (fun _ _ _ _ => trivial)) (roW.nil hro_77)) rfl rfl hl.1 rfl (lv_room (Nat.le_of_ble_eq_true rfl)) dX4_form_6 ⟨show 0 + 0 ≤ 0 from by first | decide | omega, show 0 + 0 ≤ 0 from by first | decide | omega⟩)
      (fun u_ H locs hq hph (hP : va_P G.1 CL [] H) (hD : va_D A []) hS hfz hfk => ?_)
  refine W.eq (g2 := F0 m 9 ls [.int (decay 42 (loadD B) d)]) rfl ?_
  refine lv_aload_n hx hb dX4_form_9 rfl (lv_at hl 0 rfl) ?_
  refine lv_iload_n hx hb dX4_form_10 rfl (lv_at hl 1 rfl) ?_
  refine lv_iconst (v := nI 1) hx hb dX4_form_11 (by decide) ?_
  refine lv_isub hx hb dX4_form_12 ?_
  refine lv_toi (y := lI d) (rfl) ?_
  refine lv_bipush (v := nI 7) hx hb dX4_form_13 (by decide) ?_
  have hF := hF_of (wc := []) hD hS hA [] rfl
  have hro_78 : va_P G.1 CL [(m0, .inr (6, [.ref sa, .ref oa, .ref pa, .ref la, .ref za, .ref na, .int gu, .int gt, .int gw, .int gd, .int gm, .int gr, .int gh, .int gv])), (la, .inl (G.2 0, 200, .inl (ldF B)))] H := ((hR0.w hS).sub [0, 1] rfl)
  refine go_ct hS hP hD [] [] hF rfl rfl (by decide) (by decide)
      (va_runV (As := [.int (lI d), .int (nI 7)]) (rest := [.int (decay 42 (loadD B) d)]) cf (mX4_decayed l G m0 sa oa pa la za na gu gt gw gd gm gr gh gv B d 7 (show Inv B from by first | assumption | omega) (show d ≤ 1000 from by first | assumption | omega) (show 1 ≤ 7 ∧ 7 ≤ 100 from by first | assumption | omega) H.size) (cwV 2 hts (lw_V q1811 q1813 qs35 q58 q1814) rfl rfl rfl (by decide +kernel) ⟨Nat.le_of_ble_eq_true rfl, Nat.le_of_ble_eq_true rfl⟩) (preV_of hKB hE hS hF (va_recv hK (hR0.w hS) (ci := 6) (q0 := 0) rfl rfl) (va_P.sub hP [] rfl) ((va_D.sub hD [] (by decide) rfl).weaken (fun _ _ _ _ => trivial)) (roW.nil hro_78)) rfl rfl hl.1 rfl (lv_room (Nat.le_of_ble_eq_true rfl)) dX4_form_15 ⟨show 0 + 0 ≤ 0 from by first | decide | omega, show 0 + 0 ≤ 0 from by first | decide | omega⟩)
      (fun u_ H locs hq hph (hP : va_P G.1 CL [] H) (hD : va_D A []) hS hfz hfk => ?_)
  refine W.eq (g2 := F0 m 18 ls [.int (decay 7 (loadD B) d), .int (decay 42 (loadD B) d)]) rfl ?_
  refine lv_isub hx hb dX4_form_18 ?_
  have hP9 : va_P G.1 CL [] H := hP.sub [] rfl
  have hD9 : va_D A [] := hD.sub [] (by decide) rfl
  exact end_i hx hb hr hlk (rfl) (qc_of () (v := some (.int ((decay 42 (loadD B) d) - (decay 7 (loadD B) d)))) (by rfl) (trivial) hP9 hD9 (trivial) hS) hS dX4_form_19 (show 0 ≤ 0 from by first | exact Nat.le_refl _ | decide | omega) (show 0 ≤ 0 from by first | exact Nat.le_refl _ | decide | omega)

set_option maxHeartbeats 4000000 in
theorem mX4_row (l : Launch) (G : Gt) (m0 : Nat) (sa : Nat) (oa : Nat) (pa : Nat) (la : Nat) (za : Nat) (na : Nat) (gu : Int32) (gt : Int32) (gw : Int32) (gd : Int32) (gm : Int32) (gr : Int32) (gh : Int32) (gv : Int32) (B : Bk) (a9 : Nat) (len : Nat) (hI : Inv B) (hlen : a9 + len ≤ 200) : CT l G yX4_row cX4_row 5 (some .int) ({ frames := 1, cells := 0, slots := 0, locals := 12 } : Room) [.ref m0, .int (nI a9), .int (nI len)] [] (fun (A : Nat → Prop) (H : Heap) => roW G A H [(m0, .inr (6, [.ref sa, .ref oa, .ref pa, .ref la, .ref za, .ref na, .int gu, .int gt, .int gw, .int gd, .int gm, .int gr, .int gh, .int gv])), (la, .inl (G.2 0, 200, .inl (ldF B)))]) (S := Unit) (fun (u_ : Unit) => some (.int (nI (rowS B a9 len)))) (fun (u_ : Unit) => True) (fun (u_ : Unit) => []) (fun (u_ : Unit) (H : Heap) => True) := by
  refine CT.of (by decide) (Nat.le_of_ble_eq_true rfl) ?_
  intro p e s m below meth c ls A H locs h9 hH0 hP hS
  obtain ⟨cf, hr, hlk, hnm, hKB, hE, -, hD, -, hA, hAw, hR0, hl⟩ := h9
  have hx := cf.1
  have hb := cf.2.1
  have hml := cf.2.2.1
  have hown : s.vm.findClass RX4 = some m.cls := cf.2.2.2.1
  have hts := cf.2.2.2.2
  have hK := hKB.1
  have hl : lv_has ls 5 [(0, .ref m0), (1, .int (nI a9)), (2, .int (nI len))] := hl
  have iD := iv_bD hI
  refine lv_iconst (v := nI 0) hx hb dX4_row_0 (by decide) ?_
  refine lv_istore_n (lv' := [(3, .int (nI 0)), (0, .ref m0), (1, .int (nI a9)), (2, .int (nI len))]) hx hb dX4_row_1 rfl hl (by decide) rfl (fun ls hl => ?_)
  refine lv_iload_n hx hb dX4_row_2 rfl (lv_at hl 2 rfl) ?_
  refine lv_istore (lv' := [(4, .int (nI a9)), (3, .int (nI 0)), (0, .ref m0), (1, .int (nI a9)), (2, .int (nI len))]) hx hb dX4_row_3 hl (by decide) rfl (fun ls hl => ?_)
  have hl := lv_sub hl [2, 3, 4, 1, 0] (l' := [(0, .ref m0), (1, .int (nI a9)), (2, .int (nI len)), (3, .int (nI (psum (fun jj => loadD B (a9 + jj)) 0))), (4, .int (nI a9))]) rfl
  refine lp_W (σ := Nat) (hpc := 5) (fun x => len - x) (fun x => 0) (fun x => 0) (fun x H locs ls => va_P G.1 CL [] H ∧ va_D A [] ∧ va_S A s.heap H locs ∧ lv_has ls 5 [(0, .ref m0), (1, .int (nI a9)), (2, .int (nI len)), (3, .int (nI (psum (fun jj => loadD B (a9 + jj)) x))), (4, .int (nI (a9 + x)))] ∧ (x ≤ len)) ?_ (0) ⟨(show va_P G.1 CL [] H from hP), (show va_D A [] from hD), hS, hl, (show 0 ≤ len from by omega)⟩ (show 0 ≤ 0 from by first | exact Nat.le_refl _ | omega) (show 0 ≤ 0 from by first | exact Nat.le_refl _ | omega)
  intro x H locs ls hI9 ih5
  obtain ⟨j_80, rfl⟩ : ∃ z, z = x := ⟨_, rfl⟩
  obtain ⟨hP, hD, hS, hl, hp_79⟩ := hI9
  have hP : va_P G.1 CL [] H := hP
  have hD : va_D A [] := hD
  have hl : lv_has ls 5 [(0, .ref m0), (1, .int (nI a9)), (2, .int (nI len)), (3, .int (nI (psum (fun jj => loadD B (a9 + jj)) j_80))), (4, .int (nI (a9 + j_80)))] := hl
  have hp_79 : j_80 ≤ len := hp_79
  refine lv_iload hx hb dX4_row_5 (lv_at hl 4 rfl) ?_
  refine lv_iload_n hx hb dX4_row_7 rfl (lv_at hl 1 rfl) ?_
  refine lv_iload_n hx hb dX4_row_8 rfl (lv_at hl 2 rfl) ?_
  refine lv_iadd hx hb dX4_row_9 ?_
  refine lv_ton (n := a9 + len) (nadd (by omega)) ?_
  refine n_icmp_ge (tgt := 29) hx hb (by omega) (by omega) dX4_row_10 (by decide) (fun c_81 => ?_) (fun c_81 => ?_)
  · refine lv_iload_n hx hb dX4_row_29 rfl (lv_at hl 3 rfl) ?_
    have hP9 : va_P G.1 CL [] H := hP.sub [] rfl
    have hD9 : va_D A [] := hD.sub [] (by decide) rfl
    exact end_i hx hb hr hlk (rfl) (qc_of () (v := some (.int (nI (psum (fun jj => loadD B (a9 + jj)) j_80)))) (by rw [show j_80 = len from by omega] <;> rfl) (trivial) hP9 hD9 (trivial) hS) hS dX4_row_30 (show 0 ≤ 0 from by first | exact Nat.le_refl _ | decide | omega) (show 0 ≤ 0 from by first | exact Nat.le_refl _ | decide | omega)
  · refine lv_iload_n hx hb dX4_row_13 rfl (lv_at hl 3 rfl) ?_
    refine lv_aload_n hx hb dX4_row_14 rfl (lv_at hl 0 rfl) ?_
    refine va_get hx hb hts in_X4 hown hK (hR0.w hS) 0 rfl rfl 3 (by decide) (hts _ q1599) (fun _ h => h) rfl dX4_row_15 ?_
    refine lv_iload hx hb dX4_row_18 (lv_at hl 4 rfl) ?_
    refine r_iald (v := nI (loadD B (a9 + j_80))) hx hb hK (hR0.w hS) 1 0 rfl rfl (i := a9 + j_80) (by omega) (by omega) (rfl) dX4_row_20 ?_
    refine lv_iadd hx hb dX4_row_21 ?_
    refine lv_ton (n := (loadD B (a9 + j_80)) + (psum (fun jj => loadD B (a9 + jj)) j_80)) (nadd (by omega)) ?_
    refine lv_ton (n := (psum (fun jj => loadD B (a9 + jj)) (j_80 + 1))) (congrArg nI (by simp only [psum]; omega)) ?_
    refine lv_istore_n (lv' := [(3, .int (nI (psum (fun jj => loadD B (a9 + jj)) (j_80 + 1)))), (0, .ref m0), (1, .int (nI a9)), (2, .int (nI len)), (4, .int (nI (a9 + j_80)))]) hx hb dX4_row_22 rfl hl (by decide) rfl (fun ls hl => ?_)
    refine lv_iinc (v := nI (a9 + j_80 + 1)) (lv' := [(4, .int (nI (a9 + j_80 + 1))), (3, .int (nI (psum (fun jj => loadD B (a9 + jj)) (j_80 + 1)))), (0, .ref m0), (1, .int (nI a9)), (2, .int (nI len))]) hx hb dX4_row_23 hl (k := 4) rfl (ninc (b := 1) (by decide) (by omega)) (by decide) rfl (fun ls hl => ?_)
    refine lv_goto (tgt := 5) hx hb dX4_row_26 (by decide) ?_
    have hP : va_P G.1 CL [] H := hP.sub [] rfl
    have hD : va_D A [] := hD.sub [] (by decide) rfl
    have hl := lv_sub hl [2, 3, 4, 1, 0] (l' := [(0, .ref m0), (1, .int (nI a9)), (2, .int (nI len)), (3, .int (nI (psum (fun jj => loadD B (a9 + jj)) (j_80 + 1)))), (4, .int (nI (a9 + j_80 + 1)))]) rfl
    exact W.widen (show 0 ≤ 0 from by first | exact Nat.le_refl _ | omega) (show 0 ≤ 0 from by first | exact Nat.le_refl _ | omega) (ih5 ((j_80 + 1)) H locs ls ⟨hP, hD, hS, hl, (show (j_80 + 1) ≤ len from by omega)⟩ (show len - (j_80 + 1) < len - j_80 from by omega))

set_option maxHeartbeats 4000000 in
theorem mX4_bestRow (l : Launch) (G : Gt) (m0 : Nat) (sa : Nat) (oa : Nat) (pa : Nat) (la : Nat) (za : Nat) (na : Nat) (gu : Int32) (gt : Int32) (gw : Int32) (gd : Int32) (gm : Int32) (gr : Int32) (gh : Int32) (gv : Int32) (f : Nat → Int32) (B : Bk) (lf : Nat → Int32) (zf : Nat → Int32) (len : Nat) (hM : MR f B) (hI : Inv B) (hlen : 1 ≤ len ∧ len ≤ bD B + 1) : CT l G yX4_bestRow cX4_bestRow 4 (some .int) ({ frames := 6, cells := 0, slots := 0, locals := 127 } : Room) [.ref m0, .int (nI len)] [(la, .inl (G.2 0, 200, .inl lf)), (za, .inl (G.2 0, 6, .inl zf))] (fun (A : Nat → Prop) (H : Heap) => roW G A H [(m0, .inr (6, [.ref sa, .ref oa, .ref pa, .ref la, .ref za, .ref na, .int gu, .int gt, .int gw, .int gd, .int gm, .int gr, .int gh, .int gv])), (sa, .inl (G.2 0, 830, .inl f))]) (S := (Nat → Int32)) (fun (u_ : (Nat → Int32)) => some (.int (nI (bestW B len (bD B + 1 - len))))) (fun (u_ : (Nat → Int32)) => True) (fun (u_ : (Nat → Int32)) => [(la, .inl (G.2 0, 200, .inl (ldF B))), (za, .inl (G.2 0, 6, .inl u_))]) (fun (u_ : (Nat → Int32)) (H : Heap) => True) := by
  refine CT.of (by decide) (Nat.le_of_ble_eq_true rfl) ?_
  intro p e s m below meth c ls A H locs h9 hH0 hP hS
  obtain ⟨cf, hr, hlk, hnm, hKB, hE, -, hD, -, hA, hAw, hR0, hl⟩ := h9
  have hx := cf.1
  have hb := cf.2.1
  have hml := cf.2.2.1
  have hown : s.vm.findClass RX4 = some m.cls := cf.2.2.2.1
  have hts := cf.2.2.2.2
  have hK := hKB.1
  have hl : lv_has ls 4 [(0, .ref m0), (1, .int (nI len))] := hl
  have iN := iv_sN hI
  have iT := iv_tN hI
  have iD := iv_bD hI
  have iE := iv_bE hI
  have iW := iv_id hI
  refine lv_aload_n hx hb dX4_bestRow_0 rfl (lv_at hl 0 rfl) ?_
  have hF := hF_of (wc := [(la, .inl (G.2 0, 200, .inl lf)), (za, .inl (G.2 0, 6, .inl zf))]) hD hS hA [0, 1] rfl
  have hro_82 : roW G (va_A [(la, .inl (G.2 0, 200, .inl lf)), (za, .inl (G.2 0, 6, .inl zf))] H.size) H [(m0, .inr (6, [.ref sa, .ref oa, .ref pa, .ref la, .ref za, .ref na, .int gu, .int gt, .int gw, .int gd, .int gm, .int gr, .int gh, .int gv])), (sa, .inl (G.2 0, 830, .inl f))] := ((hR0.kp hF hS.2.1).sub (ws' := [(m0, .inr (6, [.ref sa, .ref oa, .ref pa, .ref la, .ref za, .ref na, .int gu, .int gt, .int gw, .int gd, .int gm, .int gr, .int gh, .int gv])), (sa, .inl (G.2 0, 830, .inl f))]) [0, 1] rfl)
  refine go_ct hS hP hD [0, 1] [] hF rfl rfl (by decide) (by decide)
      (va_runV (As := []) (rest := []) cf (mX4_loads l G m0 sa oa pa la za na gu gt gw gd gm gr gh gv f B lf zf (show MR f B from by first | assumption | omega) (show Inv B from by first | assumption | omega) H.size) (cwV 0 hts (lw_V q1795 q1797 qs34 q58 q1798) rfl rfl rfl (by decide +kernel) ⟨Nat.le_of_ble_eq_true rfl, Nat.le_of_ble_eq_true rfl⟩) (preV_of hKB hE hS hF (va_recv hK (hR0.w hS) (ci := 6) (q0 := 0) rfl rfl) (va_P.sub hP [0, 1] rfl) ((va_D.sub hD [0, 1] (by decide) rfl).weaken (fun _ _ _ _ => trivial)) hro_82) rfl rfl hl.1 rfl (lv_room (Nat.le_of_ble_eq_true rfl)) dX4_bestRow_1 ⟨show 0 + 0 ≤ 0 from by first | decide | omega, show 0 + 0 ≤ 0 from by first | decide | omega⟩)
      (fun u_ H locs hq hph (hP : va_P G.1 CL [(la, .inl (G.2 0, 200, .inl (ldF B))), (za, .inl (G.2 0, 6, .inl u_))] H) (hD : va_D A [(la, .inl (G.2 0, 200, .inl (ldF B))), (za, .inl (G.2 0, 6, .inl u_))]) hS hfz hfk => ?_)
  obtain ⟨zg_83, rfl⟩ : ∃ z, z = u_ := ⟨_, rfl⟩
  have hP : va_P G.1 CL [(la, .inl (G.2 0, 200, .inl (ldF B))), (za, .inl (G.2 0, 6, .inl zg_83))] H := hP
  have hD : va_D A [(la, .inl (G.2 0, 200, .inl (ldF B))), (za, .inl (G.2 0, 6, .inl zg_83))] := hD
  refine W.eq (g2 := F0 m 4 ls []) rfl ?_
  refine lv_iconst (v := nI 0) hx hb dX4_bestRow_4 (by decide) ?_
  refine lv_istore_n (lv' := [(2, .int (nI 0)), (0, .ref m0), (1, .int (nI len))]) hx hb dX4_bestRow_5 rfl hl (by decide) rfl (fun ls hl => ?_)
  refine lv_iconst (v := nI 1) hx hb dX4_bestRow_6 (by decide) ?_
  refine lv_istore_n (lv' := [(3, .int (nI 1)), (2, .int (nI 0)), (0, .ref m0), (1, .int (nI len))]) hx hb dX4_bestRow_7 rfl hl (by decide) rfl (fun ls hl => ?_)
  have hl := lv_sub hl [2, 3, 1, 0] (l' := [(0, .ref m0), (1, .int (nI len)), (2, .int (nI (bestW B len 0))), (3, .int (nI 1))]) rfl
  refine lp_W (σ := Nat) (hpc := 8) (fun x => bD B + 1 - len - x) (fun x => 0) (fun x => 0) (fun x H locs ls => va_P G.1 CL [(la, .inl (G.2 0, 200, .inl (ldF B))), (za, .inl (G.2 0, 6, .inl zg_83))] H ∧ va_D A [(la, .inl (G.2 0, 200, .inl (ldF B))), (za, .inl (G.2 0, 6, .inl zg_83))] ∧ va_S A s.heap H locs ∧ lv_has ls 4 [(0, .ref m0), (1, .int (nI len)), (2, .int (nI (bestW B len x))), (3, .int (nI (x + 1)))] ∧ (x ≤ bD B + 1 - len)) ?_ (0) ⟨(show va_P G.1 CL [(la, .inl (G.2 0, 200, .inl (ldF B))), (za, .inl (G.2 0, 6, .inl zg_83))] H from hP), (show va_D A [(la, .inl (G.2 0, 200, .inl (ldF B))), (za, .inl (G.2 0, 6, .inl zg_83))] from hD), hS, hl, (show 0 ≤ bD B + 1 - len from by omega)⟩ (show 0 ≤ 0 from by first | exact Nat.le_refl _ | omega) (show 0 ≤ 0 from by first | exact Nat.le_refl _ | omega)
  intro x H locs ls hI9 ih8
  obtain ⟨i_85, rfl⟩ : ∃ z, z = x := ⟨_, rfl⟩
  obtain ⟨hP, hD, hS, hl, hp_84⟩ := hI9
  have hP : va_P G.1 CL [(la, .inl (G.2 0, 200, .inl (ldF B))), (za, .inl (G.2 0, 6, .inl zg_83))] H := hP
  have hD : va_D A [(la, .inl (G.2 0, 200, .inl (ldF B))), (za, .inl (G.2 0, 6, .inl zg_83))] := hD
  have hl : lv_has ls 4 [(0, .ref m0), (1, .int (nI len)), (2, .int (nI (bestW B len i_85))), (3, .int (nI (i_85 + 1)))] := hl
  have hp_84 : i_85 ≤ bD B + 1 - len := hp_84
  have hb9 := bestW_le B len i_85
  refine lv_iload_n hx hb dX4_bestRow_8 rfl (lv_at hl 3 rfl) ?_
  refine lv_iload_n hx hb dX4_bestRow_9 rfl (lv_at hl 1 rfl) ?_
  refine lv_iadd hx hb dX4_bestRow_10 ?_
  refine lv_ton (n := i_85 + len + 1) (nadd (by omega)) ?_
  refine lv_iconst (v := nI 1) hx hb dX4_bestRow_11 (by decide) ?_
  refine lv_isub hx hb dX4_bestRow_12 ?_
  refine lv_ton (n := i_85 + len) (nsub (by omega)) ?_
  refine lv_aload_n hx hb dX4_bestRow_13 rfl (lv_at hl 0 rfl) ?_
  refine va_get hx hb hts in_X4 hown hK (hR0.w hS) 0 rfl rfl 0 (by decide) (hts _ q1596) (fun _ h => h) rfl dX4_bestRow_14 ?_
  refine lv_iconst (v := nI 0) hx hb dX4_bestRow_17 (by decide) ?_
  refine r_iald (v := nI (bD B)) hx hb hK (hR0.w hS) 1 0 rfl rfl (i := 0) (by omega) (by omega) (hM.today) dX4_bestRow_18 ?_
  refine n_icmp_gt (tgt := 49) hx hb (by omega) (by omega) dX4_bestRow_19 (by decide) (fun c_86 => ?_) (fun c_86 => ?_)
  · refine lv_iload_n hx hb dX4_bestRow_49 rfl (lv_at hl 2 rfl) ?_
    have hP9 : va_P G.1 CL [(la, .inl (G.2 0, 200, .inl (ldF B))), (za, .inl (G.2 0, 6, .inl zg_83))] H := hP.sub [0, 1] rfl
    have hD9 : va_D A [(la, .inl (G.2 0, 200, .inl (ldF B))), (za, .inl (G.2 0, 6, .inl zg_83))] := hD.sub [0, 1] (by decide) rfl
    exact end_i hx hb hr hlk (rfl) (qc_of zg_83 (v := some (.int (nI (bestW B len i_85)))) (by rw [show i_85 = bD B + 1 - len from by omega]) (trivial) hP9 hD9 (trivial) hS) hS dX4_bestRow_50 (show 0 ≤ 0 from by first | exact Nat.le_refl _ | decide | omega) (show 0 ≤ 0 from by first | exact Nat.le_refl _ | decide | omega)
  · have hr1 : rowS B (i_85 + 1) len ≤ 192000000 := rowS_le hI _ (by omega) (Nat.le_refl _)
    have hr2 : rowS B (bestW B len i_85) len ≤ 192000000 := rowS_le hI _ (by omega) (Nat.le_refl _)
    refine lv_aload_n hx hb dX4_bestRow_22 rfl (lv_at hl 0 rfl) ?_
    refine lv_iload_n hx hb dX4_bestRow_23 rfl (lv_at hl 3 rfl) ?_
    refine lv_iload_n hx hb dX4_bestRow_24 rfl (lv_at hl 1 rfl) ?_
    have hF := hF_of (wc := []) hD hS hA [] rfl
    have hro_87 : va_P G.1 CL [(m0, .inr (6, [.ref sa, .ref oa, .ref pa, .ref la, .ref za, .ref na, .int gu, .int gt, .int gw, .int gd, .int gm, .int gr, .int gh, .int gv])), (la, .inl (G.2 0, 200, .inl (ldF B)))] H := (((hR0.w hS).sub [0] rfl).app (va_P.sub hP [0] rfl))
    refine go_ct hS hP hD [] [0, 1] hF rfl rfl (by decide) (by decide)
        (va_runV (As := [.int (nI (i_85 + 1)), .int (nI len)]) (rest := []) cf (mX4_row l G m0 sa oa pa la za na gu gt gw gd gm gr gh gv B (i_85 + 1) len (show Inv B from by first | assumption | omega) (show (i_85 + 1) + len ≤ 200 from by first | assumption | omega) H.size) (cwV 2 hts (lw_V q1859 q1861 qs39 q58 q1862) rfl rfl rfl (by decide +kernel) ⟨Nat.le_of_ble_eq_true rfl, Nat.le_of_ble_eq_true rfl⟩) (preV_of hKB hE hS hF (va_recv hK (hR0.w hS) (ci := 6) (q0 := 0) rfl rfl) (va_P.sub hP [] rfl) ((va_D.sub hD [] (by decide) rfl).weaken (fun _ _ _ _ => trivial)) (roW.nil hro_87)) rfl rfl hl.1 rfl (lv_room (Nat.le_of_ble_eq_true rfl)) dX4_bestRow_25 ⟨show 0 + 0 ≤ 0 from by first | decide | omega, show 0 + 0 ≤ 0 from by first | decide | omega⟩)
        (fun u_ H locs hq hph (hP : va_P G.1 CL [(la, .inl (G.2 0, 200, .inl (ldF B))), (za, .inl (G.2 0, 6, .inl zg_83))] H) (hD : va_D A [(la, .inl (G.2 0, 200, .inl (ldF B))), (za, .inl (G.2 0, 6, .inl zg_83))]) hS hfz hfk => ?_)
    refine W.eq (g2 := F0 m 28 ls [.int (nI (rowS B (i_85 + 1) len))]) rfl ?_
    refine lv_aload_n hx hb dX4_bestRow_28 rfl (lv_at hl 0 rfl) ?_
    refine lv_iload_n hx hb dX4_bestRow_29 rfl (lv_at hl 2 rfl) ?_
    refine lv_iload_n hx hb dX4_bestRow_30 rfl (lv_at hl 1 rfl) ?_
    have hF := hF_of (wc := []) hD hS hA [] rfl
    have hro_88 : va_P G.1 CL [(m0, .inr (6, [.ref sa, .ref oa, .ref pa, .ref la, .ref za, .ref na, .int gu, .int gt, .int gw, .int gd, .int gm, .int gr, .int gh, .int gv])), (la, .inl (G.2 0, 200, .inl (ldF B)))] H := (((hR0.w hS).sub [0] rfl).app (va_P.sub hP [0] rfl))
    refine go_ct hS hP hD [] [0, 1] hF rfl rfl (by decide) (by decide)
        (va_runV (As := [.int (nI (bestW B len i_85)), .int (nI len)]) (rest := [.int (nI (rowS B (i_85 + 1) len))]) cf (mX4_row l G m0 sa oa pa la za na gu gt gw gd gm gr gh gv B (bestW B len i_85) len (show Inv B from by first | assumption | omega) (show (bestW B len i_85) + len ≤ 200 from by first | assumption | omega) H.size) (cwV 2 hts (lw_V q1859 q1861 qs39 q58 q1862) rfl rfl rfl (by decide +kernel) ⟨Nat.le_of_ble_eq_true rfl, Nat.le_of_ble_eq_true rfl⟩) (preV_of hKB hE hS hF (va_recv hK (hR0.w hS) (ci := 6) (q0 := 0) rfl rfl) (va_P.sub hP [] rfl) ((va_D.sub hD [] (by decide) rfl).weaken (fun _ _ _ _ => trivial)) (roW.nil hro_88)) rfl rfl hl.1 rfl (lv_room (Nat.le_of_ble_eq_true rfl)) dX4_bestRow_31 ⟨show 0 + 0 ≤ 0 from by first | decide | omega, show 0 + 0 ≤ 0 from by first | decide | omega⟩)
        (fun u_ H locs hq hph (hP : va_P G.1 CL [(la, .inl (G.2 0, 200, .inl (ldF B))), (za, .inl (G.2 0, 6, .inl zg_83))] H) (hD : va_D A [(la, .inl (G.2 0, 200, .inl (ldF B))), (za, .inl (G.2 0, 6, .inl zg_83))]) hS hfz hfk => ?_)
    refine W.eq (g2 := F0 m 34 ls [.int (nI (rowS B (bestW B len i_85) len)), .int (nI (rowS B (i_85 + 1) len))]) rfl ?_
    refine n_icmp_le (tgt := 41) hx hb (by omega) (by omega) dX4_bestRow_34 (by decide) (fun c_89 => ?_) (fun c_89 => ?_)
    · refine lv_iload_n hx hb dX4_bestRow_41 rfl (lv_at hl 2 rfl) ?_
      refine lv_ton (n := (bestW B len (i_85 + 1))) (congrArg nI (by simp only [bestW]; first | rw [if_pos (by omega)] | rw [if_neg (by omega)])) ?_
      refine lv_istore_n (lv' := [(2, .int (nI (bestW B len (i_85 + 1)))), (0, .ref m0), (1, .int (nI len)), (3, .int (nI (i_85 + 1)))]) hx hb dX4_bestRow_42 rfl hl (by decide) rfl (fun ls hl => ?_)
      refine lv_iinc (v := nI (i_85 + 2)) (lv' := [(3, .int (nI (i_85 + 2))), (2, .int (nI (bestW B len (i_85 + 1)))), (0, .ref m0), (1, .int (nI len))]) hx hb dX4_bestRow_43 hl (k := 3) rfl (ninc (b := 1) (by decide) (by omega)) (by decide) rfl (fun ls hl => ?_)
      refine lv_goto (tgt := 8) hx hb dX4_bestRow_46 (by decide) ?_
      have hP : va_P G.1 CL [(la, .inl (G.2 0, 200, .inl (ldF B))), (za, .inl (G.2 0, 6, .inl zg_83))] H := hP.sub [0, 1] rfl
      have hD : va_D A [(la, .inl (G.2 0, 200, .inl (ldF B))), (za, .inl (G.2 0, 6, .inl zg_83))] := hD.sub [0, 1] (by decide) rfl
      have hl := lv_sub hl [2, 3, 1, 0] (l' := [(0, .ref m0), (1, .int (nI len)), (2, .int (nI (bestW B len (i_85 + 1)))), (3, .int (nI (i_85 + 2)))]) rfl
      exact W.widen (show 0 ≤ 0 from by first | exact Nat.le_refl _ | omega) (show 0 ≤ 0 from by first | exact Nat.le_refl _ | omega) (ih8 ((i_85 + 1)) H locs ls ⟨hP, hD, hS, hl, (show (i_85 + 1) ≤ bD B + 1 - len from by omega)⟩ (show bD B + 1 - len - (i_85 + 1) < bD B + 1 - len - i_85 from by omega))
    · refine lv_iload_n hx hb dX4_bestRow_37 rfl (lv_at hl 3 rfl) ?_
      refine lv_goto (tgt := 42) hx hb dX4_bestRow_38 (by decide) ?_
      refine lv_ton (n := (bestW B len (i_85 + 1))) (congrArg nI (by simp only [bestW]; first | rw [if_pos (by omega)] | rw [if_neg (by omega)])) ?_
      refine lv_istore_n (lv' := [(2, .int (nI (bestW B len (i_85 + 1)))), (0, .ref m0), (1, .int (nI len)), (3, .int (nI (i_85 + 1)))]) hx hb dX4_bestRow_42 rfl hl (by decide) rfl (fun ls hl => ?_)
      refine lv_iinc (v := nI (i_85 + 2)) (lv' := [(3, .int (nI (i_85 + 2))), (2, .int (nI (bestW B len (i_85 + 1)))), (0, .ref m0), (1, .int (nI len))]) hx hb dX4_bestRow_43 hl (k := 3) rfl (ninc (b := 1) (by decide) (by omega)) (by decide) rfl (fun ls hl => ?_)
      refine lv_goto (tgt := 8) hx hb dX4_bestRow_46 (by decide) ?_
      have hP : va_P G.1 CL [(la, .inl (G.2 0, 200, .inl (ldF B))), (za, .inl (G.2 0, 6, .inl zg_83))] H := hP.sub [0, 1] rfl
      have hD : va_D A [(la, .inl (G.2 0, 200, .inl (ldF B))), (za, .inl (G.2 0, 6, .inl zg_83))] := hD.sub [0, 1] (by decide) rfl
      have hl := lv_sub hl [2, 3, 1, 0] (l' := [(0, .ref m0), (1, .int (nI len)), (2, .int (nI (bestW B len (i_85 + 1)))), (3, .int (nI (i_85 + 2)))]) rfl
      exact W.widen (show 0 ≤ 0 from by first | exact Nat.le_refl _ | omega) (show 0 ≤ 0 from by first | exact Nat.le_refl _ | omega) (ih8 ((i_85 + 1)) H locs ls ⟨hP, hD, hS, hl, (show (i_85 + 1) ≤ bD B + 1 - len from by omega)⟩ (show bD B + 1 - len - (i_85 + 1) < bD B + 1 - len - i_85 from by omega))
