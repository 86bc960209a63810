/-! the model: readers -/
set_option maxRecDepth 100000
set_option maxHeartbeats 4000000 in
theorem mX4_isIn (l : Launch) (G : Gt) (v : Int32) (lo : Int32) (hi : Int32) : CT l G yX4_isIn cX4_isIn 3 (some .boolean) ({ frames := 1, cells := 0, slots := 0, locals := 12 } : Room) [.int v, .int lo, .int hi] [] RH0 (S := Bool) (fun (u_ : Bool) => some (.int (bI u_))) (fun (u_ : Bool) => (u_ = true ↔ lo ≤ v ∧ v ≤ hi)) (fun (u_ : Bool) => []) (fun (u_ : Bool) (H : Heap) => True) := by
  refine CT.of (by decide) (Nat.le_of_ble_eq_true rfl) ?_
  intro p e s m below meth c ls A H locs h9 hH0 hP hS
  obtain ⟨cf, hr, hlk, hnm, hKB, hE, -, hD, -, hA, hAw, hRH, hl⟩ := h9
  have hx := cf.1
  have hb := cf.2.1
  have hml := cf.2.2.1
  have hown : s.vm.findClass RX4 = some m.cls := cf.2.2.2.1
  have hts := cf.2.2.2.2
  have hK := hKB.1
  have hl : lv_has ls 3 [(0, .int v), (1, .int lo), (2, .int hi)] := hl
  refine lv_iload_n hx hb dX4_isIn_0 rfl (lv_at hl 0 rfl) ?_
  refine lv_iload_n hx hb dX4_isIn_1 rfl (lv_at hl 1 rfl) ?_
  refine lv_icmp_lt (tgt := 14) hx hb  dX4_isIn_2 (by decide) (fun c_1 => ?_) (fun c_1 => ?_)
  · refine lv_iconst (v := nI 0) hx hb dX4_isIn_14 (by decide) ?_
    have hP9 : va_P G.1 CL [] H := hP.sub [] rfl
    have hD9 : va_D A [] := hD.sub [] (by decide) rfl
    exact end_i hx hb hr hlk (by decide) (qc_of false (v := some (.int (nI 0))) (by rfl) (⟨fun z => absurd z (by decide), fun z => by exfalso; first | exact absurd z.1 (by first | assumption | exact Int32.not_le.mpr (by assumption)) | exact absurd z.2 (by first | assumption | exact Int32.not_le.mpr (by assumption))⟩) hP9 hD9 (trivial) hS) hS dX4_isIn_15 (show 0 ≤ 0 from by first | exact Nat.le_refl _ | decide | omega) (show 0 ≤ 0 from by first | exact Nat.le_refl _ | decide | omega)
  · refine lv_iload_n hx hb dX4_isIn_5 rfl (lv_at hl 0 rfl) ?_
    refine lv_iload_n hx hb dX4_isIn_6 rfl (lv_at hl 2 rfl) ?_
    refine lv_icmp_gt (tgt := 14) hx hb  dX4_isIn_7 (by decide) (fun c_2 => ?_) (fun c_2 => ?_)
    · refine lv_iconst (v := nI 0) hx hb dX4_isIn_14 (by decide) ?_
      have hP9 : va_P G.1 CL [] H := hP.sub [] rfl
      have hD9 : va_D A [] := hD.sub [] (by decide) rfl
      exact end_i hx hb hr hlk (by decide) (qc_of false (v := some (.int (nI 0))) (by rfl) (⟨fun z => absurd z (by decide), fun z => by exfalso; first | exact absurd z.1 (by first | assumption | exact Int32.not_le.mpr (by assumption)) | exact absurd z.2 (by first | assumption | exact Int32.not_le.mpr (by assumption))⟩) hP9 hD9 (trivial) hS) hS dX4_isIn_15 (show 0 ≤ 0 from by first | exact Nat.le_refl _ | decide | omega) (show 0 ≤ 0 from by first | exact Nat.le_refl _ | decide | omega)
    · refine lv_iconst (v := nI 1) hx hb dX4_isIn_10 (by decide) ?_
      refine lv_goto (tgt := 15) hx hb dX4_isIn_11 (by decide) ?_
      have hP9 : va_P G.1 CL [] H := hP.sub [] rfl
      have hD9 : va_D A [] := hD.sub [] (by decide) rfl
      exact end_i hx hb hr hlk (by decide) (qc_of true (v := some (.int (nI 1))) (by rfl) (⟨fun _ => ⟨by first | assumption | exact Int32.not_lt.mp (by assumption), by first | assumption | exact Int32.not_lt.mp (by assumption)⟩, fun _ => rfl⟩) hP9 hD9 (trivial) hS) hS dX4_isIn_15 (show 0 ≤ 0 from by first | exact Nat.le_refl _ | decide | omega) (show 0 ≤ 0 from by first | exact Nat.le_refl _ | decide | omega)

set_option maxHeartbeats 4000000 in
theorem mX4_at (l : Launch) (G : Gt) (m0 : Nat) (k : Nat) : CT l G yX4_at cX4_at 2 (some .int) ({ frames := 1, cells := 0, slots := 0, locals := 12 } : Room) [.ref m0, .int (nI k)] [] RH0 (S := Unit) (fun (u_ : Unit) => some (.int (nI (19 * k + 70)))) (fun (u_ : Unit) => True) (fun (u_ : Unit) => []) (fun (u_ : Unit) (H : Heap) => True) := by
  refine CT.of (by decide) (Nat.le_of_ble_eq_true rfl) ?_
  intro p e s m below meth c ls A H locs h9 hH0 hP hS
  obtain ⟨cf, hr, hlk, hnm, hKB, hE, -, hD, -, hA, hAw, hRH, hl⟩ := h9
  have hx := cf.1
  have hb := cf.2.1
  have hml := cf.2.2.1
  have hown : s.vm.findClass RX4 = some m.cls := cf.2.2.2.1
  have hts := cf.2.2.2.2
  have hK := hKB.1
  have hl : lv_has ls 2 [(0, .ref m0), (1, .int (nI k))] := hl
  refine lv_bipush (v := nI 70) hx hb dX4_at_0 (by decide) ?_
  refine lv_bipush (v := nI 19) hx hb dX4_at_2 (by decide) ?_
  refine lv_iload_n hx hb dX4_at_4 rfl (lv_at hl 1 rfl) ?_
  refine lv_imul hx hb dX4_at_5 ?_
  refine lv_ton (n := 19 * k) (nmul (by omega)) ?_
  refine lv_iadd hx hb dX4_at_6 ?_
  refine lv_ton (n := 19 * k + 70) (nadd (by omega)) ?_
  have hP9 : va_P G.1 CL [] H := hP.sub [] rfl
  have hD9 : va_D A [] := hD.sub [] (by decide) rfl
  exact end_i hx hb hr hlk (rfl) (qc_of () (v := some (.int (nI (19 * k + 70)))) (by rfl) (trivial) hP9 hD9 (trivial) hS) hS dX4_at_7 (show 0 ≤ 0 from by first | exact Nat.le_refl _ | decide | omega) (show 0 ≤ 0 from by first | exact Nat.le_refl _ | decide | omega)

set_option maxHeartbeats 4000000 in
theorem mX4_minutes (l : Launch) (G : Gt) (m0 : Nat) (sa : Nat) (oa : Nat) (pa : Nat) (la : Nat) (za : Nat) (na : Nat) (gu : Int32) (gt : Int32) (gw : Int32) (gd : Int32) (gm : Int32) (gr : Int32) (gh : Int32) (gv : Int32) (f : Nat → Int32) (B : Bk) (k : Nat) (hM : MR f B) (hI : Inv B) (hk : k < sN B) : CT l G yX4_minutes cX4_minutes 4 (some .int) ({ frames := 2, cells := 0, slots := 0, locals := 33 } : Room) [.ref m0, .int (nI k)] [] (fun (A : Nat → Prop) (H : Heap) => roW G A H [(m0, .inr (6, [.ref sa, .ref oa, .ref pa, .ref la, .ref za, .ref na, .int gu, .int gt, .int gw, .int gd, .int gm, .int gr, .int gh, .int gv])), (sa, .inl (G.2 0, 830, .inl f))]) (S := Unit) (fun (u_ : Unit) => some (.int (nI (minOf (sAt B k))))) (fun (u_ : Unit) => True) (fun (u_ : Unit) => []) (fun (u_ : Unit) (H : Heap) => True) := by
  refine CT.of (by decide) (Nat.le_of_ble_eq_true rfl) ?_
  intro p e s m below meth c ls A H locs h9 hH0 hP hS
  obtain ⟨cf, hr, hlk, hnm, hKB, hE, -, hD, -, hA, hAw, hR0, hl⟩ := h9
  have hx := cf.1
  have hb := cf.2.1
  have hml := cf.2.2.1
  have hown : s.vm.findClass RX4 = some m.cls := cf.2.2.2.1
  have hts := cf.2.2.2.2
  have hK := hKB.1
  have hl : lv_has ls 4 [(0, .ref m0), (1, .int (nI k))] := hl
  have iN := iv_sN hI
  have iT := iv_tN hI
  have iD := iv_bD hI
  have iE := iv_bE hI
  have iW := iv_id hI
  obtain ⟨iS1, iS2, iS3, iS4, iS5⟩ := iv_ses hI hk
  refine lv_iconst (v := nI 0) hx hb dX4_minutes_0 (by decide) ?_
  refine lv_istore_n (lv' := [(2, .int (nI 0)), (0, .ref m0), (1, .int (nI k))]) hx hb dX4_minutes_1 rfl hl (by decide) rfl (fun ls hl => ?_)
  refine lv_iconst (v := nI 0) hx hb dX4_minutes_2 (by decide) ?_
  refine lv_istore_n (lv' := [(3, .int (nI 0)), (2, .int (nI 0)), (0, .ref m0), (1, .int (nI k))]) hx hb dX4_minutes_3 rfl hl (by decide) rfl (fun ls hl => ?_)
  have hl := lv_sub hl [2, 3, 1, 0] (l' := [(0, .ref m0), (1, .int (nI k)), (2, .int (nI (psum (pMin (sAt B k)) 0))), (3, .int (nI 0))]) rfl
  refine lp_W (σ := Nat) (hpc := 4) (fun x => nP (sAt B k) - x) (fun x => 0) (fun x => 0) (fun x H locs ls => va_P G.1 CL [] H ∧ va_D A [] ∧ va_S A s.heap H locs ∧ lv_has ls 4 [(0, .ref m0), (1, .int (nI k)), (2, .int (nI (psum (pMin (sAt B k)) x))), (3, .int (nI x))] ∧ (x ≤ nP (sAt B k))) ?_ (0) ⟨(show va_P G.1 CL [] H from hP), (show va_D A [] from hD), hS, hl, (show 0 ≤ nP (sAt B k) from by omega)⟩ (show 0 ≤ 0 from by first | exact Nat.le_refl _ | omega) (show 0 ≤ 0 from by first | exact Nat.le_refl _ | omega)
  intro x H locs ls hI9 ih4
  obtain ⟨i_4, rfl⟩ : ∃ z, z = x := ⟨_, rfl⟩
  obtain ⟨hP, hD, hS, hl, hp_3⟩ := hI9
  have hP : va_P G.1 CL [] H := hP
  have hD : va_D A [] := hD
  have hl : lv_has ls 4 [(0, .ref m0), (1, .int (nI k)), (2, .int (nI (psum (pMin (sAt B k)) i_4))), (3, .int (nI i_4))] := hl
  have hp_3 : i_4 ≤ nP (sAt B k) := hp_3
  refine lv_iload_n hx hb dX4_minutes_4 rfl (lv_at hl 3 rfl) ?_
  refine lv_aload_n hx hb dX4_minutes_5 rfl (lv_at hl 0 rfl) ?_
  refine va_get hx hb hts in_X4 hown hK (hR0.w hS) 0 rfl rfl 0 (by decide) (hts _ q1596) (fun _ h => h) rfl dX4_minutes_6 ?_
  refine lv_aload_n hx hb dX4_minutes_9 rfl (lv_at hl 0 rfl) ?_
  refine lv_iload_n hx hb dX4_minutes_10 rfl (lv_at hl 1 rfl) ?_
  have hF := hF_of (wc := []) hD hS hA [] rfl
  refine go_ct hS hP hD [] [] hF rfl rfl (by decide) (by decide)
      (va_runV (As := [.int (nI k)]) (rest := [.ref sa, .int (nI i_4)]) cf (mX4_at l G m0 k  H.size) (cwV 1 hts (lw_V q1687 q1689 qs27 q58 q1690) rfl rfl rfl (by decide +kernel) ⟨Nat.le_of_ble_eq_true rfl, Nat.le_of_ble_eq_true rfl⟩) (preV_of hKB hE hS hF (va_recv hK (hR0.w hS) (ci := 6) (q0 := 0) rfl rfl) (va_P.sub hP [] rfl) ((va_D.sub hD [] (by decide) rfl).weaken (fun _ _ _ _ => trivial)) trivial) rfl rfl hl.1 rfl (lv_room (Nat.le_of_ble_eq_true rfl)) dX4_minutes_11 ⟨show 0 + 0 ≤ 0 from by first | decide | omega, show 0 + 0 ≤ 0 from by first | decide | omega⟩)
      (fun u_ H locs hq hph (hP : va_P G.1 CL [] H) (hD : va_D A []) hS hfz hfk => ?_)
  refine W.eq (g2 := F0 m 14 ls [.int (nI (19 * k + 70)), .ref sa, .int (nI i_4)]) rfl ?_
  refine lv_iconst (v := nI 2) hx hb dX4_minutes_14 (by decide) ?_
  refine lv_iadd hx hb dX4_minutes_15 ?_
  refine lv_ton (n := 19 * k + 72) (nadd (by omega)) ?_
  refine r_iald (v := nI (nP (sAt B k))) hx hb hK (hR0.w hS) 1 0 rfl rfl (i := 19 * k + 72) (by omega) (by omega) (hM.snp (k := k) (by omega)) dX4_minutes_16 ?_
  refine n_icmp_ge (tgt := 43) hx hb (by omega) (by omega) dX4_minutes_17 (by decide) (fun c_5 => ?_) (fun c_5 => ?_)
  · refine lv_iload_n hx hb dX4_minutes_43 rfl (lv_at hl 2 rfl) ?_
    have hP9 : va_P G.1 CL [] H := hP.sub [] rfl
    have hD9 : va_D A [] := hD.sub [] (by decide) rfl
    exact end_i hx hb hr hlk (rfl) (qc_of () (v := some (.int (nI (psum (pMin (sAt B k)) i_4)))) (by rw [show i_4 = nP (sAt B k) from by omega] <;> rfl) (trivial) hP9 hD9 (trivial) hS) hS dX4_minutes_44 (show 0 ≤ 0 from by first | exact Nat.le_refl _ | decide | omega) (show 0 ≤ 0 from by first | exact Nat.le_refl _ | decide | omega)
  · refine lv_iload_n hx hb dX4_minutes_20 rfl (lv_at hl 2 rfl) ?_
    refine lv_aload_n hx hb dX4_minutes_21 rfl (lv_at hl 0 rfl) ?_
    refine va_get hx hb hts in_X4 hown hK (hR0.w hS) 0 rfl rfl 0 (by decide) (hts _ q1596) (fun _ h => h) rfl dX4_minutes_22 ?_
    refine lv_aload_n hx hb dX4_minutes_25 rfl (lv_at hl 0 rfl) ?_
    refine lv_iload_n hx hb dX4_minutes_26 rfl (lv_at hl 1 rfl) ?_
    have hF := hF_of (wc := []) hD hS hA [] rfl
    refine go_ct hS hP hD [] [] hF rfl rfl (by decide) (by decide)
        (va_runV (As := [.int (nI k)]) (rest := [.ref sa, .int (nI (psum (pMin (sAt B k)) i_4))]) cf (mX4_at l G m0 k  H.size) (cwV 1 hts (lw_V q1687 q1689 qs27 q58 q1690) rfl rfl rfl (by decide +kernel) ⟨Nat.le_of_ble_eq_true rfl, Nat.le_of_ble_eq_true rfl⟩) (preV_of hKB hE hS hF (va_recv hK (hR0.w hS) (ci := 6) (q0 := 0) rfl rfl) (va_P.sub hP [] rfl) ((va_D.sub hD [] (by decide) rfl).weaken (fun _ _ _ _ => trivial)) trivial) rfl rfl hl.1 rfl (lv_room (Nat.le_of_ble_eq_true rfl)) dX4_minutes_27 ⟨show 0 + 0 ≤ 0 from by first | decide | omega, show 0 + 0 ≤ 0 from by first | decide | omega⟩)
        (fun u_ H locs hq hph (hP : va_P G.1 CL [] H) (hD : va_D A []) hS hfz hfk => ?_)
    refine W.eq (g2 := F0 m 30 ls [.int (nI (19 * k + 70)), .ref sa, .int (nI (psum (pMin (sAt B k)) i_4))]) rfl ?_
    refine lv_iconst (v := nI 3) hx hb dX4_minutes_30 (by decide) ?_
    refine lv_iadd hx hb dX4_minutes_31 ?_
    refine lv_ton (n := 19 * k + 73) (nadd (by omega)) ?_
    refine lv_iload_n hx hb dX4_minutes_32 rfl (lv_at hl 3 rfl) ?_
    refine lv_iadd hx hb dX4_minutes_33 ?_
    refine lv_ton (n := i_4 + 19 * k + 73) (nadd (by omega)) ?_
    refine r_iald (v := nI (pMin (sAt B k) i_4)) hx hb hK (hR0.w hS) 1 0 rfl rfl (i := i_4 + 19 * k + 73) (by omega) (by omega) ((congrArg f (show i_4 + 19 * k + 73 = 19 * k + i_4 + 73 from by omega)).trans (hM.smin (k := k) (p := i_4) (by omega) (by omega))) dX4_minutes_34 ?_
    refine lv_iadd hx hb dX4_minutes_35 ?_
    refine lv_ton (n := (pMin (sAt B k) i_4) + (psum (pMin (sAt B k)) i_4)) (nadd (by omega)) ?_
    refine lv_ton (n := (psum (pMin (sAt B k)) (i_4 + 1))) (congrArg nI (by simp only [psum]; omega)) ?_
    refine lv_istore_n (lv' := [(2, .int (nI (psum (pMin (sAt B k)) (i_4 + 1)))), (0, .ref m0), (1, .int (nI k)), (3, .int (nI i_4))]) hx hb dX4_minutes_36 rfl hl (by decide) rfl (fun ls hl => ?_)
    refine lv_iinc (v := nI (i_4 + 1)) (lv' := [(3, .int (nI (i_4 + 1))), (2, .int (nI (psum (pMin (sAt B k)) (i_4 + 1)))), (0, .ref m0), (1, .int (nI k))]) hx hb dX4_minutes_37 hl (k := 3) rfl (ninc (b := 1) (by decide) (by omega)) (by decide) rfl (fun ls hl => ?_)
    refine lv_goto (tgt := 4) hx hb dX4_minutes_40 (by decide) ?_
    have hP : va_P G.1 CL [] H := hP.sub [] rfl
    have hD : va_D A [] := hD.sub [] (by decide) rfl
    have hl := lv_sub hl [2, 3, 1, 0] (l' := [(0, .ref m0), (1, .int (nI k)), (2, .int (nI (psum (pMin (sAt B k)) (i_4 + 1)))), (3, .int (nI (i_4 + 1)))]) rfl
    exact W.widen (show 0 ≤ 0 from by first | exact Nat.le_refl _ | omega) (show 0 ≤ 0 from by first | exact Nat.le_refl _ | omega) (ih4 (i_4 + 1) H locs ls ⟨hP, hD, hS, hl, (show (i_4 + 1) ≤ nP (sAt B k) from by omega)⟩ (show nP (sAt B k) - (i_4 + 1) < nP (sAt B k) - i_4 from by omega))

set_option maxHeartbeats 4000000 in
theorem mX4_place (l : Launch) (G : Gt) (m0 : Nat) (sa : Nat) (oa : Nat) (pa : Nat) (la : Nat) (za : Nat) (na : Nat) (gu : Int32) (gt : Int32) (gw : Int32) (gd : Int32) (gm : Int32) (gr : Int32) (gh : Int32) (gv : Int32) (f : Nat → Int32) (B : Bk) (id : Int32) (hM : MR f B) (hI : Inv B) : CT l G yX4_place cX4_place 4 (some .int) ({ frames := 2, cells := 0, slots := 0, locals := 33 } : Room) [.ref m0, .int id] [] (fun (A : Nat → Prop) (H : Heap) => roW G A H [(m0, .inr (6, [.ref sa, .ref oa, .ref pa, .ref la, .ref za, .ref na, .int gu, .int gt, .int gw, .int gd, .int gm, .int gr, .int gh, .int gv])), (sa, .inl (G.2 0, 830, .inl f))]) (S := (Option Nat)) (fun (u_ : (Option Nat)) => some (.int (oI u_))) (fun (u_ : (Option Nat)) => PL B id (sN B) u_) (fun (u_ : (Option Nat)) => []) (fun (u_ : (Option Nat)) (H : Heap) => True) := by
  refine CT.of (by decide) (Nat.le_of_ble_eq_true rfl) ?_
  intro p e s m below meth c ls A H locs h9 hH0 hP hS
  obtain ⟨cf, hr, hlk, hnm, hKB, hE, -, hD, -, hA, hAw, hR0, hl⟩ := h9
  have hx := cf.1
  have hb := cf.2.1
  have hml := cf.2.2.1
  have hown : s.vm.findClass RX4 = some m.cls := cf.2.2.2.1
  have hts := cf.2.2.2.2
  have hK := hKB.1
  have hl : lv_has ls 4 [(0, .ref m0), (1, .int id)] := hl
  have iN := iv_sN hI
  have iT := iv_tN hI
  have iD := iv_bD hI
  have iE := iv_bE hI
  have iW := iv_id hI
  refine lv_iconst (v := (-1)) hx hb dX4_place_0 (by decide) ?_
  refine lv_istore_n (lv' := [(2, .int (-1)), (0, .ref m0), (1, .int id)]) hx hb dX4_place_1 rfl hl (by decide) rfl (fun ls hl => ?_)
  refine lv_iconst (v := nI 0) hx hb dX4_place_2 (by decide) ?_
  refine lv_istore_n (lv' := [(3, .int (nI 0)), (2, .int (-1)), (0, .ref m0), (1, .int id)]) hx hb dX4_place_3 rfl hl (by decide) rfl (fun ls hl => ?_)
  have hl := lv_sub hl [2, 3, 1, 0] (l' := [(0, .ref m0), (1, .int id), (2, .int (oI none)), (3, .int (nI 0))]) rfl
  refine lp_W (σ := Nat × (Option Nat)) (hpc := 4) (fun x => sN B - x.1) (fun x => 0) (fun x => 0) (fun x H locs ls => va_P G.1 CL [] H ∧ va_D A [] ∧ va_S A s.heap H locs ∧ lv_has ls 4 [(0, .ref m0), (1, .int id), (2, .int (oI x.2)), (3, .int (nI x.1))] ∧ (x.1 ≤ sN B) ∧ (PL B id x.1 x.2)) ?_ (0, none) ⟨(show va_P G.1 CL [] H from hP), (show va_D A [] from hD), hS, hl, (show 0 ≤ sN B from by omega), (show PL B id 0 none from (fun k hk => absurd hk (by omega)))⟩ (show 0 ≤ 0 from by first | exact Nat.le_refl _ | omega) (show 0 ≤ 0 from by first | exact Nat.le_refl _ | omega)
  intro x H locs ls hI9 ih4
  obtain ⟨i_8, o_9⟩ := x
  obtain ⟨hP, hD, hS, hl, hp_6, hp_7⟩ := hI9
  have hP : va_P G.1 CL [] H := hP
  have hD : va_D A [] := hD
  have hl : lv_has ls 4 [(0, .ref m0), (1, .int id), (2, .int (oI o_9)), (3, .int (nI i_8))] := hl
  have hp_6 : i_8 ≤ sN B := hp_6
  have hp_7 : PL B id i_8 o_9 := hp_7
  refine lv_iload_n hx hb dX4_place_4 rfl (lv_at hl 3 rfl) ?_
  refine lv_aload_n hx hb dX4_place_5 rfl (lv_at hl 0 rfl) ?_
  refine va_get hx hb hts in_X4 hown hK (hR0.w hS) 0 rfl rfl 0 (by decide) (hts _ q1596) (fun _ h => h) rfl dX4_place_6 ?_
  refine lv_iconst (v := nI 2) hx hb dX4_place_9 (by decide) ?_
  refine r_iald (v := nI (sN B)) hx hb hK (hR0.w hS) 1 0 rfl rfl (i := 2) (by omega) (by omega) (hM.many) dX4_place_10 ?_
  refine n_icmp_ge (tgt := 40) hx hb (by omega) (by omega) dX4_place_11 (by decide) (fun c_10 => ?_) (fun c_10 => ?_)
  · refine lv_iload_n hx hb dX4_place_40 rfl (lv_at hl 2 rfl) ?_
    have hP9 : va_P G.1 CL [] H := hP.sub [] rfl
    have hD9 : va_D A [] := hD.sub [] (by decide) rfl
    exact end_i hx hb hr hlk (rfl) (qc_of o_9 (v := some (.int (oI o_9))) (by rfl) ((show i_8 = sN B from by omega) ▸ (by assumption)) hP9 hD9 (trivial) hS) hS dX4_place_41 (show 0 ≤ 0 from by first | exact Nat.le_refl _ | decide | omega) (show 0 ≤ 0 from by first | exact Nat.le_refl _ | decide | omega)
  · refine lv_aload_n hx hb dX4_place_14 rfl (lv_at hl 0 rfl) ?_
    refine va_get hx hb hts in_X4 hown hK (hR0.w hS) 0 rfl rfl 0 (by decide) (hts _ q1596) (fun _ h => h) rfl dX4_place_15 ?_
    refine lv_aload_n hx hb dX4_place_18 rfl (lv_at hl 0 rfl) ?_
    refine lv_iload_n hx hb dX4_place_19 rfl (lv_at hl 3 rfl) ?_
    have hF := hF_of (wc := []) hD hS hA [] rfl
    refine go_ct hS hP hD [] [] hF rfl rfl (by decide) (by decide)
        (va_runV (As := [.int (nI i_8)]) (rest := [.ref sa]) cf (mX4_at l G m0 i_8  H.size) (cwV 1 hts (lw_V q1687 q1689 qs27 q58 q1690) rfl rfl rfl (by decide +kernel) ⟨Nat.le_of_ble_eq_true rfl, Nat.le_of_ble_eq_true rfl⟩) (preV_of hKB hE hS hF (va_recv hK (hR0.w hS) (ci := 6) (q0 := 0) rfl rfl) (va_P.sub hP [] rfl) ((va_D.sub hD [] (by decide) rfl).weaken (fun _ _ _ _ => trivial)) trivial) rfl rfl hl.1 rfl (lv_room (Nat.le_of_ble_eq_true rfl)) dX4_place_20 ⟨show 0 + 0 ≤ 0 from by first | decide | omega, show 0 + 0 ≤ 0 from by first | decide | omega⟩)
        (fun u_ H locs hq hph (hP : va_P G.1 CL [] H) (hD : va_D A []) hS hfz hfk => ?_)
    refine W.eq (g2 := F0 m 23 ls [.int (nI (19 * i_8 + 70)), .ref sa]) rfl ?_
    refine r_iald (v := nI (sId (sAt B i_8))) hx hb hK (hR0.w hS) 1 0 rfl rfl (i := 19 * i_8 + 70) (by omega) (by omega) (hM.sid (k := i_8) (by omega)) dX4_place_23 ?_
    refine lv_iload_n hx hb dX4_place_24 rfl (lv_at hl 1 rfl) ?_
    refine lv_icmp_ne (tgt := 32) hx hb  dX4_place_25 (by decide) (fun c_11 => ?_) (fun c_11 => ?_)
    · refine lv_iload_n hx hb dX4_place_32 rfl (lv_at hl 2 rfl) ?_
      have hp9 : PL B id (i_8 + 1) o_9 := PL_no (by assumption) (by assumption)
      refine lv_istore_n (lv' := [(2, .int (oI o_9)), (0, .ref m0), (1, .int id), (3, .int (nI i_8))]) hx hb dX4_place_33 rfl hl (by decide) rfl (fun ls hl => ?_)
      refine lv_iinc (v := nI (i_8 + 1)) (lv' := [(3, .int (nI (i_8 + 1))), (2, .int (oI o_9)), (0, .ref m0), (1, .int id)]) hx hb dX4_place_34 hl (k := 3) rfl (ninc (b := 1) (by decide) (by omega)) (by decide) rfl (fun ls hl => ?_)
      refine lv_goto (tgt := 4) hx hb dX4_place_37 (by decide) ?_
      have hP : va_P G.1 CL [] H := hP.sub [] rfl
      have hD : va_D A [] := hD.sub [] (by decide) rfl
      have hl := lv_sub hl [2, 3, 1, 0] (l' := [(0, .ref m0), (1, .int id), (2, .int (oI o_9)), (3, .int (nI (i_8 + 1)))]) rfl
      exact W.widen (show 0 ≤ 0 from by first | exact Nat.le_refl _ | omega) (show 0 ≤ 0 from by first | exact Nat.le_refl _ | omega) (ih4 ((i_8 + 1), o_9) H locs ls ⟨hP, hD, hS, hl, (show (i_8 + 1) ≤ sN B from by omega), (show PL B id (i_8 + 1) o_9 from hp9)⟩ (show sN B - (i_8 + 1) < sN B - i_8 from by omega))
    · refine lv_iload_n hx hb dX4_place_28 rfl (lv_at hl 3 rfl) ?_
      refine lv_goto (tgt := 33) hx hb dX4_place_29 (by decide) ?_
      refine lv_toi (y := oI (some i_8)) rfl ?_
      have hp9 : PL B id (i_8 + 1) (some i_8) := PL_yes (by first | assumption | (exact Classical.not_not.mp (by assumption)))
      refine lv_istore_n (lv' := [(2, .int (oI (some i_8))), (0, .ref m0), (1, .int id), (3, .int (nI i_8))]) hx hb dX4_place_33 rfl hl (by decide) rfl (fun ls hl => ?_)
      refine lv_iinc (v := nI (i_8 + 1)) (lv' := [(3, .int (nI (i_8 + 1))), (2, .int (oI (some i_8))), (0, .ref m0), (1, .int id)]) hx hb dX4_place_34 hl (k := 3) rfl (ninc (b := 1) (by decide) (by omega)) (by decide) rfl (fun ls hl => ?_)
      refine lv_goto (tgt := 4) hx hb dX4_place_37 (by decide) ?_
      have hP : va_P G.1 CL [] H := hP.sub [] rfl
      have hD : va_D A [] := hD.sub [] (by decide) rfl
      have hl := lv_sub hl [2, 3, 1, 0] (l' := [(0, .ref m0), (1, .int id), (2, .int (oI (some i_8))), (3, .int (nI (i_8 + 1)))]) rfl
      exact W.widen (show 0 ≤ 0 from by first | exact Nat.le_refl _ | omega) (show 0 ≤ 0 from by first | exact Nat.le_refl _ | omega) (ih4 ((i_8 + 1), (some i_8)) H locs ls ⟨hP, hD, hS, hl, (show (i_8 + 1) ≤ sN B from by omega), (show PL B id (i_8 + 1) (some i_8) from hp9)⟩ (show sN B - (i_8 + 1) < sN B - i_8 from by omega))

set_option maxHeartbeats 4000000 in
theorem mX4_testOn (l : Launch) (G : Gt) (m0 : Nat) (sa : Nat) (oa : Nat) (pa : Nat) (la : Nat) (za : Nat) (na : Nat) (gu : Int32) (gt : Int32) (gw : Int32) (gd : Int32) (gm : Int32) (gr : Int32) (gh : Int32) (gv : Int32) (f : Nat → Int32) (B : Bk) (id : Int32) (hM : MR f B) (hI : Inv B) : CT l G yX4_testOn cX4_testOn 4 (some .int) ({ frames := 1, cells := 0, slots := 0, locals := 12 } : Room) [.ref m0, .int id] [] (fun (A : Nat → Prop) (H : Heap) => roW G A H [(m0, .inr (6, [.ref sa, .ref oa, .ref pa, .ref la, .ref za, .ref na, .int gu, .int gt, .int gw, .int gd, .int gm, .int gr, .int gh, .int gv])), (sa, .inl (G.2 0, 830, .inl f))]) (S := (Option Nat)) (fun (u_ : (Option Nat)) => some (.int (oI u_))) (fun (u_ : (Option Nat)) => PT B id (tN B) u_) (fun (u_ : (Option Nat)) => []) (fun (u_ : (Option Nat)) (H : Heap) => True) := by
  refine CT.of (by decide) (Nat.le_of_ble_eq_true rfl) ?_
  intro p e s m below meth c ls A H locs h9 hH0 hP hS
  obtain ⟨cf, hr, hlk, hnm, hKB, hE, -, hD, -, hA, hAw, hR0, hl⟩ := h9
  have hx := cf.1
  have hb := cf.2.1
  have hml := cf.2.2.1
  have hown : s.vm.findClass RX4 = some m.cls := cf.2.2.2.1
  have hts := cf.2.2.2.2
  have hK := hKB.1
  have hl : lv_has ls 4 [(0, .ref m0), (1, .int id)] := hl
  have iN := iv_sN hI
  have iT := iv_tN hI
  have iD := iv_bD hI
  have iE := iv_bE hI
  have iW := iv_id hI
  refine lv_iconst (v := (-1)) hx hb dX4_testOn_0 (by decide) ?_
  refine lv_istore_n (lv' := [(2, .int (-1)), (0, .ref m0), (1, .int id)]) hx hb dX4_testOn_1 rfl hl (by decide) rfl (fun ls hl => ?_)
  refine lv_iconst (v := nI 0) hx hb dX4_testOn_2 (by decide) ?_
  refine lv_istore_n (lv' := [(3, .int (nI 0)), (2, .int (-1)), (0, .ref m0), (1, .int id)]) hx hb dX4_testOn_3 rfl hl (by decide) rfl (fun ls hl => ?_)
  have hl := lv_sub hl [2, 3, 1, 0] (l' := [(0, .ref m0), (1, .int id), (2, .int (oI none)), (3, .int (nI 0))]) rfl
  refine lp_W (σ := Nat × (Option Nat)) (hpc := 4) (fun x => tN B - x.1) (fun x => 0) (fun x => 0) (fun x H locs ls => va_P G.1 CL [] H ∧ va_D A [] ∧ va_S A s.heap H locs ∧ lv_has ls 4 [(0, .ref m0), (1, .int id), (2, .int (oI x.2)), (3, .int (nI x.1))] ∧ (x.1 ≤ tN B) ∧ (PT B id x.1 x.2)) ?_ (0, none) ⟨(show va_P G.1 CL [] H from hP), (show va_D A [] from hD), hS, hl, (show 0 ≤ tN B from by omega), (show PT B id 0 none from (fun k hk => absurd hk (by omega)))⟩ (show 0 ≤ 0 from by first | exact Nat.le_refl _ | omega) (show 0 ≤ 0 from by first | exact Nat.le_refl _ | omega)
  intro x H locs ls hI9 ih4
  obtain ⟨i_14, o_15⟩ := x
  obtain ⟨hP, hD, hS, hl, hp_12, hp_13⟩ := hI9
  have hP : va_P G.1 CL [] H := hP
  have hD : va_D A [] := hD
  have hl : lv_has ls 4 [(0, .ref m0), (1, .int id), (2, .int (oI o_15)), (3, .int (nI i_14))] := hl
  have hp_12 : i_14 ≤ tN B := hp_12
  have hp_13 : PT B id i_14 o_15 := hp_13
  refine lv_iload_n hx hb dX4_testOn_4 rfl (lv_at hl 3 rfl) ?_
  refine lv_aload_n hx hb dX4_testOn_5 rfl (lv_at hl 0 rfl) ?_
  refine va_get hx hb hts in_X4 hown hK (hR0.w hS) 0 rfl rfl 0 (by decide) (hts _ q1596) (fun _ h => h) rfl dX4_testOn_6 ?_
  refine lv_iconst (v := nI 3) hx hb dX4_testOn_9 (by decide) ?_
  refine r_iald (v := nI (tN B)) hx hb hK (hR0.w hS) 1 0 rfl rfl (i := 3) (by omega) (by omega) (hM.tested) dX4_testOn_10 ?_
  refine n_icmp_ge (tgt := 41) hx hb (by omega) (by omega) dX4_testOn_11 (by decide) (fun c_16 => ?_) (fun c_16 => ?_)
  · refine lv_iload_n hx hb dX4_testOn_41 rfl (lv_at hl 2 rfl) ?_
    have hP9 : va_P G.1 CL [] H := hP.sub [] rfl
    have hD9 : va_D A [] := hD.sub [] (by decide) rfl
    exact end_i hx hb hr hlk (rfl) (qc_of o_15 (v := some (.int (oI o_15))) (by rfl) ((show i_14 = tN B from by omega) ▸ (by assumption)) hP9 hD9 (trivial) hS) hS dX4_testOn_42 (show 0 ≤ 0 from by first | exact Nat.le_refl _ | decide | omega) (show 0 ≤ 0 from by first | exact Nat.le_refl _ | decide | omega)
  · refine lv_aload_n hx hb dX4_testOn_14 rfl (lv_at hl 0 rfl) ?_
    refine va_get hx hb hts in_X4 hown hK (hR0.w hS) 0 rfl rfl 0 (by decide) (hts _ q1596) (fun _ h => h) rfl dX4_testOn_15 ?_
    refine lv_bipush (v := nI 20) hx hb dX4_testOn_18 (by decide) ?_
    refine lv_iconst (v := nI 2) hx hb dX4_testOn_20 (by decide) ?_
    refine lv_iload_n hx hb dX4_testOn_21 rfl (lv_at hl 3 rfl) ?_
    refine lv_imul hx hb dX4_testOn_22 ?_
    refine lv_ton (n := 2 * i_14) (nmul (by omega)) ?_
    refine lv_iadd hx hb dX4_testOn_23 ?_
    refine lv_ton (n := 2 * i_14 + 20) (nadd (by omega)) ?_
    refine r_iald (v := nI (tDay B i_14)) hx hb hK (hR0.w hS) 1 0 rfl rfl (i := 2 * i_14 + 20) (by omega) (by omega) (hM.tday (k := i_14) (by omega)) dX4_testOn_24 ?_
    refine lv_iload_n hx hb dX4_testOn_25 rfl (lv_at hl 1 rfl) ?_
    refine lv_icmp_ne (tgt := 33) hx hb  dX4_testOn_26 (by decide) (fun c_17 => ?_) (fun c_17 => ?_)
    · refine lv_iload_n hx hb dX4_testOn_33 rfl (lv_at hl 2 rfl) ?_
      have hp9 : PT B id (i_14 + 1) o_15 := PT_no (by assumption) (by assumption)
      refine lv_istore_n (lv' := [(2, .int (oI o_15)), (0, .ref m0), (1, .int id), (3, .int (nI i_14))]) hx hb dX4_testOn_34 rfl hl (by decide) rfl (fun ls hl => ?_)
      refine lv_iinc (v := nI (i_14 + 1)) (lv' := [(3, .int (nI (i_14 + 1))), (2, .int (oI o_15)), (0, .ref m0), (1, .int id)]) hx hb dX4_testOn_35 hl (k := 3) rfl (ninc (b := 1) (by decide) (by omega)) (by decide) rfl (fun ls hl => ?_)
      refine lv_goto (tgt := 4) hx hb dX4_testOn_38 (by decide) ?_
      have hP : va_P G.1 CL [] H := hP.sub [] rfl
      have hD : va_D A [] := hD.sub [] (by decide) rfl
      have hl := lv_sub hl [2, 3, 1, 0] (l' := [(0, .ref m0), (1, .int id), (2, .int (oI o_15)), (3, .int (nI (i_14 + 1)))]) rfl
      exact W.widen (show 0 ≤ 0 from by first | exact Nat.le_refl _ | omega) (show 0 ≤ 0 from by first | exact Nat.le_refl _ | omega) (ih4 ((i_14 + 1), o_15) H locs ls ⟨hP, hD, hS, hl, (show (i_14 + 1) ≤ tN B from by omega), (show PT B id (i_14 + 1) o_15 from hp9)⟩ (show tN B - (i_14 + 1) < tN B - i_14 from by omega))
    · refine lv_iload_n hx hb dX4_testOn_29 rfl (lv_at hl 3 rfl) ?_
      refine lv_goto (tgt := 34) hx hb dX4_testOn_30 (by decide) ?_
      refine lv_toi (y := oI (some i_14)) rfl ?_
      have hp9 : PT B id (i_14 + 1) (some i_14) := PT_yes (by first | assumption | (exact Classical.not_not.mp (by assumption)))
      refine lv_istore_n (lv' := [(2, .int (oI (some i_14))), (0, .ref m0), (1, .int id), (3, .int (nI i_14))]) hx hb dX4_testOn_34 rfl hl (by decide) rfl (fun ls hl => ?_)
      refine lv_iinc (v := nI (i_14 + 1)) (lv' := [(3, .int (nI (i_14 + 1))), (2, .int (oI (some i_14))), (0, .ref m0), (1, .int id)]) hx hb dX4_testOn_35 hl (k := 3) rfl (ninc (b := 1) (by decide) (by omega)) (by decide) rfl (fun ls hl => ?_)
      refine lv_goto (tgt := 4) hx hb dX4_testOn_38 (by decide) ?_
      have hP : va_P G.1 CL [] H := hP.sub [] rfl
      have hD : va_D A [] := hD.sub [] (by decide) rfl
      have hl := lv_sub hl [2, 3, 1, 0] (l' := [(0, .ref m0), (1, .int id), (2, .int (oI (some i_14))), (3, .int (nI (i_14 + 1)))]) rfl
      exact W.widen (show 0 ≤ 0 from by first | exact Nat.le_refl _ | omega) (show 0 ≤ 0 from by first | exact Nat.le_refl _ | omega) (ih4 ((i_14 + 1), (some i_14)) H locs ls ⟨hP, hD, hS, hl, (show (i_14 + 1) ≤ tN B from by omega), (show PT B id (i_14 + 1) (some i_14) from hp9)⟩ (show tN B - (i_14 + 1) < tN B - i_14 from by omega))

set_option maxHeartbeats 4000000 in
theorem mX4_threshold (l : Launch) (G : Gt) (m0 : Nat) (sa : Nat) (oa : Nat) (pa : Nat) (la : Nat) (za : Nat) (na : Nat) (gu : Int32) (gt : Int32) (gw : Int32) (gd : Int32) (gm : Int32) (gr : Int32) (gh : Int32) (gv : Int32) (f : Nat → Int32) (B : Bk) (d : Nat) (hM : MR f B) (hI : Inv B) (hd : d ≤ 2000) : CT l G yX4_threshold cX4_threshold 5 (some .int) ({ frames := 1, cells := 0, slots := 0, locals := 12 } : Room) [.ref m0, .int (nI d)] [] (fun (A : Nat → Prop) (H : Heap) => roW G A H [(m0, .inr (6, [.ref sa, .ref oa, .ref pa, .ref la, .ref za, .ref na, .int gu, .int gt, .int gw, .int gd, .int gm, .int gr, .int gh, .int gv])), (sa, .inl (G.2 0, 830, .inl f))]) (S := Unit) (fun (u_ : Unit) => some (.int (nI (thr B d)))) (fun (u_ : Unit) => True) (fun (u_ : Unit) => []) (fun (u_ : Unit) (H : Heap) => True) := by
  refine CT.of (by decide) (Nat.le_of_ble_eq_true rfl) ?_
  intro p e s m below meth c ls A H locs h9 hH0 hP hS
  obtain ⟨cf, hr, hlk, hnm, hKB, hE, -, hD, -, hA, hAw, hR0, hl⟩ := h9
  have hx := cf.1
  have hb := cf.2.1
  have hml := cf.2.2.1
  have hown : s.vm.findClass RX4 = some m.cls := cf.2.2.2.1
  have hts := cf.2.2.2.2
  have hK := hKB.1
  have hl : lv_has ls 5 [(0, .ref m0), (1, .int (nI d))] := hl
  have iN := iv_sN hI
  have iT := iv_tN hI
  have iD := iv_bD hI
  have iE := iv_bE hI
  have iW := iv_id hI
  refine lv_iconst (v := (-1)) hx hb dX4_threshold_0 (by decide) ?_
  refine lv_istore_n (lv' := [(2, .int (-1)), (0, .ref m0), (1, .int (nI d))]) hx hb dX4_threshold_1 rfl hl (by decide) rfl (fun ls hl => ?_)
  refine lv_sipush (v := nI 200) hx hb dX4_threshold_2 (by decide) ?_
  refine lv_istore_n (lv' := [(3, .int (nI 200)), (2, .int (-1)), (0, .ref m0), (1, .int (nI d))]) hx hb dX4_threshold_5 rfl hl (by decide) rfl (fun ls hl => ?_)
  refine lv_iconst (v := nI 0) hx hb dX4_threshold_6 (by decide) ?_
  refine lv_istore (lv' := [(4, .int (nI 0)), (3, .int (nI 200)), (2, .int (-1)), (0, .ref m0), (1, .int (nI d))]) hx hb dX4_threshold_7 hl (by decide) rfl (fun ls hl => ?_)
  have hl := lv_sub hl [3, 4, 2, 1, 0] (l' := [(0, .ref m0), (1, .int (nI d)), (2, .int (lI (thrW B d 0).1)), (3, .int (nI ((thrW B d 0).2))), (4, .int (nI 0))]) rfl
  refine lp_W (σ := Nat) (hpc := 9) (fun x => tN B - x) (fun x => 0) (fun x => 0) (fun x H locs ls => va_P G.1 CL [] H ∧ va_D A [] ∧ va_S A s.heap H locs ∧ lv_has ls 5 [(0, .ref m0), (1, .int (nI d)), (2, .int (lI (thrW B d x).1)), (3, .int (nI ((thrW B d x).2))), (4, .int (nI x))] ∧ (x ≤ tN B)) ?_ (0) ⟨(show va_P G.1 CL [] H from hP), (show va_D A [] from hD), hS, hl, (show 0 ≤ tN B from by omega)⟩ (show 0 ≤ 0 from by first | exact Nat.le_refl _ | omega) (show 0 ≤ 0 from by first | exact Nat.le_refl _ | omega)
  intro x H locs ls hI9 ih9
  obtain ⟨i_19, rfl⟩ : ∃ z, z = x := ⟨_, rfl⟩
  obtain ⟨hP, hD, hS, hl, hp_18⟩ := hI9
  have hP : va_P G.1 CL [] H := hP
  have hD : va_D A [] := hD
  have hl : lv_has ls 5 [(0, .ref m0), (1, .int (nI d)), (2, .int (lI (thrW B d i_19).1)), (3, .int (nI ((thrW B d i_19).2))), (4, .int (nI i_19))] := hl
  have hp_18 : i_19 ≤ tN B := hp_18
  obtain ⟨hw1, hw2, hw3⟩ := thrW_ok hI d i_19 (by omega)
  refine lv_iload hx hb dX4_threshold_9 (lv_at hl 4 rfl) ?_
  refine lv_aload_n hx hb dX4_threshold_11 rfl (lv_at hl 0 rfl) ?_
  refine va_get hx hb hts in_X4 hown hK (hR0.w hS) 0 rfl rfl 0 (by decide) (hts _ q1596) (fun _ h => h) rfl dX4_threshold_12 ?_
  refine lv_iconst (v := nI 3) hx hb dX4_threshold_15 (by decide) ?_
  refine r_iald (v := nI (tN B)) hx hb hK (hR0.w hS) 1 0 rfl rfl (i := 3) (by omega) (by omega) (hM.tested) dX4_threshold_16 ?_
  refine n_icmp_ge (tgt := 86) hx hb (by omega) (by omega) dX4_threshold_17 (by decide) (fun c_20 => ?_) (fun c_20 => ?_)
  · have hl : lv_has ls 5 [(0, .ref m0), (1, .int (nI d)), (2, .int (lI (thrW B d i_19).1)), (3, .int (nI (thr B d))), (4, .int (nI i_19))] := by
      have e9 : ((.int (nI (thr B d))) : Value) = .int (nI ((thrW B d i_19).2)) := by rw [show i_19 = tN B from by omega] <;> rfl
      rw [e9]; exact hl
    refine lv_iload_n hx hb dX4_threshold_86 rfl (lv_at hl 3 rfl) ?_
    have hP9 : va_P G.1 CL [] H := hP.sub [] rfl
    have hD9 : va_D A [] := hD.sub [] (by decide) rfl
    exact end_i hx hb hr hlk (rfl) (qc_of () (v := some (.int (nI (thr B d)))) (by rfl) (trivial) hP9 hD9 (trivial) hS) hS dX4_threshold_87 (show 0 ≤ 0 from by first | exact Nat.le_refl _ | decide | omega) (show 0 ≤ 0 from by first | exact Nat.le_refl _ | decide | omega)
  · refine lv_aload_n hx hb dX4_threshold_20 rfl (lv_at hl 0 rfl) ?_
    refine va_get hx hb hts in_X4 hown hK (hR0.w hS) 0 rfl rfl 0 (by decide) (hts _ q1596) (fun _ h => h) rfl dX4_threshold_21 ?_
    refine lv_bipush (v := nI 20) hx hb dX4_threshold_24 (by decide) ?_
    refine lv_iconst (v := nI 2) hx hb dX4_threshold_26 (by decide) ?_
    refine lv_iload hx hb dX4_threshold_27 (lv_at hl 4 rfl) ?_
    refine lv_imul hx hb dX4_threshold_29 ?_
    refine lv_ton (n := 2 * i_19) (nmul (by omega)) ?_
    refine lv_iadd hx hb dX4_threshold_30 ?_
    refine lv_ton (n := 2 * i_19 + 20) (nadd (by omega)) ?_
    have ht9 := iv_tst hI (k := i_19) (by omega)
    refine r_iald (v := nI (tDay B i_19)) hx hb hK (hR0.w hS) 1 0 rfl rfl (i := 2 * i_19 + 20) (by omega) (by omega) (hM.tday (k := i_19) (by omega)) dX4_threshold_31 ?_
    refine lv_iload_n hx hb dX4_threshold_32 rfl (lv_at hl 1 rfl) ?_
    refine n_icmp_gt (tgt := 80) hx hb (by omega) (by omega) dX4_threshold_33 (by decide) (fun c_21 => ?_) (fun c_21 => ?_)
    · have hj := thrW_no (B := B) (d := d) (k := i_19) (fun z => by first | omega | exact absurd ((lI_le (t := tDay B i_19) (a := (thrW B d i_19).1) (by omega) (by omega)).mp (by assumption)) (by omega))
      have hl : lv_has ls 5 [(0, .ref m0), (1, .int (nI d)), (2, .int (lI (thrW B d (i_19 + 1)).1)), (3, .int (nI ((thrW B d i_19).2))), (4, .int (nI i_19))] := by
        have e9 : ((.int (lI (thrW B d (i_19 + 1)).1)) : Value) = .int (lI (thrW B d i_19).1) := by rw [hj]
        rw [e9]; exact hl
      have hl : lv_has ls 5 [(0, .ref m0), (1, .int (nI d)), (2, .int (lI (thrW B d (i_19 + 1)).1)), (3, .int (nI ((thrW B d (i_19 + 1)).2))), (4, .int (nI i_19))] := by
        have e9 : ((.int (nI ((thrW B d (i_19 + 1)).2))) : Value) = .int (nI ((thrW B d i_19).2)) := by rw [hj]
        rw [e9]; exact hl
      refine lv_iinc (v := nI (i_19 + 1)) (lv' := [(4, .int (nI (i_19 + 1))), (0, .ref m0), (1, .int (nI d)), (2, .int (lI (thrW B d (i_19 + 1)).1)), (3, .int (nI ((thrW B d (i_19 + 1)).2)))]) hx hb dX4_threshold_80 hl (k := 4) rfl (ninc (b := 1) (by decide) (by omega)) (by decide) rfl (fun ls hl => ?_)
      refine lv_goto (tgt := 9) hx hb dX4_threshold_83 (by decide) ?_
      have hP : va_P G.1 CL [] H := hP.sub [] rfl
      have hD : va_D A [] := hD.sub [] (by decide) rfl
      have hl := lv_sub hl [1, 2, 3, 4, 0] (l' := [(0, .ref m0), (1, .int (nI d)), (2, .int (lI (thrW B d (i_19 + 1)).1)), (3, .int (nI ((thrW B d (i_19 + 1)).2))), (4, .int (nI (i_19 + 1)))]) rfl
      exact W.widen (show 0 ≤ 0 from by first | exact Nat.le_refl _ | omega) (show 0 ≤ 0 from by first | exact Nat.le_refl _ | omega) (ih9 ((i_19 + 1)) H locs ls ⟨hP, hD, hS, hl, (show (i_19 + 1) ≤ tN B from by omega)⟩ (show tN B - (i_19 + 1) < tN B - i_19 from by omega))
    · refine lv_aload_n hx hb dX4_threshold_36 rfl (lv_at hl 0 rfl) ?_
      refine va_get hx hb hts in_X4 hown hK (hR0.w hS) 0 rfl rfl 0 (by decide) (hts _ q1596) (fun _ h => h) rfl dX4_threshold_37 ?_
      refine lv_bipush (v := nI 20) hx hb dX4_threshold_40 (by decide) ?_
      refine lv_iconst (v := nI 2) hx hb dX4_threshold_42 (by decide) ?_
      refine lv_iload hx hb dX4_threshold_43 (lv_at hl 4 rfl) ?_
      refine lv_imul hx hb dX4_threshold_45 ?_
      refine lv_ton (n := 2 * i_19) (nmul (by omega)) ?_
      refine lv_iadd hx hb dX4_threshold_46 ?_
      refine lv_ton (n := 2 * i_19 + 20) (nadd (by omega)) ?_
      refine r_iald (v := nI (tDay B i_19)) hx hb hK (hR0.w hS) 1 0 rfl rfl (i := 2 * i_19 + 20) (by omega) (by omega) (hM.tday (k := i_19) (by omega)) dX4_threshold_47 ?_
      refine lv_iload_n hx hb dX4_threshold_48 rfl (lv_at hl 2 rfl) ?_
      refine lv_icmp_le (tgt := 80) hx hb  dX4_threshold_49 (by decide) (fun c_22 => ?_) (fun c_22 => ?_)
      · have hj := thrW_no (B := B) (d := d) (k := i_19) (fun z => by first | omega | exact absurd ((lI_le (t := tDay B i_19) (a := (thrW B d i_19).1) (by omega) (by omega)).mp (by assumption)) (by omega))
        have hl : lv_has ls 5 [(0, .ref m0), (1, .int (nI d)), (2, .int (lI (thrW B d (i_19 + 1)).1)), (3, .int (nI ((thrW B d i_19).2))), (4, .int (nI i_19))] := by
          have e9 : ((.int (lI (thrW B d (i_19 + 1)).1)) : Value) = .int (lI (thrW B d i_19).1) := by rw [hj]
          rw [e9]; exact hl
        have hl : lv_has ls 5 [(0, .ref m0), (1, .int (nI d)), (2, .int (lI (thrW B d (i_19 + 1)).1)), (3, .int (nI ((thrW B d (i_19 + 1)).2))), (4, .int (nI i_19))] := by
          have e9 : ((.int (nI ((thrW B d (i_19 + 1)).2))) : Value) = .int (nI ((thrW B d i_19).2)) := by rw [hj]
          rw [e9]; exact hl
        refine lv_iinc (v := nI (i_19 + 1)) (lv' := [(4, .int (nI (i_19 + 1))), (0, .ref m0), (1, .int (nI d)), (2, .int (lI (thrW B d (i_19 + 1)).1)), (3, .int (nI ((thrW B d (i_19 + 1)).2)))]) hx hb dX4_threshold_80 hl (k := 4) rfl (ninc (b := 1) (by decide) (by omega)) (by decide) rfl (fun ls hl => ?_)
        refine lv_goto (tgt := 9) hx hb dX4_threshold_83 (by decide) ?_
        have hP : va_P G.1 CL [] H := hP.sub [] rfl
        have hD : va_D A [] := hD.sub [] (by decide) rfl
        have hl := lv_sub hl [1, 2, 3, 4, 0] (l' := [(0, .ref m0), (1, .int (nI d)), (2, .int (lI (thrW B d (i_19 + 1)).1)), (3, .int (nI ((thrW B d (i_19 + 1)).2))), (4, .int (nI (i_19 + 1)))]) rfl
        exact W.widen (show 0 ≤ 0 from by first | exact Nat.le_refl _ | omega) (show 0 ≤ 0 from by first | exact Nat.le_refl _ | omega) (ih9 ((i_19 + 1)) H locs ls ⟨hP, hD, hS, hl, (show (i_19 + 1) ≤ tN B from by omega)⟩ (show tN B - (i_19 + 1) < tN B - i_19 from by omega))
      · refine lv_aload_n hx hb dX4_threshold_52 rfl (lv_at hl 0 rfl) ?_
        refine va_get hx hb hts in_X4 hown hK (hR0.w hS) 0 rfl rfl 0 (by decide) (hts _ q1596) (fun _ h => h) rfl dX4_threshold_53 ?_
        refine lv_bipush (v := nI 20) hx hb dX4_threshold_56 (by decide) ?_
        refine lv_iconst (v := nI 2) hx hb dX4_threshold_58 (by decide) ?_
        refine lv_iload hx hb dX4_threshold_59 (lv_at hl 4 rfl) ?_
        refine lv_imul hx hb dX4_threshold_61 ?_
        refine lv_ton (n := 2 * i_19) (nmul (by omega)) ?_
        refine lv_iadd hx hb dX4_threshold_62 ?_
        refine lv_ton (n := 2 * i_19 + 20) (nadd (by omega)) ?_
        refine r_iald (v := nI (tDay B i_19)) hx hb hK (hR0.w hS) 1 0 rfl rfl (i := 2 * i_19 + 20) (by omega) (by omega) (hM.tday (k := i_19) (by omega)) dX4_threshold_63 ?_
        refine lv_istore_n (lv' := [(2, .int (nI (tDay B i_19))), (0, .ref m0), (1, .int (nI d)), (3, .int (nI ((thrW B d i_19).2))), (4, .int (nI i_19))]) hx hb dX4_threshold_64 rfl hl (by decide) rfl (fun ls hl => ?_)
        refine lv_aload_n hx hb dX4_threshold_65 rfl (lv_at hl 1 rfl) ?_
        refine va_get hx hb hts in_X4 hown hK (hR0.w hS) 0 rfl rfl 0 (by decide) (hts _ q1596) (fun _ h => h) rfl dX4_threshold_66 ?_
        refine lv_bipush (v := nI 20) hx hb dX4_threshold_69 (by decide) ?_
        refine lv_iconst (v := nI 2) hx hb dX4_threshold_71 (by decide) ?_
        refine lv_iload hx hb dX4_threshold_72 (lv_at hl 4 rfl) ?_
        refine lv_imul hx hb dX4_threshold_74 ?_
        refine lv_ton (n := 2 * i_19) (nmul (by omega)) ?_
        refine lv_iadd hx hb dX4_threshold_75 ?_
        refine lv_ton (n := 2 * i_19 + 20) (nadd (by omega)) ?_
        refine lv_iconst (v := nI 1) hx hb dX4_threshold_76 (by decide) ?_
        refine lv_iadd hx hb dX4_threshold_77 ?_
        refine lv_ton (n := 2 * i_19 + 21) (nadd (by omega)) ?_
        refine r_iald (v := nI (tThr B i_19)) hx hb hK (hR0.w hS) 1 0 rfl rfl (i := 2 * i_19 + 21) (by omega) (by omega) (hM.tthr (k := i_19) (by omega)) dX4_threshold_78 ?_
        refine lv_istore_n (lv' := [(3, .int (nI (tThr B i_19))), (2, .int (nI (tDay B i_19))), (0, .ref m0), (1, .int (nI d)), (4, .int (nI i_19))]) hx hb dX4_threshold_79 rfl hl (by decide) rfl (fun ls hl => ?_)
        have hj := thrW_yes (B := B) (d := d) (k := i_19) ⟨by omega, by first | exact (lI_gt (t := tDay B i_19) (a := (thrW B d i_19).1) (by omega) (by omega)).mp (Int32.not_le.mp (by assumption)) | omega⟩
        have hl : lv_has ls 5 [(3, .int (nI (tThr B i_19))), (2, .int (lI (thrW B d (i_19 + 1)).1)), (0, .ref m0), (1, .int (nI d)), (4, .int (nI i_19))] := by
          have e9 : ((.int (lI (thrW B d (i_19 + 1)).1)) : Value) = .int (nI (tDay B i_19)) := by rw [hj]; exact congrArg Value.int (lI_1 _)
          rw [e9]; exact hl
        have hl : lv_has ls 5 [(3, .int (nI ((thrW B d (i_19 + 1)).2))), (2, .int (lI (thrW B d (i_19 + 1)).1)), (0, .ref m0), (1, .int (nI d)), (4, .int (nI i_19))] := by
          have e9 : ((.int (nI ((thrW B d (i_19 + 1)).2))) : Value) = .int (nI (tThr B i_19)) := by rw [hj]
          rw [e9]; exact hl
        refine lv_iinc (v := nI (i_19 + 1)) (lv' := [(4, .int (nI (i_19 + 1))), (3, .int (nI ((thrW B d (i_19 + 1)).2))), (2, .int (lI (thrW B d (i_19 + 1)).1)), (0, .ref m0), (1, .int (nI d))]) hx hb dX4_threshold_80 hl (k := 4) rfl (ninc (b := 1) (by decide) (by omega)) (by decide) rfl (fun ls hl => ?_)
        refine lv_goto (tgt := 9) hx hb dX4_threshold_83 (by decide) ?_
        have hP : va_P G.1 CL [] H := hP.sub [] rfl
        have hD : va_D A [] := hD.sub [] (by decide) rfl
        have hl := lv_sub hl [3, 4, 2, 1, 0] (l' := [(0, .ref m0), (1, .int (nI d)), (2, .int (lI (thrW B d (i_19 + 1)).1)), (3, .int (nI ((thrW B d (i_19 + 1)).2))), (4, .int (nI (i_19 + 1)))]) rfl
        exact W.widen (show 0 ≤ 0 from by first | exact Nat.le_refl _ | omega) (show 0 ≤ 0 from by first | exact Nat.le_refl _ | omega) (ih9 ((i_19 + 1)) H locs ls ⟨hP, hD, hS, hl, (show (i_19 + 1) ≤ tN B from by omega)⟩ (show tN B - (i_19 + 1) < tN B - i_19 from by omega))

set_option maxHeartbeats 4000000 in
theorem mX4_zone (l : Launch) (G : Gt) (m0 : Nat) (sa : Nat) (oa : Nat) (pa : Nat) (la : Nat) (za : Nat) (na : Nat) (gu : Int32) (gt : Int32) (gw : Int32) (gd : Int32) (gm : Int32) (gr : Int32) (gh : Int32) (gv : Int32) (f : Nat → Int32) (B : Bk) (d : Nat) (w : Nat) (hM : MR f B) (hI : Inv B) (hd : d ≤ 2000) (hw : w ≤ 500) : CT l G yX4_zone cX4_zone 6 (some .int) ({ frames := 2, cells := 0, slots := 0, locals := 36 } : Room) [.ref m0, .int (nI d), .int (nI w)] [] (fun (A : Nat → Prop) (H : Heap) => roW G A H [(m0, .inr (6, [.ref sa, .ref oa, .ref pa, .ref la, .ref za, .ref na, .int gu, .int gt, .int gw, .int gd, .int gm, .int gr, .int gh, .int gv])), (sa, .inl (G.2 0, 830, .inl f))]) (S := Unit) (fun (u_ : Unit) => some (.int (nI (zoneX B d w)))) (fun (u_ : Unit) => True) (fun (u_ : Unit) => []) (fun (u_ : Unit) (H : Heap) => True) := by
  refine CT.of (by decide) (Nat.le_of_ble_eq_true rfl) ?_
  intro p e s m below meth c ls A H locs h9 hH0 hP hS
  obtain ⟨cf, hr, hlk, hnm, hKB, hE, -, hD, -, hA, hAw, hR0, hl⟩ := h9
  have hx := cf.1
  have hb := cf.2.1
  have hml := cf.2.2.1
  have hown : s.vm.findClass RX4 = some m.cls := cf.2.2.2.1
  have hts := cf.2.2.2.2
  have hK := hKB.1
  have hl : lv_has ls 6 [(0, .ref m0), (1, .int (nI d)), (2, .int (nI w))] := hl
  have iN := iv_sN hI
  have iT := iv_tN hI
  have iD := iv_bD hI
  have iE := iv_bE hI
  have iW := iv_id hI
  have ht9 := thr_ok hI d
  refine lv_bipush (v := nI 100) hx hb dX4_zone_0 (by decide) ?_
  refine lv_iload_n hx hb dX4_zone_2 rfl (lv_at hl 2 rfl) ?_
  refine lv_imul hx hb dX4_zone_3 ?_
  refine lv_ton (n := 100 * w) (nmul (by omega)) ?_
  refine lv_aload_n hx hb dX4_zone_4 rfl (lv_at hl 0 rfl) ?_
  refine lv_iload_n hx hb dX4_zone_5 rfl (lv_at hl 1 rfl) ?_
  have hF := hF_of (wc := []) hD hS hA [] rfl
  have hro_23 : va_P G.1 CL [(m0, .inr (6, [.ref sa, .ref oa, .ref pa, .ref la, .ref za, .ref na, .int gu, .int gt, .int gw, .int gd, .int gm, .int gr, .int gh, .int gv])), (sa, .inl (G.2 0, 830, .inl f))] H := ((hR0.w hS).sub [0, 1] rfl)
  refine go_ct hS hP hD [] [] hF rfl rfl (by decide) (by decide)
      (va_runV (As := [.int (nI d)]) (rest := [.int (nI (100 * w))]) cf (mX4_threshold l G m0 sa oa pa la za na gu gt gw gd gm gr gh gv f B d (show MR f B from by first | assumption | omega) (show Inv B from by first | assumption | omega) (show d ≤ 2000 from by first | assumption | omega) H.size) (cwV 1 hts (lw_V q1695 q1697 qs29 q58 q1698) rfl rfl rfl (by decide +kernel) ⟨Nat.le_of_ble_eq_true rfl, Nat.le_of_ble_eq_true rfl⟩) (preV_of hKB hE hS hF (va_recv hK (hR0.w hS) (ci := 6) (q0 := 0) rfl rfl) (va_P.sub hP [] rfl) ((va_D.sub hD [] (by decide) rfl).weaken (fun _ _ _ _ => trivial)) (roW.nil hro_23)) rfl rfl hl.1 rfl (lv_room (Nat.le_of_ble_eq_true rfl)) dX4_zone_6 ⟨show 0 + 0 ≤ 0 from by first | decide | omega, show 0 + 0 ≤ 0 from by first | decide | omega⟩)
      (fun u_ H locs hq hph (hP : va_P G.1 CL [] H) (hD : va_D A []) hS hfz hfk => ?_)
  refine W.eq (g2 := F0 m 9 ls [.int (nI (thr B d)), .int (nI (100 * w))]) rfl ?_
  refine lv_idiv hx hb dX4_zone_9 (nI_ne0 (by omega) (by omega)) ?_
  refine lv_ton (n := ((100 * w) / (thr B d))) (ndiv (by omega) (by omega) (by omega) rfl) ?_
  refine lv_istore_n (lv' := [(3, .int (nI ((100 * w) / (thr B d)))), (0, .ref m0), (1, .int (nI d)), (2, .int (nI w))]) hx hb dX4_zone_10 rfl hl (by decide) rfl (fun ls hl => ?_)
  refine lv_iconst (v := nI 1) hx hb dX4_zone_11 (by decide) ?_
  refine lv_istore (lv' := [(4, .int (nI 1)), (3, .int (nI ((100 * w) / (thr B d)))), (0, .ref m0), (1, .int (nI d)), (2, .int (nI w))]) hx hb dX4_zone_12 hl (by decide) rfl (fun ls hl => ?_)
  refine lv_iconst (v := nI 2) hx hb dX4_zone_14 (by decide) ?_
  refine lv_istore (lv' := [(5, .int (nI 2)), (4, .int (nI 1)), (3, .int (nI ((100 * w) / (thr B d)))), (0, .ref m0), (1, .int (nI d)), (2, .int (nI w))]) hx hb dX4_zone_15 hl (by decide) rfl (fun ls hl => ?_)
  have hq9 : 100 * w / thr B d ≤ 50000 := Nat.le_trans (Nat.div_le_self _ _) (by omega)
  have hl := lv_sub hl [3, 4, 5, 2, 1, 0] (l' := [(0, .ref m0), (1, .int (nI d)), (2, .int (nI w)), (3, .int (nI (100 * w / thr B d))), (4, .int (nI (zoneW (bB B) (100 * w / thr B d) 0))), (5, .int (nI 2))]) rfl
  refine lp_W (σ := Nat) (hpc := 17) (fun x => 4 - x) (fun x => 0) (fun x => 0) (fun x H locs ls => va_P G.1 CL [] H ∧ va_D A [] ∧ va_S A s.heap H locs ∧ lv_has ls 6 [(0, .ref m0), (1, .int (nI d)), (2, .int (nI w)), (3, .int (nI (100 * w / thr B d))), (4, .int (nI (zoneW (bB B) (100 * w / thr B d) x))), (5, .int (nI (x + 2)))] ∧ (x ≤ 4)) ?_ (0) ⟨(show va_P G.1 CL [] H from hP), (show va_D A [] from hD), hS, hl, (show 0 ≤ 4 from by omega)⟩ (show 0 ≤ 0 from by first | exact Nat.le_refl _ | omega) (show 0 ≤ 0 from by first | exact Nat.le_refl _ | omega)
  intro x H locs ls hI9 ih17
  obtain ⟨j_25, rfl⟩ : ∃ z, z = x := ⟨_, rfl⟩
  obtain ⟨hP, hD, hS, hl, hp_24⟩ := hI9
  have hP : va_P G.1 CL [] H := hP
  have hD : va_D A [] := hD
  have hl : lv_has ls 6 [(0, .ref m0), (1, .int (nI d)), (2, .int (nI w)), (3, .int (nI (100 * w / thr B d))), (4, .int (nI (zoneW (bB B) (100 * w / thr B d) j_25))), (5, .int (nI (j_25 + 2)))] := hl
  have hp_24 : j_25 ≤ 4 := hp_24
  have hz9 := zoneW_ok (bB B) (100 * w / thr B d) j_25
  refine lv_iload hx hb dX4_zone_17 (lv_at hl 5 rfl) ?_
  refine lv_iconst (v := nI 5) hx hb dX4_zone_19 (by decide) ?_
  refine n_icmp_gt (tgt := 52) hx hb (by omega) (by omega) dX4_zone_20 (by decide) (fun c_26 => ?_) (fun c_26 => ?_)
  · refine lv_iload hx hb dX4_zone_52 (lv_at hl 4 rfl) ?_
    have hP9 : va_P G.1 CL [] H := hP.sub [] rfl
    have hD9 : va_D A [] := hD.sub [] (by decide) rfl
    exact end_i hx hb hr hlk (rfl) (qc_of () (v := some (.int (nI (zoneW (bB B) (100 * w / thr B d) j_25)))) (by rw [show j_25 = 4 from by omega] <;> rfl) (trivial) hP9 hD9 (trivial) hS) hS dX4_zone_54 (show 0 ≤ 0 from by first | exact Nat.le_refl _ | decide | omega) (show 0 ≤ 0 from by first | exact Nat.le_refl _ | decide | omega)
  · refine lv_aload_n hx hb dX4_zone_23 rfl (lv_at hl 0 rfl) ?_
    refine va_get hx hb hts in_X4 hown hK (hR0.w hS) 0 rfl rfl 0 (by decide) (hts _ q1596) (fun _ h => h) rfl dX4_zone_24 ?_
    refine lv_bipush (v := nI 8) hx hb dX4_zone_27 (by decide) ?_
    refine lv_iload hx hb dX4_zone_29 (lv_at hl 5 rfl) ?_
    refine lv_iadd hx hb dX4_zone_31 ?_
    refine lv_ton (n := j_25 + 10) (nadd (by omega)) ?_
    have hb9 := iv_bB hI (z := j_25 + 2) (by omega) (by omega)
    refine r_iald (v := nI (bB B (j_25 + 2))) hx hb hK (hR0.w hS) 1 0 rfl rfl (i := j_25 + 10) (by omega) (by omega) ((show f (j_25 + 10) = nI (bB B (j_25 + 2)) from by have h := hM.bound (z := j_25 + 2) (by omega) (by omega); rw [← h])) dX4_zone_32 ?_
    refine lv_iload_n hx hb dX4_zone_33 rfl (lv_at hl 3 rfl) ?_
    refine n_icmp_gt (tgt := 42) hx hb (by omega) (by omega) dX4_zone_34 (by decide) (fun c_27 => ?_) (fun c_27 => ?_)
    · refine lv_iload hx hb dX4_zone_42 (lv_at hl 4 rfl) ?_
      refine lv_ton (n := (zoneW (bB B) (100 * w / thr B d) (j_25 + 1))) (congrArg nI (by simp only [zoneW]; first | rw [if_pos (by omega)] | rw [if_neg (by omega)])) ?_
      refine lv_istore (lv' := [(4, .int (nI (zoneW (bB B) (100 * w / thr B d) (j_25 + 1)))), (0, .ref m0), (1, .int (nI d)), (2, .int (nI w)), (3, .int (nI (100 * w / thr B d))), (5, .int (nI (j_25 + 2)))]) hx hb dX4_zone_44 hl (by decide) rfl (fun ls hl => ?_)
      refine lv_iinc (v := nI (j_25 + 3)) (lv' := [(5, .int (nI (j_25 + 3))), (4, .int (nI (zoneW (bB B) (100 * w / thr B d) (j_25 + 1)))), (0, .ref m0), (1, .int (nI d)), (2, .int (nI w)), (3, .int (nI (100 * w / thr B d)))]) hx hb dX4_zone_46 hl (k := 5) rfl (ninc (b := 1) (by decide) (by omega)) (by decide) rfl (fun ls hl => ?_)
      refine lv_goto (tgt := 17) hx hb dX4_zone_49 (by decide) ?_
      have hP : va_P G.1 CL [] H := hP.sub [] rfl
      have hD : va_D A [] := hD.sub [] (by decide) rfl
      have hl := lv_sub hl [2, 3, 4, 5, 1, 0] (l' := [(0, .ref m0), (1, .int (nI d)), (2, .int (nI w)), (3, .int (nI (100 * w / thr B d))), (4, .int (nI (zoneW (bB B) (100 * w / thr B d) (j_25 + 1)))), (5, .int (nI (j_25 + 3)))]) rfl
      exact W.widen (show 0 ≤ 0 from by first | exact Nat.le_refl _ | omega) (show 0 ≤ 0 from by first | exact Nat.le_refl _ | omega) (ih17 ((j_25 + 1)) H locs ls ⟨hP, hD, hS, hl, (show (j_25 + 1) ≤ 4 from by omega)⟩ (show 4 - (j_25 + 1) < 4 - j_25 from by omega))
    · refine lv_iload hx hb dX4_zone_37 (lv_at hl 5 rfl) ?_
      refine lv_goto (tgt := 44) hx hb dX4_zone_39 (by decide) ?_
      refine lv_ton (n := (zoneW (bB B) (100 * w / thr B d) (j_25 + 1))) (congrArg nI (by simp only [zoneW]; first | rw [if_pos (by omega)] | rw [if_neg (by omega)])) ?_
      refine lv_istore (lv' := [(4, .int (nI (zoneW (bB B) (100 * w / thr B d) (j_25 + 1)))), (0, .ref m0), (1, .int (nI d)), (2, .int (nI w)), (3, .int (nI (100 * w / thr B d))), (5, .int (nI (j_25 + 2)))]) hx hb dX4_zone_44 hl (by decide) rfl (fun ls hl => ?_)
      refine lv_iinc (v := nI (j_25 + 3)) (lv' := [(5, .int (nI (j_25 + 3))), (4, .int (nI (zoneW (bB B) (100 * w / thr B d) (j_25 + 1)))), (0, .ref m0), (1, .int (nI d)), (2, .int (nI w)), (3, .int (nI (100 * w / thr B d)))]) hx hb dX4_zone_46 hl (k := 5) rfl (ninc (b := 1) (by decide) (by omega)) (by decide) rfl (fun ls hl => ?_)
      refine lv_goto (tgt := 17) hx hb dX4_zone_49 (by decide) ?_
      have hP : va_P G.1 CL [] H := hP.sub [] rfl
      have hD : va_D A [] := hD.sub [] (by decide) rfl
      have hl := lv_sub hl [2, 3, 4, 5, 1, 0] (l' := [(0, .ref m0), (1, .int (nI d)), (2, .int (nI w)), (3, .int (nI (100 * w / thr B d))), (4, .int (nI (zoneW (bB B) (100 * w / thr B d) (j_25 + 1)))), (5, .int (nI (j_25 + 3)))]) rfl
      exact W.widen (show 0 ≤ 0 from by first | exact Nat.le_refl _ | omega) (show 0 ≤ 0 from by first | exact Nat.le_refl _ | omega) (ih17 ((j_25 + 1)) H locs ls ⟨hP, hD, hS, hl, (show (j_25 + 1) ≤ 4 from by omega)⟩ (show 4 - (j_25 + 1) < 4 - j_25 from by omega))

set_option maxHeartbeats 4000000 in
theorem mX4_zones (l : Launch) (G : Gt) (m0 : Nat) (sa : Nat) (oa : Nat) (pa : Nat) (la : Nat) (za : Nat) (na : Nat) (gu : Int32) (gt : Int32) (gw : Int32) (gd : Int32) (gm : Int32) (gr : Int32) (gh : Int32) (gv : Int32) (f : Nat → Int32) (B : Bk) (zf : Nat → Int32) (k : Nat) (hM : MR f B) (hI : Inv B) (hk : k < sN B) : CT l G yX4_zones cX4_zones 3 none ({ frames := 3, cells := 0, slots := 0, locals := 61 } : Room) [.ref m0, .int (nI k)] [(za, .inl (G.2 0, 6, .inl zf))] (fun (A : Nat → Prop) (H : Heap) => roW G A H [(m0, .inr (6, [.ref sa, .ref oa, .ref pa, .ref la, .ref za, .ref na, .int gu, .int gt, .int gw, .int gd, .int gm, .int gr, .int gh, .int gv])), (sa, .inl (G.2 0, 830, .inl f))]) (S := Unit) (fun (u_ : Unit) => (none : Option Value)) (fun (u_ : Unit) => True) (fun (u_ : Unit) => [(za, .inl (G.2 0, 6, .inl (zAdd zf B (sAt B k) (nP (sAt B k)))))]) (fun (u_ : Unit) (H : Heap) => True) := by
  refine CT.of (by decide) (Nat.le_of_ble_eq_true rfl) ?_
  intro p e s m below meth c ls A H locs h9 hH0 hP hS
  obtain ⟨cf, hr, hlk, hnm, hKB, hE, -, hD, -, hA, hAw, hR0, hl⟩ := h9
  have hx := cf.1
  have hb := cf.2.1
  have hml := cf.2.2.1
  have hown : s.vm.findClass RX4 = some m.cls := cf.2.2.2.1
  have hts := cf.2.2.2.2
  have hK := hKB.1
  have hl : lv_has ls 3 [(0, .ref m0), (1, .int (nI k))] := hl
  have iN := iv_sN hI
  have iT := iv_tN hI
  have iD := iv_bD hI
  have iE := iv_bE hI
  have iW := iv_id hI
  obtain ⟨iS1, iS2, iS3, iS4, iS5⟩ := iv_ses hI hk
  refine lv_iconst (v := nI 0) hx hb dX4_zones_0 (by decide) ?_
  refine lv_istore_n (lv' := [(2, .int (nI 0)), (0, .ref m0), (1, .int (nI k))]) hx hb dX4_zones_1 rfl hl (by decide) rfl (fun ls hl => ?_)
  have hP : va_P G.1 CL [(za, .inl (G.2 0, 6, .inl (zAdd zf B (sAt B k) 0)))] H := by rw [zAdd_0]; exact hP
  have hD : va_D A [(za, .inl (G.2 0, 6, .inl (zAdd zf B (sAt B k) 0)))] := by rw [zAdd_0]; exact hD
  have hl := lv_sub hl [1, 2, 0] (l' := [(0, .ref m0), (1, .int (nI k)), (2, .int (nI 0))]) rfl
  refine lp_W (σ := Nat) (hpc := 2) (fun x => nP (sAt B k) - x) (fun x => 0) (fun x => 0) (fun x H locs ls => va_P G.1 CL [(za, .inl (G.2 0, 6, .inl (zAdd zf B (sAt B k) x)))] H ∧ va_D A [(za, .inl (G.2 0, 6, .inl (zAdd zf B (sAt B k) x)))] ∧ va_S A s.heap H locs ∧ lv_has ls 3 [(0, .ref m0), (1, .int (nI k)), (2, .int (nI x))] ∧ (x ≤ nP (sAt B k))) ?_ (0) ⟨(show va_P G.1 CL [(za, .inl (G.2 0, 6, .inl (zAdd zf B (sAt B k) 0)))] H from hP), (show va_D A [(za, .inl (G.2 0, 6, .inl (zAdd zf B (sAt B k) 0)))] from hD), hS, hl, (show 0 ≤ nP (sAt B k) from by omega)⟩ (show 0 ≤ 0 from by first | exact Nat.le_refl _ | omega) (show 0 ≤ 0 from by first | exact Nat.le_refl _ | omega)
  intro x H locs ls hI9 ih2
  obtain ⟨i_29, rfl⟩ : ∃ z, z = x := ⟨_, rfl⟩
  obtain ⟨hP, hD, hS, hl, hp_28⟩ := hI9
  have hP : va_P G.1 CL [(za, .inl (G.2 0, 6, .inl (zAdd zf B (sAt B k) i_29)))] H := hP
  have hD : va_D A [(za, .inl (G.2 0, 6, .inl (zAdd zf B (sAt B k) i_29)))] := hD
  have hl : lv_has ls 3 [(0, .ref m0), (1, .int (nI k)), (2, .int (nI i_29))] := hl
  have hp_28 : i_29 ≤ nP (sAt B k) := hp_28
  refine lv_iload_n hx hb dX4_zones_2 rfl (lv_at hl 2 rfl) ?_
  refine lv_aload_n hx hb dX4_zones_3 rfl (lv_at hl 0 rfl) ?_
  refine va_get hx hb hts in_X4 hown hK (hR0.w hS) 0 rfl rfl 0 (by decide) (hts _ q1596) (fun _ h => h) rfl dX4_zones_4 ?_
  refine lv_aload_n hx hb dX4_zones_7 rfl (lv_at hl 0 rfl) ?_
  refine lv_iload_n hx hb dX4_zones_8 rfl (lv_at hl 1 rfl) ?_
  have hF := hF_of (wc := []) hD hS hA [] rfl
  refine go_ct hS hP hD [] [0] hF rfl rfl (by decide) (by decide)
      (va_runV (As := [.int (nI k)]) (rest := [.ref sa, .int (nI i_29)]) cf (mX4_at l G m0 k  H.size) (cwV 1 hts (lw_V q1687 q1689 qs27 q58 q1690) rfl rfl rfl (by decide +kernel) ⟨Nat.le_of_ble_eq_true rfl, Nat.le_of_ble_eq_true rfl⟩) (preV_of hKB hE hS hF (va_recv hK (hR0.w hS) (ci := 6) (q0 := 0) rfl rfl) (va_P.sub hP [] rfl) ((va_D.sub hD [] (by decide) rfl).weaken (fun _ _ _ _ => trivial)) trivial) rfl rfl hl.1 rfl (lv_room (Nat.le_of_ble_eq_true rfl)) dX4_zones_9 ⟨show 0 + 0 ≤ 0 from by first | decide | omega, show 0 + 0 ≤ 0 from by first | decide | omega⟩)
      (fun u_ H locs hq hph (hP : va_P G.1 CL [(za, .inl (G.2 0, 6, .inl (zAdd zf B (sAt B k) i_29)))] H) (hD : va_D A [(za, .inl (G.2 0, 6, .inl (zAdd zf B (sAt B k) i_29)))]) hS hfz hfk => ?_)
  refine W.eq (g2 := F0 m 12 ls [.int (nI (19 * k + 70)), .ref sa, .int (nI i_29)]) rfl ?_
  refine lv_iconst (v := nI 2) hx hb dX4_zones_12 (by decide) ?_
  refine lv_iadd hx hb dX4_zones_13 ?_
  refine lv_ton (n := 19 * k + 72) (nadd (by omega)) ?_
  refine r_iald (v := nI (nP (sAt B k))) hx hb hK (hR0.w hS) 1 0 rfl rfl (i := 19 * k + 72) (by omega) (by omega) (hM.snp (k := k) (by omega)) dX4_zones_14 ?_
  refine n_icmp_ge (tgt := 79) hx hb (by omega) (by omega) dX4_zones_15 (by decide) (fun c_30 => ?_) (fun c_30 => ?_)
  · have he_31 : ∀ j9, j9 < 6 → (zAdd zf B (sAt B k) i_29) j9 = (zAdd zf B (sAt B k) (nP (sAt B k))) j9 := fun _ _ => by rw [show i_29 = nP (sAt B k) from by omega]
    have hP : va_P G.1 CL [(za, .inl (G.2 0, 6, .inl (zAdd zf B (sAt B k) (nP (sAt B k)))))] H := va_P.extI hP 0 rfl he_31
    have hD : va_D A [(za, .inl (G.2 0, 6, .inl (zAdd zf B (sAt B k) (nP (sAt B k)))))] := hD.set (p := 0) rfl
    have hP9 : va_P G.1 CL [(za, .inl (G.2 0, 6, .inl (zAdd zf B (sAt B k) (nP (sAt B k)))))] H := hP.sub [0] rfl
    have hD9 : va_D A [(za, .inl (G.2 0, 6, .inl (zAdd zf B (sAt B k) (nP (sAt B k)))))] := hD.sub [0] (by decide) rfl
    exact end_v hx hb hr hlk (qc_of () (v := none) (by rfl) (trivial) hP9 hD9 (trivial) hS) hS dX4_zones_79 (show 0 ≤ 0 from by first | exact Nat.le_refl _ | decide | omega) (show 0 ≤ 0 from by first | exact Nat.le_refl _ | decide | omega)
  · have hm9 := iS5 i_29 (by omega)
    refine lv_aload_n hx hb dX4_zones_18 rfl (lv_at hl 0 rfl) ?_
    refine va_get hx hb hts in_X4 hown hK (hR0.w hS) 0 rfl rfl 4 (by decide) (hts _ q1600) (fun _ h => h) rfl dX4_zones_19 ?_
    refine lv_aload_n hx hb dX4_zones_22 rfl (lv_at hl 0 rfl) ?_
    refine lv_aload_n hx hb dX4_zones_23 rfl (lv_at hl 0 rfl) ?_
    refine va_get hx hb hts in_X4 hown hK (hR0.w hS) 0 rfl rfl 0 (by decide) (hts _ q1596) (fun _ h => h) rfl dX4_zones_24 ?_
    refine lv_aload_n hx hb dX4_zones_27 rfl (lv_at hl 0 rfl) ?_
    refine lv_iload_n hx hb dX4_zones_28 rfl (lv_at hl 1 rfl) ?_
    have hF := hF_of (wc := []) hD hS hA [] rfl
    refine go_ct hS hP hD [] [0] hF rfl rfl (by decide) (by decide)
        (va_runV (As := [.int (nI k)]) (rest := [.ref sa, .ref m0, .ref za]) cf (mX4_at l G m0 k  H.size) (cwV 1 hts (lw_V q1687 q1689 qs27 q58 q1690) rfl rfl rfl (by decide +kernel) ⟨Nat.le_of_ble_eq_true rfl, Nat.le_of_ble_eq_true rfl⟩) (preV_of hKB hE hS hF (va_recv hK (hR0.w hS) (ci := 6) (q0 := 0) rfl rfl) (va_P.sub hP [] rfl) ((va_D.sub hD [] (by decide) rfl).weaken (fun _ _ _ _ => trivial)) trivial) rfl rfl hl.1 rfl (lv_room (Nat.le_of_ble_eq_true rfl)) dX4_zones_29 ⟨show 0 + 0 ≤ 0 from by first | decide | omega, show 0 + 0 ≤ 0 from by first | decide | omega⟩)
        (fun u_ H locs hq hph (hP : va_P G.1 CL [(za, .inl (G.2 0, 6, .inl (zAdd zf B (sAt B k) i_29)))] H) (hD : va_D A [(za, .inl (G.2 0, 6, .inl (zAdd zf B (sAt B k) i_29)))]) hS hfz hfk => ?_)
    refine W.eq (g2 := F0 m 32 ls [.int (nI (19 * k + 70)), .ref sa, .ref m0, .ref za]) rfl ?_
    refine lv_iconst (v := nI 1) hx hb dX4_zones_32 (by decide) ?_
    refine lv_iadd hx hb dX4_zones_33 ?_
    refine lv_ton (n := 19 * k + 71) (nadd (by omega)) ?_
    refine r_iald (v := nI (sDay (sAt B k))) hx hb hK (hR0.w hS) 1 0 rfl rfl (i := 19 * k + 71) (by omega) (by omega) (hM.sday (k := k) (by omega)) dX4_zones_34 ?_
    refine lv_aload_n hx hb dX4_zones_35 rfl (lv_at hl 0 rfl) ?_
    refine va_get hx hb hts in_X4 hown hK (hR0.w hS) 0 rfl rfl 0 (by decide) (hts _ q1596) (fun _ h => h) rfl dX4_zones_36 ?_
    refine lv_aload_n hx hb dX4_zones_39 rfl (lv_at hl 0 rfl) ?_
    refine lv_iload_n hx hb dX4_zones_40 rfl (lv_at hl 1 rfl) ?_
    have hF := hF_of (wc := []) hD hS hA [] rfl
    refine go_ct hS hP hD [] [0] hF rfl rfl (by decide) (by decide)
        (va_runV (As := [.int (nI k)]) (rest := [.ref sa, .int (nI (sDay (sAt B k))), .ref m0, .ref za]) cf (mX4_at l G m0 k  H.size) (cwV 1 hts (lw_V q1687 q1689 qs27 q58 q1690) rfl rfl rfl (by decide +kernel) ⟨Nat.le_of_ble_eq_true rfl, Nat.le_of_ble_eq_true rfl⟩) (preV_of hKB hE hS hF (va_recv hK (hR0.w hS) (ci := 6) (q0 := 0) rfl rfl) (va_P.sub hP [] rfl) ((va_D.sub hD [] (by decide) rfl).weaken (fun _ _ _ _ => trivial)) trivial) rfl rfl hl.1 rfl (lv_room (Nat.le_of_ble_eq_true rfl)) dX4_zones_41 ⟨show 0 + 0 ≤ 0 from by first | decide | omega, show 0 + 0 ≤ 0 from by first | decide | omega⟩)
        (fun u_ H locs hq hph (hP : va_P G.1 CL [(za, .inl (G.2 0, 6, .inl (zAdd zf B (sAt B k) i_29)))] H) (hD : va_D A [(za, .inl (G.2 0, 6, .inl (zAdd zf B (sAt B k) i_29)))]) hS hfz hfk => ?_)
    refine W.eq (g2 := F0 m 44 ls [.int (nI (19 * k + 70)), .ref sa, .int (nI (sDay (sAt B k))), .ref m0, .ref za]) rfl ?_
    refine lv_iconst (v := nI 3) hx hb dX4_zones_44 (by decide) ?_
    refine lv_iadd hx hb dX4_zones_45 ?_
    refine lv_ton (n := 19 * k + 73) (nadd (by omega)) ?_
    refine lv_bipush (v := nI 8) hx hb dX4_zones_46 (by decide) ?_
    refine lv_iadd hx hb dX4_zones_48 ?_
    refine lv_ton (n := 19 * k + 81) (nadd (by omega)) ?_
    refine lv_iload_n hx hb dX4_zones_49 rfl (lv_at hl 2 rfl) ?_
    refine lv_iadd hx hb dX4_zones_50 ?_
    refine lv_ton (n := i_29 + 19 * k + 81) (nadd (by omega)) ?_
    refine r_iald (v := nI (pInt (sAt B k) i_29)) hx hb hK (hR0.w hS) 1 0 rfl rfl (i := i_29 + 19 * k + 81) (by omega) (by omega) ((congrArg f (show i_29 + 19 * k + 81 = 19 * k + i_29 + 81 from by omega)).trans (hM.sint (k := k) (p := i_29) (by omega) (by omega))) dX4_zones_51 ?_
    have hF := hF_of (wc := []) hD hS hA [] rfl
    have hro_32 : va_P G.1 CL [(m0, .inr (6, [.ref sa, .ref oa, .ref pa, .ref la, .ref za, .ref na, .int gu, .int gt, .int gw, .int gd, .int gm, .int gr, .int gh, .int gv])), (sa, .inl (G.2 0, 830, .inl f))] H := ((hR0.w hS).sub [0, 1] rfl)
    refine go_ct hS hP hD [] [0] hF rfl rfl (by decide) (by decide)
        (va_runV (As := [.int (nI (sDay (sAt B k))), .int (nI (pInt (sAt B k) i_29))]) (rest := [.ref za]) cf (mX4_zone l G m0 sa oa pa la za na gu gt gw gd gm gr gh gv f B (sDay (sAt B k)) (pInt (sAt B k) i_29) (show MR f B from by first | assumption | omega) (show Inv B from by first | assumption | omega) (show (sDay (sAt B k)) ≤ 2000 from by first | assumption | omega) (show (pInt (sAt B k) i_29) ≤ 500 from by first | assumption | omega) H.size) (cwV 2 hts (lw_V q1691 q1693 qs28 q58 q1694) rfl rfl rfl (by decide +kernel) ⟨Nat.le_of_ble_eq_true rfl, Nat.le_of_ble_eq_true rfl⟩) (preV_of hKB hE hS hF (va_recv hK (hR0.w hS) (ci := 6) (q0 := 0) rfl rfl) (va_P.sub hP [] rfl) ((va_D.sub hD [] (by decide) rfl).weaken (fun _ _ _ _ => trivial)) (roW.nil hro_32)) rfl rfl hl.1 rfl (lv_room (Nat.le_of_ble_eq_true rfl)) dX4_zones_52 ⟨show 0 + 0 ≤ 0 from by first | decide | omega, show 0 + 0 ≤ 0 from by first | decide | omega⟩)
        (fun u_ H locs hq hph (hP : va_P G.1 CL [(za, .inl (G.2 0, 6, .inl (zAdd zf B (sAt B k) i_29)))] H) (hD : va_D A [(za, .inl (G.2 0, 6, .inl (zAdd zf B (sAt B k) i_29)))]) hS hfz hfk => ?_)
    refine W.eq (g2 := F0 m 55 ls [.int (nI (zoneX B (sDay (sAt B k)) (pInt (sAt B k) i_29))), .ref za]) rfl ?_
    refine lv_ton (n := (zoneP B (sAt B k) i_29)) (rfl) ?_
    have hz9 := zoneP_ok B (sAt B k) i_29
    refine lv_dup2_11 hx hb dX4_zones_55 rfl rfl ?_
    refine r_iald (v := (zAdd zf B (sAt B k) i_29) (zoneP B (sAt B k) i_29)) hx hb hK hP 0 0 rfl rfl (i := (zoneP B (sAt B k) i_29)) (by omega) (by omega) (rfl) dX4_zones_56 ?_
    refine lv_aload_n hx hb dX4_zones_57 rfl (lv_at hl 0 rfl) ?_
    refine va_get hx hb hts in_X4 hown hK (hR0.w hS) 0 rfl rfl 0 (by decide) (hts _ q1596) (fun _ h => h) rfl dX4_zones_58 ?_
    refine lv_aload_n hx hb dX4_zones_61 rfl (lv_at hl 0 rfl) ?_
    refine lv_iload_n hx hb dX4_zones_62 rfl (lv_at hl 1 rfl) ?_
    have hF := hF_of (wc := []) hD hS hA [] rfl
    refine go_ct hS hP hD [] [0] hF rfl rfl (by decide) (by decide)
        (va_runV (As := [.int (nI k)]) (rest := [.ref sa, .int ((zAdd zf B (sAt B k) i_29) (zoneP B (sAt B k) i_29)), .int (nI (zoneP B (sAt B k) i_29)), .ref za]) cf (mX4_at l G m0 k  H.size) (cwV 1 hts (lw_V q1687 q1689 qs27 q58 q1690) rfl rfl rfl (by decide +kernel) ⟨Nat.le_of_ble_eq_true rfl, Nat.le_of_ble_eq_true rfl⟩) (preV_of hKB hE hS hF (va_recv hK (hR0.w hS) (ci := 6) (q0 := 0) rfl rfl) (va_P.sub hP [] rfl) ((va_D.sub hD [] (by decide) rfl).weaken (fun _ _ _ _ => trivial)) trivial) rfl rfl hl.1 rfl (lv_room (Nat.le_of_ble_eq_true rfl)) dX4_zones_63 ⟨show 0 + 0 ≤ 0 from by first | decide | omega, show 0 + 0 ≤ 0 from by first | decide | omega⟩)
        (fun u_ H locs hq hph (hP : va_P G.1 CL [(za, .inl (G.2 0, 6, .inl (zAdd zf B (sAt B k) i_29)))] H) (hD : va_D A [(za, .inl (G.2 0, 6, .inl (zAdd zf B (sAt B k) i_29)))]) hS hfz hfk => ?_)
    refine W.eq (g2 := F0 m 66 ls [.int (nI (19 * k + 70)), .ref sa, .int ((zAdd zf B (sAt B k) i_29) (zoneP B (sAt B k) i_29)), .int (nI (zoneP B (sAt B k) i_29)), .ref za]) rfl ?_
    refine lv_iconst (v := nI 3) hx hb dX4_zones_66 (by decide) ?_
    refine lv_iadd hx hb dX4_zones_67 ?_
    refine lv_ton (n := 19 * k + 73) (nadd (by omega)) ?_
    refine lv_iload_n hx hb dX4_zones_68 rfl (lv_at hl 2 rfl) ?_
    refine lv_iadd hx hb dX4_zones_69 ?_
    refine lv_ton (n := i_29 + 19 * k + 73) (nadd (by omega)) ?_
    refine r_iald (v := nI (pMin (sAt B k) i_29)) hx hb hK (hR0.w hS) 1 0 rfl rfl (i := i_29 + 19 * k + 73) (by omega) (by omega) ((congrArg f (show i_29 + 19 * k + 73 = 19 * k + i_29 + 73 from by omega)).trans (hM.smin (k := k) (p := i_29) (by omega) (by omega))) dX4_zones_70 ?_
    refine lv_iadd hx hb dX4_zones_71 ?_
    refine r_iast hx hb hK hP hD hS 0 0 rfl rfl (i := (zoneP B (sAt B k) i_29)) (by omega) (by omega) dX4_zones_72 (fun H locs (hP : va_P G.1 CL [(za, .inl (G.2 0, 6, .inl (upd (zAdd zf B (sAt B k) i_29) (zoneP B (sAt B k) i_29) (((zAdd zf B (sAt B k) i_29) (zoneP B (sAt B k) i_29)) + (nI (pMin (sAt B k) i_29))))))] H) (hD : va_D A [(za, .inl (G.2 0, 6, .inl (upd (zAdd zf B (sAt B k) i_29) (zoneP B (sAt B k) i_29) (((zAdd zf B (sAt B k) i_29) (zoneP B (sAt B k) i_29)) + (nI (pMin (sAt B k) i_29))))))]) hS => ?_)
    have hP : va_P G.1 CL [(za, .inl (G.2 0, 6, .inl (zAdd zf B (sAt B k) (i_29 + 1))))] H := by rw [← zAdd_s]; exact hP
    have hD : va_D A [(za, .inl (G.2 0, 6, .inl (zAdd zf B (sAt B k) (i_29 + 1))))] := by rw [← zAdd_s]; exact hD
    refine lv_iinc (v := nI (i_29 + 1)) (lv' := [(2, .int (nI (i_29 + 1))), (0, .ref m0), (1, .int (nI k))]) hx hb dX4_zones_73 hl (k := 2) rfl (ninc (b := 1) (by decide) (by omega)) (by decide) rfl (fun ls hl => ?_)
    refine lv_goto (tgt := 2) hx hb dX4_zones_76 (by decide) ?_
    have hP : va_P G.1 CL [(za, .inl (G.2 0, 6, .inl (zAdd zf B (sAt B k) (i_29 + 1))))] H := hP.sub [0] rfl
    have hD : va_D A [(za, .inl (G.2 0, 6, .inl (zAdd zf B (sAt B k) (i_29 + 1))))] := hD.sub [0] (by decide) rfl
    have hl := lv_sub hl [1, 2, 0] (l' := [(0, .ref m0), (1, .int (nI k)), (2, .int (nI (i_29 + 1)))]) rfl
    exact W.widen (show 0 ≤ 0 from by first | exact Nat.le_refl _ | omega) (show 0 ≤ 0 from by first | exact Nat.le_refl _ | omega) (ih2 ((i_29 + 1)) H locs ls ⟨hP, hD, hS, hl, (show (i_29 + 1) ≤ nP (sAt B k) from by omega)⟩ (show nP (sAt B k) - (i_29 + 1) < nP (sAt B k) - i_29 from by omega))

set_option maxHeartbeats 4000000 in
theorem mX4_noZones (l : Launch) (G : Gt) (m0 : Nat) (sa : Nat) (oa : Nat) (pa : Nat) (la : Nat) (za : Nat) (na : Nat) (gu : Int32) (gt : Int32) (gw : Int32) (gd : Int32) (gm : Int32) (gr : Int32) (gh : Int32) (gv : Int32) (zf : Nat → Int32) : CT l G yX4_noZones cX4_noZones 2 none ({ frames := 1, cells := 0, slots := 0, locals := 12 } : Room) [.ref m0] [(za, .inl (G.2 0, 6, .inl zf))] (fun (A : Nat → Prop) (H : Heap) => roW G A H [(m0, .inr (6, [.ref sa, .ref oa, .ref pa, .ref la, .ref za, .ref na, .int gu, .int gt, .int gw, .int gd, .int gm, .int gr, .int gh, .int gv]))]) (S := Unit) (fun (u_ : Unit) => (none : Option Value)) (fun (u_ : Unit) => True) (fun (u_ : Unit) => [(za, .inl (G.2 0, 6, .inl zz))]) (fun (u_ : Unit) (H : Heap) => True) := by
  refine CT.of (by decide) (Nat.le_of_ble_eq_true rfl) ?_
  intro p e s m below meth c ls A H locs h9 hH0 hP hS
  obtain ⟨cf, hr, hlk, hnm, hKB, hE, -, hD, -, hA, hAw, hR0, hl⟩ := h9
  have hx := cf.1
  have hb := cf.2.1
  have hml := cf.2.2.1
  have hown : s.vm.findClass RX4 = some m.cls := cf.2.2.2.1
  have hts := cf.2.2.2.2
  have hK := hKB.1
  have hl : lv_has ls 2 [(0, .ref m0)] := hl
  refine lv_iconst (v := nI 0) hx hb dX4_noZones_0 (by decide) ?_
  refine lv_istore_n (lv' := [(1, .int (nI 0)), (0, .ref m0)]) hx hb dX4_noZones_1 rfl hl (by decide) rfl (fun ls hl => ?_)
  have hl := lv_sub hl [1, 0] (l' := [(0, .ref m0), (1, .int (nI 0))]) rfl
  refine lp_W (σ := Nat × (Nat → Int32)) (hpc := 2) (fun x => 6 - x.1) (fun x => 0) (fun x => 0) (fun x H locs ls => va_P G.1 CL [(za, .inl (G.2 0, 6, .inl x.2))] H ∧ va_D A [(za, .inl (G.2 0, 6, .inl x.2))] ∧ va_S A s.heap H locs ∧ lv_has ls 2 [(0, .ref m0), (1, .int (nI x.1))] ∧ (x.1 ≤ 6) ∧ (∀ z, z < x.1 → x.2 z = 0)) ?_ (0, zf) ⟨(show va_P G.1 CL [(za, .inl (G.2 0, 6, .inl zf))] H from hP), (show va_D A [(za, .inl (G.2 0, 6, .inl zf))] from hD), hS, hl, (show 0 ≤ 6 from by omega), (show ∀ z, z < 0 → zf z = 0 from (fun z hz => absurd hz (by omega)))⟩ (show 0 ≤ 0 from by first | exact Nat.le_refl _ | omega) (show 0 ≤ 0 from by first | exact Nat.le_refl _ | omega)
  intro x H locs ls hI9 ih2
  obtain ⟨i_35, g_36⟩ := x
  obtain ⟨hP, hD, hS, hl, hp_33, hp_34⟩ := hI9
  have hP : va_P G.1 CL [(za, .inl (G.2 0, 6, .inl g_36))] H := hP
  have hD : va_D A [(za, .inl (G.2 0, 6, .inl g_36))] := hD
  have hl : lv_has ls 2 [(0, .ref m0), (1, .int (nI i_35))] := hl
  have hp_33 : i_35 ≤ 6 := hp_33
  have hp_34 : ∀ z, z < i_35 → g_36 z = 0 := hp_34
  refine lv_iload_n hx hb dX4_noZones_2 rfl (lv_at hl 1 rfl) ?_
  refine lv_bipush (v := nI 6) hx hb dX4_noZones_3 (by decide) ?_
  refine n_icmp_ge (tgt := 21) hx hb (by omega) (by omega) dX4_noZones_5 (by decide) (fun c_37 => ?_) (fun c_37 => ?_)
  · have he_38 : ∀ j9, j9 < 6 → g_36 j9 = zz j9 := fun z hz => hp_34 z (by omega)
    have hP : va_P G.1 CL [(za, .inl (G.2 0, 6, .inl zz))] H := va_P.extI hP 0 rfl he_38
    have hD : va_D A [(za, .inl (G.2 0, 6, .inl zz))] := hD.set (p := 0) rfl
    have hP9 : va_P G.1 CL [(za, .inl (G.2 0, 6, .inl zz))] H := hP.sub [0] rfl
    have hD9 : va_D A [(za, .inl (G.2 0, 6, .inl zz))] := hD.sub [0] (by decide) rfl
    exact end_v hx hb hr hlk (qc_of () (v := none) (by rfl) (trivial) hP9 hD9 (trivial) hS) hS dX4_noZones_21 (show 0 ≤ 0 from by first | exact Nat.le_refl _ | decide | omega) (show 0 ≤ 0 from by first | exact Nat.le_refl _ | decide | omega)
  · refine lv_aload_n hx hb dX4_noZones_8 rfl (lv_at hl 0 rfl) ?_
    refine va_get hx hb hts in_X4 hown hK (hR0.w hS) 0 rfl rfl 4 (by decide) (hts _ q1600) (fun _ h => h) rfl dX4_noZones_9 ?_
    refine lv_iload_n hx hb dX4_noZones_12 rfl (lv_at hl 1 rfl) ?_
    refine lv_iconst (v := nI 0) hx hb dX4_noZones_13 (by decide) ?_
    refine r_iast hx hb hK hP hD hS 0 0 rfl rfl (i := i_35) (by omega) (by omega) dX4_noZones_14 (fun H locs (hP : va_P G.1 CL [(za, .inl (G.2 0, 6, .inl (upd g_36 i_35 (nI 0))))] H) (hD : va_D A [(za, .inl (G.2 0, 6, .inl (upd g_36 i_35 (nI 0))))]) hS => ?_)
    refine lv_iinc (v := nI (i_35 + 1)) (lv' := [(1, .int (nI (i_35 + 1))), (0, .ref m0)]) hx hb dX4_noZones_15 hl (k := 1) rfl (ninc (b := 1) (by decide) (by omega)) (by decide) rfl (fun ls hl => ?_)
    refine lv_goto (tgt := 2) hx hb dX4_noZones_18 (by decide) ?_
    have hP : va_P G.1 CL [(za, .inl (G.2 0, 6, .inl (upd g_36 i_35 (nI 0))))] H := hP.sub [0] rfl
    have hD : va_D A [(za, .inl (G.2 0, 6, .inl (upd g_36 i_35 (nI 0))))] := hD.sub [0] (by decide) rfl
    have hl := lv_sub hl [1, 0] (l' := [(0, .ref m0), (1, .int (nI (i_35 + 1)))]) rfl
    exact W.widen (show 0 ≤ 0 from by first | exact Nat.le_refl _ | omega) (show 0 ≤ 0 from by first | exact Nat.le_refl _ | omega) (ih2 ((i_35 + 1), upd g_36 i_35 (nI 0)) H locs ls ⟨hP, hD, hS, hl, (show (i_35 + 1) ≤ 6 from by omega), (show ∀ z, z < (i_35 + 1) → (upd g_36 i_35 (nI 0)) z = 0 from (fun z hz => by by_cases e : z = i_35; rw [e, pk_us] <;> rfl; rw [pk_un e]; exact hp_34 z (by omega)))⟩ (show 6 - (i_35 + 1) < 6 - i_35 from by omega))

set_option maxHeartbeats 4000000 in
theorem mX4_loadAt (l : Launch) (G : Gt) (m0 : Nat) (sa : Nat) (oa : Nat) (pa : Nat) (la : Nat) (za : Nat) (na : Nat) (gu : Int32) (gt : Int32) (gw : Int32) (gd : Int32) (gm : Int32) (gr : Int32) (gh : Int32) (gv : Int32) (f : Nat → Int32) (B : Bk) (zf : Nat → Int32) (k : Nat) (hM : MR f B) (hI : Inv B) (hk : k < sN B) : CT l G yX4_loadAt cX4_loadAt 4 (some .int) ({ frames := 4, cells := 0, slots := 0, locals := 83 } : Room) [.ref m0, .int (nI k)] [(za, .inl (G.2 0, 6, .inl zf))] (fun (A : Nat → Prop) (H : Heap) => roW G A H [(m0, .inr (6, [.ref sa, .ref oa, .ref pa, .ref la, .ref za, .ref na, .int gu, .int gt, .int gw, .int gd, .int gm, .int gr, .int gh, .int gv])), (sa, .inl (G.2 0, 830, .inl f))]) (S := Unit) (fun (u_ : Unit) => some (.int (nI (loadS B (sAt B k))))) (fun (u_ : Unit) => True) (fun (u_ : Unit) => [(za, .inl (G.2 0, 6, .inl (zAdd zz B (sAt B k) (nP (sAt B k)))))]) (fun (u_ : Unit) (H : Heap) => True) := by
  refine CT.of (by decide) (Nat.le_of_ble_eq_true rfl) ?_
  intro p e s m below meth c ls A H locs h9 hH0 hP hS
  obtain ⟨cf, hr, hlk, hnm, hKB, hE, -, hD, -, hA, hAw, hR0, hl⟩ := h9
  have hx := cf.1
  have hb := cf.2.1
  have hml := cf.2.2.1
  have hown : s.vm.findClass RX4 = some m.cls := cf.2.2.2.1
  have hts := cf.2.2.2.2
  have hK := hKB.1
  have hl : lv_has ls 4 [(0, .ref m0), (1, .int (nI k))] := hl
  have iN := iv_sN hI
  have iT := iv_tN hI
  have iD := iv_bD hI
  have iE := iv_bE hI
  have iW := iv_id hI
  refine lv_aload_n hx hb dX4_loadAt_0 rfl (lv_at hl 0 rfl) ?_
  have hF := hF_of (wc := [(za, .inl (G.2 0, 6, .inl zf))]) hD hS hA [0] rfl
  have hro_39 : roW G (va_A [(za, .inl (G.2 0, 6, .inl zf))] H.size) H [(m0, .inr (6, [.ref sa, .ref oa, .ref pa, .ref la, .ref za, .ref na, .int gu, .int gt, .int gw, .int gd, .int gm, .int gr, .int gh, .int gv]))] := ((hR0.kp hF hS.2.1).sub (ws' := [(m0, .inr (6, [.ref sa, .ref oa, .ref pa, .ref la, .ref za, .ref na, .int gu, .int gt, .int gw, .int gd, .int gm, .int gr, .int gh, .int gv]))]) [0] rfl)
  refine go_ct hS hP hD [0] [] hF rfl rfl (by decide) (by decide)
      (va_runV (As := []) (rest := []) cf (mX4_noZones l G m0 sa oa pa la za na gu gt gw gd gm gr gh gv zf  H.size) (cwV 0 hts (lw_V q1679 q1681 qs25 q58 q1682) rfl rfl rfl (by decide +kernel) ⟨Nat.le_of_ble_eq_true rfl, Nat.le_of_ble_eq_true rfl⟩) (preV_of hKB hE hS hF (va_recv hK (hR0.w hS) (ci := 6) (q0 := 0) rfl rfl) (va_P.sub hP [0] rfl) ((va_D.sub hD [0] (by decide) rfl).weaken (fun _ _ _ _ => trivial)) hro_39) rfl rfl hl.1 rfl (lv_room (Nat.le_of_ble_eq_true rfl)) dX4_loadAt_1 ⟨show 0 + 0 ≤ 0 from by first | decide | omega, show 0 + 0 ≤ 0 from by first | decide | omega⟩)
      (fun u_ H locs hq hph (hP : va_P G.1 CL [(za, .inl (G.2 0, 6, .inl zz))] H) (hD : va_D A [(za, .inl (G.2 0, 6, .inl zz))]) hS hfz hfk => ?_)
  refine W.eq (g2 := F0 m 4 ls []) rfl ?_
  refine lv_aload_n hx hb dX4_loadAt_4 rfl (lv_at hl 0 rfl) ?_
  refine lv_iload_n hx hb dX4_loadAt_5 rfl (lv_at hl 1 rfl) ?_
  have hF := hF_of (wc := [(za, .inl (G.2 0, 6, .inl zz))]) hD hS hA [0] rfl
  have hro_40 : roW G (va_A [(za, .inl (G.2 0, 6, .inl zz))] H.size) H [(m0, .inr (6, [.ref sa, .ref oa, .ref pa, .ref la, .ref za, .ref na, .int gu, .int gt, .int gw, .int gd, .int gm, .int gr, .int gh, .int gv])), (sa, .inl (G.2 0, 830, .inl f))] := ((hR0.kp hF hS.2.1).sub (ws' := [(m0, .inr (6, [.ref sa, .ref oa, .ref pa, .ref la, .ref za, .ref na, .int gu, .int gt, .int gw, .int gd, .int gm, .int gr, .int gh, .int gv])), (sa, .inl (G.2 0, 830, .inl f))]) [0, 1] rfl)
  refine go_ct hS hP hD [0] [] hF rfl rfl (by decide) (by decide)
      (va_runV (As := [.int (nI k)]) (rest := []) cf (mX4_zones l G m0 sa oa pa la za na gu gt gw gd gm gr gh gv f B zz k (show MR f B from by first | assumption | omega) (show Inv B from by first | assumption | omega) (show k < sN B from by first | assumption | omega) H.size) (cwV 1 hts (lw_V q1683 q1685 qs26 q58 q1686) rfl rfl rfl (by decide +kernel) ⟨Nat.le_of_ble_eq_true rfl, Nat.le_of_ble_eq_true rfl⟩) (preV_of hKB hE hS hF (va_recv hK (hR0.w hS) (ci := 6) (q0 := 0) rfl rfl) (va_P.sub hP [0] rfl) ((va_D.sub hD [0] (by decide) rfl).weaken (fun _ _ _ _ => trivial)) hro_40) rfl rfl hl.1 rfl (lv_room (Nat.le_of_ble_eq_true rfl)) dX4_loadAt_6 ⟨show 0 + 0 ≤ 0 from by first | decide | omega, show 0 + 0 ≤ 0 from by first | decide | omega⟩)
      (fun u_ H locs hq hph (hP : va_P G.1 CL [(za, .inl (G.2 0, 6, .inl (zAdd zz B (sAt B k) (nP (sAt B k)))))] H) (hD : va_D A [(za, .inl (G.2 0, 6, .inl (zAdd zz B (sAt B k) (nP (sAt B k)))))]) hS hfz hfk => ?_)
  refine W.eq (g2 := F0 m 9 ls []) rfl ?_
  refine lv_iconst (v := nI 0) hx hb dX4_loadAt_9 (by decide) ?_
  refine lv_istore_n (lv' := [(2, .int (nI 0)), (0, .ref m0), (1, .int (nI k))]) hx hb dX4_loadAt_10 rfl hl (by decide) rfl (fun ls hl => ?_)
  refine lv_iconst (v := nI 1) hx hb dX4_loadAt_11 (by decide) ?_
  refine lv_istore_n (lv' := [(3, .int (nI 1)), (2, .int (nI 0)), (0, .ref m0), (1, .int (nI k))]) hx hb dX4_loadAt_12 rfl hl (by decide) rfl (fun ls hl => ?_)
  have hl := lv_sub hl [2, 3, 1, 0] (l' := [(0, .ref m0), (1, .int (nI k)), (2, .int (nI (psum (zW B (sAt B k)) 0))), (3, .int (nI 1))]) rfl
  refine lp_W (σ := Nat) (hpc := 13) (fun x => 5 - x) (fun x => 0) (fun x => 0) (fun x H locs ls => va_P G.1 CL [(za, .inl (G.2 0, 6, .inl (zAdd zz B (sAt B k) (nP (sAt B k)))))] H ∧ va_D A [(za, .inl (G.2 0, 6, .inl (zAdd zz B (sAt B k) (nP (sAt B k)))))] ∧ va_S A s.heap H locs ∧ lv_has ls 4 [(0, .ref m0), (1, .int (nI k)), (2, .int (nI (psum (zW B (sAt B k)) x))), (3, .int (nI (x + 1)))] ∧ (x ≤ 5)) ?_ (0) ⟨(show va_P G.1 CL [(za, .inl (G.2 0, 6, .inl (zAdd zz B (sAt B k) (nP (sAt B k)))))] H from hP), (show va_D A [(za, .inl (G.2 0, 6, .inl (zAdd zz B (sAt B k) (nP (sAt B k)))))] from hD), hS, hl, (show 0 ≤ 5 from by omega)⟩ (show 0 ≤ 0 from by first | exact Nat.le_refl _ | omega) (show 0 ≤ 0 from by first | exact Nat.le_refl _ | omega)
  intro x H locs ls hI9 ih13
  obtain ⟨j_42, rfl⟩ : ∃ z, z = x := ⟨_, rfl⟩
  obtain ⟨hP, hD, hS, hl, hp_41⟩ := hI9
  have hP : va_P G.1 CL [(za, .inl (G.2 0, 6, .inl (zAdd zz B (sAt B k) (nP (sAt B k)))))] H := hP
  have hD : va_D A [(za, .inl (G.2 0, 6, .inl (zAdd zz B (sAt B k) (nP (sAt B k)))))] := hD
  have hl : lv_has ls 4 [(0, .ref m0), (1, .int (nI k)), (2, .int (nI (psum (zW B (sAt B k)) j_42))), (3, .int (nI (j_42 + 1)))] := hl
  have hp_41 : j_42 ≤ 5 := hp_41
  refine lv_iload_n hx hb dX4_loadAt_13 rfl (lv_at hl 3 rfl) ?_
  refine lv_iconst (v := nI 5) hx hb dX4_loadAt_14 (by decide) ?_
  refine n_icmp_gt (tgt := 43) hx hb (by omega) (by omega) dX4_loadAt_15 (by decide) (fun c_43 => ?_) (fun c_43 => ?_)
  · refine lv_iload_n hx hb dX4_loadAt_43 rfl (lv_at hl 2 rfl) ?_
    have hP9 : va_P G.1 CL [(za, .inl (G.2 0, 6, .inl (zAdd zz B (sAt B k) (nP (sAt B k)))))] H := hP.sub [0] rfl
    have hD9 : va_D A [(za, .inl (G.2 0, 6, .inl (zAdd zz B (sAt B k) (nP (sAt B k)))))] := hD.sub [0] (by decide) rfl
    exact end_i hx hb hr hlk (rfl) (qc_of () (v := some (.int (nI (psum (zW B (sAt B k)) j_42)))) (by rw [show j_42 = 5 from by omega, zsum_load]) (trivial) hP9 hD9 (trivial) hS) hS dX4_loadAt_44 (show 0 ≤ 0 from by first | exact Nat.le_refl _ | decide | omega) (show 0 ≤ 0 from by first | exact Nat.le_refl _ | decide | omega)
  · refine lv_iload_n hx hb dX4_loadAt_18 rfl (lv_at hl 2 rfl) ?_
    refine lv_aload_n hx hb dX4_loadAt_19 rfl (lv_at hl 0 rfl) ?_
    refine va_get hx hb hts in_X4 hown hK (hR0.w hS) 0 rfl rfl 4 (by decide) (hts _ q1600) (fun _ h => h) rfl dX4_loadAt_20 ?_
    refine lv_iload_n hx hb dX4_loadAt_23 rfl (lv_at hl 3 rfl) ?_
    refine r_iald (v := nI (zMin B (sAt B k) (j_42 + 1))) hx hb hK hP 0 0 rfl rfl (i := j_42 + 1) (by omega) (by omega) (zAdd_zz _ _ _) dX4_loadAt_24 ?_
    refine lv_aload_n hx hb dX4_loadAt_25 rfl (lv_at hl 0 rfl) ?_
    refine va_get hx hb hts in_X4 hown hK (hR0.w hS) 0 rfl rfl 0 (by decide) (hts _ q1596) (fun _ h => h) rfl dX4_loadAt_26 ?_
    refine lv_bipush (v := nI 14) hx hb dX4_loadAt_29 (by decide) ?_
    refine lv_iload_n hx hb dX4_loadAt_31 rfl (lv_at hl 3 rfl) ?_
    refine lv_iadd hx hb dX4_loadAt_32 ?_
    refine lv_ton (n := j_42 + 15) (nadd (by omega)) ?_
    refine r_iald (v := nI (bW B (j_42 + 1))) hx hb hK (hR0.w hS) 1 0 rfl rfl (i := j_42 + 15) (by omega) (by omega) ((show f (j_42 + 15) = nI (bW B (j_42 + 1)) from by have h := hM.weight (z := j_42 + 1) (by omega) (by omega); rw [← h])) dX4_loadAt_33 ?_
    refine lv_imul hx hb dX4_loadAt_34 ?_
    refine lv_ton (n := ((zMin B (sAt B k) (j_42 + 1)) * (bW B (j_42 + 1)))) (nmul rfl) ?_
    refine lv_iadd hx hb dX4_loadAt_35 ?_
    refine lv_ton (n := ((zMin B (sAt B k) (j_42 + 1)) * (bW B (j_42 + 1))) + (psum (zW B (sAt B k)) j_42)) (nadd (by omega)) ?_
    refine lv_ton (n := (psum (zW B (sAt B k)) (j_42 + 1))) (congrArg nI (by simp only [psum, zW]; omega)) ?_
    refine lv_istore_n (lv' := [(2, .int (nI (psum (zW B (sAt B k)) (j_42 + 1)))), (0, .ref m0), (1, .int (nI k)), (3, .int (nI (j_42 + 1)))]) hx hb dX4_loadAt_36 rfl hl (by decide) rfl (fun ls hl => ?_)
    refine lv_iinc (v := nI (j_42 + 2)) (lv' := [(3, .int (nI (j_42 + 2))), (2, .int (nI (psum (zW B (sAt B k)) (j_42 + 1)))), (0, .ref m0), (1, .int (nI k))]) hx hb dX4_loadAt_37 hl (k := 3) rfl (ninc (b := 1) (by decide) (by omega)) (by decide) rfl (fun ls hl => ?_)
    refine lv_goto (tgt := 13) hx hb dX4_loadAt_40 (by decide) ?_
    have hP : va_P G.1 CL [(za, .inl (G.2 0, 6, .inl (zAdd zz B (sAt B k) (nP (sAt B k)))))] H := hP.sub [0] rfl
    have hD : va_D A [(za, .inl (G.2 0, 6, .inl (zAdd zz B (sAt B k) (nP (sAt B k)))))] := hD.sub [0] (by decide) rfl
    have hl := lv_sub hl [2, 3, 1, 0] (l' := [(0, .ref m0), (1, .int (nI k)), (2, .int (nI (psum (zW B (sAt B k)) (j_42 + 1)))), (3, .int (nI (j_42 + 2)))]) rfl
    exact W.widen (show 0 ≤ 0 from by first | exact Nat.le_refl _ | omega) (show 0 ≤ 0 from by first | exact Nat.le_refl _ | omega) (ih13 ((j_42 + 1)) H locs ls ⟨hP, hD, hS, hl, (show (j_42 + 1) ≤ 5 from by omega)⟩ (show 5 - (j_42 + 1) < 5 - j_42 from by omega))
